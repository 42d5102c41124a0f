/-! printed: 22.maps -/
set_option maxRecDepth 100000
theorem q90 : (Jvm.Cond.initialized "ExcuseLedger$Name") ∈ lw_all := lw_g (lw_at lw_m1 24 rfl) rfl
theorem q356 : (Jvm.Cond.instantiable "java/lang/StringBuilder" (4 : Nat)) ∈ lw_all := lw_g (lw_at lw_m2 50 rfl) rfl
theorem q358 : (Jvm.Cond.instanceMethod ({ cls := "java/lang/StringBuilder", name := "<init>", desc := "()V" } : Jvm.MethodName)) ∈ lw_all := lw_g (lw_at lw_m2 52 rfl) rfl
theorem q359 : (Jvm.Cond.code ({ cls := "java/lang/StringBuilder", name := "<init>", desc := "()V" } : Jvm.MethodName) prog_37_method_1_code (1 : Nat) (Option.none : Option Jvm.ClassFile.FieldType)) ∈ lw_all := lw_g (lw_at lw_m2 53 rfl) rfl
theorem q915 : (Jvm.Cond.instanceMethod ({ cls := "ExcuseLedger$Name", name := "hashCode", desc := "()I" } : Jvm.MethodName)) ∈ lw_all := lw_g (lw_at lw_m4 129 rfl) rfl
theorem q916 : (Jvm.Cond.code ({ cls := "ExcuseLedger$Name", name := "hashCode", desc := "()I" } : Jvm.MethodName) prog_6_method_5_code (1 : Nat) (Option.some Jvm.ClassFile.FieldType.int)) ∈ lw_all := lw_g (lw_at lw_m4 130 rfl) rfl
theorem q924 : (Jvm.Cond.methodLink "ExcuseLedger$Story" (23 : Nat) ({ cls := "ExcuseLedger$Name", name := "hashCode", desc := "()I" } : Jvm.MethodName)) ∈ lw_all := lw_g (lw_at lw_m4 138 rfl) rfl
theorem q1010 : (Jvm.Cond.instanceMethod ({ cls := "java/lang/StringBuilder", name := "append", desc := "(Ljava/lang/String;)Ljava/lang/StringBuilder;" } : Jvm.MethodName)) ∈ lw_all := lw_g (lw_at lw_m4 224 rfl) rfl
theorem q1011 : (Jvm.Cond.selects "java/lang/StringBuilder" ({ cls := "java/lang/StringBuilder", name := "append", desc := "(Ljava/lang/String;)Ljava/lang/StringBuilder;" } : Jvm.MethodName) ({ cls := "java/lang/StringBuilder", name := "append", desc := "(Ljava/lang/String;)Ljava/lang/StringBuilder;" } : Jvm.MethodName)) ∈ lw_all := lw_g (lw_at lw_m4 225 rfl) rfl
theorem q1012 : (Jvm.Cond.code ({ cls := "java/lang/StringBuilder", name := "append", desc := "(Ljava/lang/String;)Ljava/lang/StringBuilder;" } : Jvm.MethodName) prog_37_method_7_code (2 : Nat) (Option.some (Jvm.ClassFile.FieldType.object "java/lang/StringBuilder"))) ∈ lw_all := lw_g (lw_at lw_m4 226 rfl) rfl
theorem q1120 : (Jvm.Cond.instanceMethod ({ cls := "java/lang/StringBuilder", name := "append", desc := "(I)Ljava/lang/StringBuilder;" } : Jvm.MethodName)) ∈ lw_all := lw_g (lw_at lw_m5 94 rfl) rfl
theorem q1121 : (Jvm.Cond.selects "java/lang/StringBuilder" ({ cls := "java/lang/StringBuilder", name := "append", desc := "(I)Ljava/lang/StringBuilder;" } : Jvm.MethodName) ({ cls := "java/lang/StringBuilder", name := "append", desc := "(I)Ljava/lang/StringBuilder;" } : Jvm.MethodName)) ∈ lw_all := lw_g (lw_at lw_m5 95 rfl) rfl
theorem q1122 : (Jvm.Cond.code ({ cls := "java/lang/StringBuilder", name := "append", desc := "(I)Ljava/lang/StringBuilder;" } : Jvm.MethodName) prog_37_method_15_code (2 : Nat) (Option.some (Jvm.ClassFile.FieldType.object "java/lang/StringBuilder"))) ∈ lw_all := lw_g (lw_at lw_m5 96 rfl) rfl
theorem q1145 : (Jvm.Cond.instanceMethod ({ cls := "java/lang/StringBuilder", name := "toString", desc := "()Ljava/lang/String;" } : Jvm.MethodName)) ∈ lw_all := lw_g (lw_at lw_m5 119 rfl) rfl
theorem q1146 : (Jvm.Cond.selects "java/lang/StringBuilder" ({ cls := "java/lang/StringBuilder", name := "toString", desc := "()Ljava/lang/String;" } : Jvm.MethodName) ({ cls := "java/lang/StringBuilder", name := "toString", desc := "()Ljava/lang/String;" } : Jvm.MethodName)) ∈ lw_all := lw_g (lw_at lw_m5 120 rfl) rfl
theorem q1147 : (Jvm.Cond.code ({ cls := "java/lang/StringBuilder", name := "toString", desc := "()Ljava/lang/String;" } : Jvm.MethodName) prog_37_method_42_code (1 : Nat) (Option.some (Jvm.ClassFile.FieldType.object "java/lang/String"))) ∈ lw_all := lw_g (lw_at lw_m5 121 rfl) rfl
theorem q1626 : (Jvm.Cond.instanceMethod ({ cls := "ExcuseLedger$Name", name := "equals", desc := "(Ljava/lang/Object;)Z" } : Jvm.MethodName)) ∈ lw_all := lw_g (lw_at lw_m7 120 rfl) rfl
theorem q1627 : (Jvm.Cond.code ({ cls := "ExcuseLedger$Name", name := "equals", desc := "(Ljava/lang/Object;)Z" } : Jvm.MethodName) prog_6_method_4_code (3 : Nat) (Option.some Jvm.ClassFile.FieldType.boolean)) ∈ lw_all := lw_g (lw_at lw_m7 121 rfl) rfl
theorem q1628 : (Jvm.Cond.classLink "ExcuseLedger$Name" (10 : Nat) "ExcuseLedger$Name") ∈ lw_all := lw_g (lw_at lw_m7 122 rfl) rfl
theorem q1636 : (Jvm.Cond.classLink "ExcuseLedger$Story" (8 : Nat) "ExcuseLedger$Story") ∈ lw_all := lw_g (lw_at lw_m7 130 rfl) rfl
theorem q1637 : (Jvm.Cond.methodLink "ExcuseLedger$Story" (17 : Nat) ({ cls := "ExcuseLedger$Name", name := "equals", desc := "(Ljava/lang/Object;)Z" } : Jvm.MethodName)) ∈ lw_all := lw_g (lw_at lw_m7 131 rfl) rfl
theorem q2170 : (Jvm.Cond.methodLink "ExcuseLedger$Story" (1 : Nat) ({ cls := "java/lang/Object", name := "<init>", desc := "()V" } : Jvm.MethodName)) ∈ lw_all := lw_g (lw_at lw_m9 184 rfl) rfl
theorem q2171 : (Jvm.Cond.fieldLink "ExcuseLedger$Story" (7 : Nat) "ExcuseLedger$Story" "name" "LExcuseLedger$Name;") ∈ lw_all := lw_g (lw_at lw_m9 185 rfl) rfl
theorem q2172 : (Jvm.Cond.fieldLink "ExcuseLedger$Story" (13 : Nat) "ExcuseLedger$Story" "pupil" "I") ∈ lw_all := lw_g (lw_at lw_m9 186 rfl) rfl
theorem q2333 : (Jvm.Cond.methodLink "ExcuseLedger$Name" (3 : Nat) ({ cls := "java/lang/Object", name := "<init>", desc := "()V" } : Jvm.MethodName)) ∈ lw_all := lw_g (lw_at lw_m10 107 rfl) rfl
theorem q2334 : (Jvm.Cond.fieldLink "ExcuseLedger$Name" (9 : Nat) "ExcuseLedger$Name" "kind" "I") ∈ lw_all := lw_g (lw_at lw_m10 108 rfl) rfl
theorem q2337 : (Jvm.Cond.fieldLink "ExcuseLedger$Name" (15 : Nat) "ExcuseLedger$Name" "topic" "I") ∈ lw_all := lw_g (lw_at lw_m10 111 rfl) rfl
theorem q2691 : (Jvm.Cond.classLink "ExcuseLedger$Name" (18 : Nat) "java/lang/StringBuilder") ∈ lw_all := lw_g (lw_at lw_m11 225 rfl) rfl
theorem q2692 : (Jvm.Cond.methodLink "ExcuseLedger$Name" (20 : Nat) ({ cls := "java/lang/StringBuilder", name := "<init>", desc := "()V" } : Jvm.MethodName)) ∈ lw_all := lw_g (lw_at lw_m11 226 rfl) rfl
theorem q2694 : (Jvm.Cond.methodLink "ExcuseLedger$Name" (23 : Nat) ({ cls := "java/lang/StringBuilder", name := "append", desc := "(Ljava/lang/String;)Ljava/lang/StringBuilder;" } : Jvm.MethodName)) ∈ lw_all := lw_g (lw_at lw_m11 228 rfl) rfl
theorem q2696 : (Jvm.Cond.methodLink "ExcuseLedger$Name" (29 : Nat) ({ cls := "java/lang/String", name := "charAt", desc := "(I)C" } : Jvm.MethodName)) ∈ lw_all := lw_g (lw_at lw_m11 230 rfl) rfl
theorem q2697 : (Jvm.Cond.instanceMethod ({ cls := "java/lang/String", name := "charAt", desc := "(I)C" } : Jvm.MethodName)) ∈ lw_all := lw_g (lw_at lw_m11 231 rfl) rfl
theorem q2698 : (Jvm.Cond.selects "java/lang/String" ({ cls := "java/lang/String", name := "charAt", desc := "(I)C" } : Jvm.MethodName) ({ cls := "java/lang/String", name := "charAt", desc := "(I)C" } : Jvm.MethodName)) ∈ lw_all := lw_g (lw_at lw_m11 232 rfl) rfl
theorem q2699 : (Jvm.Cond.code ({ cls := "java/lang/String", name := "charAt", desc := "(I)C" } : Jvm.MethodName) prog_36_method_56_code (2 : Nat) (Option.some Jvm.ClassFile.FieldType.char)) ∈ lw_all := lw_g (lw_at lw_m11 233 rfl) rfl
theorem q2714 : (Jvm.Cond.methodLink "ExcuseLedger$Name" (35 : Nat) ({ cls := "java/lang/StringBuilder", name := "append", desc := "(C)Ljava/lang/StringBuilder;" } : Jvm.MethodName)) ∈ lw_all := lw_g (lw_at lw_m12 8 rfl) rfl
theorem q2715 : (Jvm.Cond.instanceMethod ({ cls := "java/lang/StringBuilder", name := "append", desc := "(C)Ljava/lang/StringBuilder;" } : Jvm.MethodName)) ∈ lw_all := lw_g (lw_at lw_m12 9 rfl) rfl
theorem q2716 : (Jvm.Cond.selects "java/lang/StringBuilder" ({ cls := "java/lang/StringBuilder", name := "append", desc := "(C)Ljava/lang/StringBuilder;" } : Jvm.MethodName) ({ cls := "java/lang/StringBuilder", name := "append", desc := "(C)Ljava/lang/StringBuilder;" } : Jvm.MethodName)) ∈ lw_all := lw_g (lw_at lw_m12 10 rfl) rfl
theorem q2717 : (Jvm.Cond.code ({ cls := "java/lang/StringBuilder", name := "append", desc := "(C)Ljava/lang/StringBuilder;" } : Jvm.MethodName) prog_37_method_14_code (2 : Nat) (Option.some (Jvm.ClassFile.FieldType.object "java/lang/StringBuilder"))) ∈ lw_all := lw_g (lw_at lw_m12 11 rfl) rfl
theorem q2727 : (Jvm.Cond.methodLink "ExcuseLedger$Name" (38 : Nat) ({ cls := "java/lang/StringBuilder", name := "append", desc := "(I)Ljava/lang/StringBuilder;" } : Jvm.MethodName)) ∈ lw_all := lw_g (lw_at lw_m12 21 rfl) rfl
theorem q2728 : (Jvm.Cond.methodLink "ExcuseLedger$Name" (41 : Nat) ({ cls := "java/lang/StringBuilder", name := "toString", desc := "()Ljava/lang/String;" } : Jvm.MethodName)) ∈ lw_all := lw_g (lw_at lw_m12 22 rfl) rfl
theorem q3519 : (Jvm.Cond.selects "ExcuseLedger$Name" ({ cls := "ExcuseLedger$Name", name := "hashCode", desc := "()I" } : Jvm.MethodName) ({ cls := "ExcuseLedger$Name", name := "hashCode", desc := "()I" } : Jvm.MethodName)) ∈ lw_all := lw_g (lw_at lw_m15 93 rfl) rfl
theorem q3529 : (Jvm.Cond.selects "ExcuseLedger$Name" ({ cls := "ExcuseLedger$Name", name := "equals", desc := "(Ljava/lang/Object;)Z" } : Jvm.MethodName) ({ cls := "ExcuseLedger$Name", name := "equals", desc := "(Ljava/lang/Object;)Z" } : Jvm.MethodName)) ∈ lw_all := lw_g (lw_at lw_m15 103 rfl) rfl
theorem fo_5_0 : fOk [5] 0 "ExcuseLedger$Name" "kind" "I" .int true := List.forall_mem_singleton.mpr ⟨_, _, _, tyX6, rfl, in_X6, tyX6_ok, nmX6, by decide, rfl, rfl⟩
theorem fo_5_1 : fOk [5] 1 "ExcuseLedger$Name" "topic" "I" .int true := List.forall_mem_singleton.mpr ⟨_, _, _, tyX6, rfl, in_X6, tyX6_ok, nmX6, by decide, rfl, rfl⟩
theorem fo_9_0 : fOk [9] 0 "ExcuseLedger$Story" "name" "LExcuseLedger$Name;" (.object "ExcuseLedger$Name") true := List.forall_mem_singleton.mpr ⟨_, _, _, tyX10, rfl, in_X10, tyX10_ok, nmX10, by decide, rfl, rfl⟩
theorem fo_9_1 : fOk [9] 1 "ExcuseLedger$Story" "pupil" "I" .int true := List.forall_mem_singleton.mpr ⟨_, _, _, tyX10, rfl, in_X10, tyX10_ok, nmX10, by decide, rfl, rfl⟩
abbrev dfJ9 : List Value := [.null, .int 0, .int 0, .int 0]
theorem dfJ9_ok : ∀ j, j < 4 → defaultValue (tyJ9 j) = vp_V dfJ9 j := fun j h => match j, h with | 0, _ => rfl | 1, _ => rfl | 2, _ => rfl | 3, _ => rfl | j + 4, h => absurd h (by omega)
theorem ca_3 : ∀ ci ∈ ([5] : List Nat), ∃ r : vw_C, gCL[ci]? = some r ∧ (Cond.castable r.1 "ExcuseLedger$Name" ∈ lw_tbl ∨ r.1 = "ExcuseLedger$Name") := List.forall_mem_singleton.mpr ⟨_, rfl, Or.inr rfl⟩
theorem ca_4 : ∀ ci ∈ ([9] : List Nat), ∃ r : vw_C, gCL[ci]? = some r ∧ (Cond.castable r.1 "ExcuseLedger$Story" ∈ lw_tbl ∨ r.1 = "ExcuseLedger$Story") := List.forall_mem_singleton.mpr ⟨_, rfl, Or.inr rfl⟩
abbrev cX6_hashCode : ByteArray := prog_6_method_5_code
def yX6_hashCode : MethodName := ⟨RX6, "hashCode", "()I"⟩
def dkwX6_hashCode_0 : List UInt8 := [16, 10, 42, 180, 0, 9, 104, 42, 180, 0, 15, 96, 172]
abbrev dktX6_hashCode_0 : List UInt8 := dkwX6_hashCode_0 ++ []
theorem dksX6_hashCode_0 : cX6_hashCode.data.toList.drop 0 = dktX6_hashCode_0 := by decide +kernel
theorem dX6_hashCode_0 : decode cX6_hashCode 0 = .ok (.bipush 10, 2) := dk_16 10 (dk_at dksX6_hashCode_0 0 rfl rfl)
theorem dX6_hashCode_2 : decode cX6_hashCode 2 = .ok (.aload_n 0, 1) := dk_42 (dk_at dksX6_hashCode_0 2 rfl rfl)
theorem dX6_hashCode_3 : decode cX6_hashCode 3 = .ok (.getfield 9, 3) := dk_180 0 9 (dk_at dksX6_hashCode_0 3 rfl rfl)
theorem dX6_hashCode_6 : decode cX6_hashCode 6 = .ok (.imul, 1) := dk_104 (dk_at dksX6_hashCode_0 6 rfl rfl)
theorem dX6_hashCode_7 : decode cX6_hashCode 7 = .ok (.aload_n 0, 1) := dk_42 (dk_at dksX6_hashCode_0 7 rfl rfl)
theorem dX6_hashCode_8 : decode cX6_hashCode 8 = .ok (.getfield 15, 3) := dk_180 0 15 (dk_at dksX6_hashCode_0 8 rfl rfl)
theorem dX6_hashCode_11 : decode cX6_hashCode 11 = .ok (.iadd, 1) := dk_96 (dk_at dksX6_hashCode_0 11 rfl rfl)
theorem dX6_hashCode_12 : decode cX6_hashCode 12 = .ok (.ireturn, 1) := dk_172 (dk_at dksX6_hashCode_0 12 rfl rfl)
abbrev cX6_equals : ByteArray := prog_6_method_4_code
def yX6_equals : MethodName := ⟨RX6, "equals", "(Ljava/lang/Object;)Z"⟩
def dkwX6_equals_1 : List UInt8 := [160, 0, 18, 42, 180, 0, 15, 44, 180, 0, 15, 160, 0, 7, 4, 167, 0, 4, 3, 172]
abbrev dktX6_equals_1 : List UInt8 := dkwX6_equals_1 ++ []
def dkwX6_equals_0 : List UInt8 := [43, 193, 0, 10, 154, 0, 5, 3, 172, 43, 192, 0, 10, 77, 42, 180, 0, 9, 44, 180, 0, 9]
abbrev dktX6_equals_0 : List UInt8 := dkwX6_equals_0 ++ dktX6_equals_1
theorem dksX6_equals_0 : cX6_equals.data.toList.drop 0 = dktX6_equals_0 := by decide +kernel
theorem dksX6_equals_1 : cX6_equals.data.toList.drop 22 = dktX6_equals_1 := dk_seg dksX6_equals_0 22 rfl rfl
theorem dX6_equals_0 : decode cX6_equals 0 = .ok (.aload_n 1, 1) := dk_43 (dk_at dksX6_equals_0 0 rfl rfl)
theorem dX6_equals_1 : decode cX6_equals 1 = .ok (.instanceof 10, 3) := dk_193 0 10 (dk_at dksX6_equals_0 1 rfl rfl)
theorem dX6_equals_4 : decode cX6_equals 4 = .ok (.ifCond .ne 5, 3) := dk_154 0 5 (dk_at dksX6_equals_0 4 rfl rfl)
theorem dX6_equals_7 : decode cX6_equals 7 = .ok (.iconst 0, 1) := dk_3 (dk_at dksX6_equals_0 7 rfl rfl)
theorem dX6_equals_8 : decode cX6_equals 8 = .ok (.ireturn, 1) := dk_172 (dk_at dksX6_equals_0 8 rfl rfl)
theorem dX6_equals_9 : decode cX6_equals 9 = .ok (.aload_n 1, 1) := dk_43 (dk_at dksX6_equals_0 9 rfl rfl)
theorem dX6_equals_10 : decode cX6_equals 10 = .ok (.checkcast 10, 3) := dk_192 0 10 (dk_at dksX6_equals_0 10 rfl rfl)
theorem dX6_equals_13 : decode cX6_equals 13 = .ok (.astore_n 2, 1) := dk_77 (dk_at dksX6_equals_0 13 rfl rfl)
theorem dX6_equals_14 : decode cX6_equals 14 = .ok (.aload_n 0, 1) := dk_42 (dk_at dksX6_equals_0 14 rfl rfl)
theorem dX6_equals_15 : decode cX6_equals 15 = .ok (.getfield 9, 3) := dk_180 0 9 (dk_at dksX6_equals_0 15 rfl rfl)
theorem dX6_equals_18 : decode cX6_equals 18 = .ok (.aload_n 2, 1) := dk_44 (dk_at dksX6_equals_0 18 rfl rfl)
theorem dX6_equals_19 : decode cX6_equals 19 = .ok (.getfield 9, 3) := dk_180 0 9 (dk_at dksX6_equals_0 19 rfl rfl)
theorem dX6_equals_22 : decode cX6_equals 22 = .ok (.if_icmp .ne 18, 3) := dk_160 0 18 (dk_at dksX6_equals_1 0 rfl rfl)
theorem dX6_equals_25 : decode cX6_equals 25 = .ok (.aload_n 0, 1) := dk_42 (dk_at dksX6_equals_1 3 rfl rfl)
theorem dX6_equals_26 : decode cX6_equals 26 = .ok (.getfield 15, 3) := dk_180 0 15 (dk_at dksX6_equals_1 4 rfl rfl)
theorem dX6_equals_29 : decode cX6_equals 29 = .ok (.aload_n 2, 1) := dk_44 (dk_at dksX6_equals_1 7 rfl rfl)
theorem dX6_equals_30 : decode cX6_equals 30 = .ok (.getfield 15, 3) := dk_180 0 15 (dk_at dksX6_equals_1 8 rfl rfl)
theorem dX6_equals_33 : decode cX6_equals 33 = .ok (.if_icmp .ne 7, 3) := dk_160 0 7 (dk_at dksX6_equals_1 11 rfl rfl)
theorem dX6_equals_36 : decode cX6_equals 36 = .ok (.iconst 1, 1) := dk_4 (dk_at dksX6_equals_1 14 rfl rfl)
theorem dX6_equals_37 : decode cX6_equals 37 = .ok (.goto 4, 3) := dk_167 0 4 (dk_at dksX6_equals_1 15 rfl rfl)
theorem dX6_equals_40 : decode cX6_equals 40 = .ok (.iconst 0, 1) := dk_3 (dk_at dksX6_equals_1 18 rfl rfl)
theorem dX6_equals_41 : decode cX6_equals 41 = .ok (.ireturn, 1) := dk_172 (dk_at dksX6_equals_1 19 rfl rfl)
abbrev cX6_isDog : ByteArray := prog_6_method_2_code
def yX6_isDog : MethodName := ⟨RX6, "isDog", "()Z"⟩
def dkwX6_isDog_0 : List UInt8 := [42, 180, 0, 9, 154, 0, 7, 4, 167, 0, 4, 3, 172]
abbrev dktX6_isDog_0 : List UInt8 := dkwX6_isDog_0 ++ []
theorem dksX6_isDog_0 : cX6_isDog.data.toList.drop 0 = dktX6_isDog_0 := by decide +kernel
theorem dX6_isDog_0 : decode cX6_isDog 0 = .ok (.aload_n 0, 1) := dk_42 (dk_at dksX6_isDog_0 0 rfl rfl)
theorem dX6_isDog_1 : decode cX6_isDog 1 = .ok (.getfield 9, 3) := dk_180 0 9 (dk_at dksX6_isDog_0 1 rfl rfl)
theorem dX6_isDog_4 : decode cX6_isDog 4 = .ok (.ifCond .ne 7, 3) := dk_154 0 7 (dk_at dksX6_isDog_0 4 rfl rfl)
theorem dX6_isDog_7 : decode cX6_isDog 7 = .ok (.iconst 1, 1) := dk_4 (dk_at dksX6_isDog_0 7 rfl rfl)
theorem dX6_isDog_8 : decode cX6_isDog 8 = .ok (.goto 4, 3) := dk_167 0 4 (dk_at dksX6_isDog_0 8 rfl rfl)
theorem dX6_isDog_11 : decode cX6_isDog 11 = .ok (.iconst 0, 1) := dk_3 (dk_at dksX6_isDog_0 11 rfl rfl)
theorem dX6_isDog_12 : decode cX6_isDog 12 = .ok (.ireturn, 1) := dk_172 (dk_at dksX6_isDog_0 12 rfl rfl)
abbrev cX6_isWeather : ByteArray := prog_6_method_3_code
def yX6_isWeather : MethodName := ⟨RX6, "isWeather", "()Z"⟩
def dkwX6_isWeather_0 : List UInt8 := [42, 180, 0, 9, 4, 160, 0, 7, 4, 167, 0, 4, 3, 172]
abbrev dktX6_isWeather_0 : List UInt8 := dkwX6_isWeather_0 ++ []
theorem dksX6_isWeather_0 : cX6_isWeather.data.toList.drop 0 = dktX6_isWeather_0 := by decide +kernel
theorem dX6_isWeather_0 : decode cX6_isWeather 0 = .ok (.aload_n 0, 1) := dk_42 (dk_at dksX6_isWeather_0 0 rfl rfl)
theorem dX6_isWeather_1 : decode cX6_isWeather 1 = .ok (.getfield 9, 3) := dk_180 0 9 (dk_at dksX6_isWeather_0 1 rfl rfl)
theorem dX6_isWeather_4 : decode cX6_isWeather 4 = .ok (.iconst 1, 1) := dk_4 (dk_at dksX6_isWeather_0 4 rfl rfl)
theorem dX6_isWeather_5 : decode cX6_isWeather 5 = .ok (.if_icmp .ne 7, 3) := dk_160 0 7 (dk_at dksX6_isWeather_0 5 rfl rfl)
theorem dX6_isWeather_8 : decode cX6_isWeather 8 = .ok (.iconst 1, 1) := dk_4 (dk_at dksX6_isWeather_0 8 rfl rfl)
theorem dX6_isWeather_9 : decode cX6_isWeather 9 = .ok (.goto 4, 3) := dk_167 0 4 (dk_at dksX6_isWeather_0 9 rfl rfl)
theorem dX6_isWeather_12 : decode cX6_isWeather 12 = .ok (.iconst 0, 1) := dk_3 (dk_at dksX6_isWeather_0 12 rfl rfl)
theorem dX6_isWeather_13 : decode cX6_isWeather 13 = .ok (.ireturn, 1) := dk_172 (dk_at dksX6_isWeather_0 13 rfl rfl)
abbrev cX6_init : ByteArray := prog_6_method_1_code
def yX6_init : MethodName := ⟨RX6, "<init>", "(II)V"⟩
def dkwX6_init_0 : List UInt8 := [42, 183, 0, 3, 42, 27, 181, 0, 9, 42, 28, 181, 0, 15, 177]
abbrev dktX6_init_0 : List UInt8 := dkwX6_init_0 ++ []
theorem dksX6_init_0 : cX6_init.data.toList.drop 0 = dktX6_init_0 := by decide +kernel
theorem dX6_init_0 : decode cX6_init 0 = .ok (.aload_n 0, 1) := dk_42 (dk_at dksX6_init_0 0 rfl rfl)
theorem dX6_init_1 : decode cX6_init 1 = .ok (.invokespecial 3, 3) := dk_183 0 3 (dk_at dksX6_init_0 1 rfl rfl)
theorem dX6_init_4 : decode cX6_init 4 = .ok (.aload_n 0, 1) := dk_42 (dk_at dksX6_init_0 4 rfl rfl)
theorem dX6_init_5 : decode cX6_init 5 = .ok (.iload_n 1, 1) := dk_27 (dk_at dksX6_init_0 5 rfl rfl)
theorem dX6_init_6 : decode cX6_init 6 = .ok (.putfield 9, 3) := dk_181 0 9 (dk_at dksX6_init_0 6 rfl rfl)
theorem dX6_init_9 : decode cX6_init 9 = .ok (.aload_n 0, 1) := dk_42 (dk_at dksX6_init_0 9 rfl rfl)
theorem dX6_init_10 : decode cX6_init 10 = .ok (.iload_n 2, 1) := dk_28 (dk_at dksX6_init_0 10 rfl rfl)
theorem dX6_init_11 : decode cX6_init 11 = .ok (.putfield 15, 3) := dk_181 0 15 (dk_at dksX6_init_0 11 rfl rfl)
theorem dX6_init_14 : decode cX6_init 14 = .ok (.return_, 1) := dk_177 (dk_at dksX6_init_0 14 rfl rfl)
abbrev cX6_told : ByteArray := prog_6_method_6_code
def yX6_told : MethodName := ⟨RX6, "told", "()Ljava/lang/String;"⟩
def dkwX6_told_1 : List UInt8 := [42, 180, 0, 15, 182, 0, 38, 182, 0, 41, 176]
abbrev dktX6_told_1 : List UInt8 := dkwX6_told_1 ++ []
def dkwX6_told_0 : List UInt8 := [187, 0, 18, 89, 183, 0, 20, 18, 21, 182, 0, 23, 18, 27, 42, 180, 0, 9, 182, 0, 29, 182, 0, 35]
abbrev dktX6_told_0 : List UInt8 := dkwX6_told_0 ++ dktX6_told_1
theorem dksX6_told_0 : cX6_told.data.toList.drop 0 = dktX6_told_0 := by decide +kernel
theorem dksX6_told_1 : cX6_told.data.toList.drop 24 = dktX6_told_1 := dk_seg dksX6_told_0 24 rfl rfl
theorem dX6_told_0 : decode cX6_told 0 = .ok (.new 18, 3) := dk_187 0 18 (dk_at dksX6_told_0 0 rfl rfl)
theorem dX6_told_3 : decode cX6_told 3 = .ok (.dup, 1) := dk_89 (dk_at dksX6_told_0 3 rfl rfl)
theorem dX6_told_4 : decode cX6_told 4 = .ok (.invokespecial 20, 3) := dk_183 0 20 (dk_at dksX6_told_0 4 rfl rfl)
theorem dX6_told_7 : decode cX6_told 7 = .ok (.ldc 21, 2) := dk_18 21 (dk_at dksX6_told_0 7 rfl rfl)
theorem dX6_told_9 : decode cX6_told 9 = .ok (.invokevirtual 23, 3) := dk_182 0 23 (dk_at dksX6_told_0 9 rfl rfl)
theorem dX6_told_12 : decode cX6_told 12 = .ok (.ldc 27, 2) := dk_18 27 (dk_at dksX6_told_0 12 rfl rfl)
theorem dX6_told_14 : decode cX6_told 14 = .ok (.aload_n 0, 1) := dk_42 (dk_at dksX6_told_0 14 rfl rfl)
theorem dX6_told_15 : decode cX6_told 15 = .ok (.getfield 9, 3) := dk_180 0 9 (dk_at dksX6_told_0 15 rfl rfl)
theorem dX6_told_18 : decode cX6_told 18 = .ok (.invokevirtual 29, 3) := dk_182 0 29 (dk_at dksX6_told_0 18 rfl rfl)
theorem dX6_told_21 : decode cX6_told 21 = .ok (.invokevirtual 35, 3) := dk_182 0 35 (dk_at dksX6_told_0 21 rfl rfl)
theorem dX6_told_24 : decode cX6_told 24 = .ok (.aload_n 0, 1) := dk_42 (dk_at dksX6_told_1 0 rfl rfl)
theorem dX6_told_25 : decode cX6_told 25 = .ok (.getfield 15, 3) := dk_180 0 15 (dk_at dksX6_told_1 1 rfl rfl)
theorem dX6_told_28 : decode cX6_told 28 = .ok (.invokevirtual 38, 3) := dk_182 0 38 (dk_at dksX6_told_1 4 rfl rfl)
theorem dX6_told_31 : decode cX6_told 31 = .ok (.invokevirtual 41, 3) := dk_182 0 41 (dk_at dksX6_told_1 7 rfl rfl)
theorem dX6_told_34 : decode cX6_told 34 = .ok (.areturn, 1) := dk_176 (dk_at dksX6_told_1 10 rfl rfl)
abbrev cX10_hashCode : ByteArray := prog_11_method_3_code
def yX10_hashCode : MethodName := ⟨RX10, "hashCode", "()I"⟩
def dkwX10_hashCode_0 : List UInt8 := [16, 31, 42, 180, 0, 7, 182, 0, 23, 104, 42, 180, 0, 13, 96, 172]
abbrev dktX10_hashCode_0 : List UInt8 := dkwX10_hashCode_0 ++ []
theorem dksX10_hashCode_0 : cX10_hashCode.data.toList.drop 0 = dktX10_hashCode_0 := by decide +kernel
theorem dX10_hashCode_0 : decode cX10_hashCode 0 = .ok (.bipush 31, 2) := dk_16 31 (dk_at dksX10_hashCode_0 0 rfl rfl)
theorem dX10_hashCode_2 : decode cX10_hashCode 2 = .ok (.aload_n 0, 1) := dk_42 (dk_at dksX10_hashCode_0 2 rfl rfl)
theorem dX10_hashCode_3 : decode cX10_hashCode 3 = .ok (.getfield 7, 3) := dk_180 0 7 (dk_at dksX10_hashCode_0 3 rfl rfl)
theorem dX10_hashCode_6 : decode cX10_hashCode 6 = .ok (.invokevirtual 23, 3) := dk_182 0 23 (dk_at dksX10_hashCode_0 6 rfl rfl)
theorem dX10_hashCode_9 : decode cX10_hashCode 9 = .ok (.imul, 1) := dk_104 (dk_at dksX10_hashCode_0 9 rfl rfl)
theorem dX10_hashCode_10 : decode cX10_hashCode 10 = .ok (.aload_n 0, 1) := dk_42 (dk_at dksX10_hashCode_0 10 rfl rfl)
theorem dX10_hashCode_11 : decode cX10_hashCode 11 = .ok (.getfield 13, 3) := dk_180 0 13 (dk_at dksX10_hashCode_0 11 rfl rfl)
theorem dX10_hashCode_14 : decode cX10_hashCode 14 = .ok (.iadd, 1) := dk_96 (dk_at dksX10_hashCode_0 14 rfl rfl)
theorem dX10_hashCode_15 : decode cX10_hashCode 15 = .ok (.ireturn, 1) := dk_172 (dk_at dksX10_hashCode_0 15 rfl rfl)
abbrev cX10_equals : ByteArray := prog_11_method_2_code
def yX10_equals : MethodName := ⟨RX10, "equals", "(Ljava/lang/Object;)Z"⟩
def dkwX10_equals_1 : List UInt8 := [160, 0, 21, 42, 180, 0, 7, 44, 180, 0, 7, 182, 0, 17, 153, 0, 7, 4, 167, 0, 4, 3, 172]
abbrev dktX10_equals_1 : List UInt8 := dkwX10_equals_1 ++ []
def dkwX10_equals_0 : List UInt8 := [43, 193, 0, 8, 154, 0, 5, 3, 172, 43, 192, 0, 8, 77, 42, 180, 0, 13, 44, 180, 0, 13]
abbrev dktX10_equals_0 : List UInt8 := dkwX10_equals_0 ++ dktX10_equals_1
theorem dksX10_equals_0 : cX10_equals.data.toList.drop 0 = dktX10_equals_0 := by decide +kernel
theorem dksX10_equals_1 : cX10_equals.data.toList.drop 22 = dktX10_equals_1 := dk_seg dksX10_equals_0 22 rfl rfl
theorem dX10_equals_0 : decode cX10_equals 0 = .ok (.aload_n 1, 1) := dk_43 (dk_at dksX10_equals_0 0 rfl rfl)
theorem dX10_equals_1 : decode cX10_equals 1 = .ok (.instanceof 8, 3) := dk_193 0 8 (dk_at dksX10_equals_0 1 rfl rfl)
theorem dX10_equals_4 : decode cX10_equals 4 = .ok (.ifCond .ne 5, 3) := dk_154 0 5 (dk_at dksX10_equals_0 4 rfl rfl)
theorem dX10_equals_7 : decode cX10_equals 7 = .ok (.iconst 0, 1) := dk_3 (dk_at dksX10_equals_0 7 rfl rfl)
theorem dX10_equals_8 : decode cX10_equals 8 = .ok (.ireturn, 1) := dk_172 (dk_at dksX10_equals_0 8 rfl rfl)
theorem dX10_equals_9 : decode cX10_equals 9 = .ok (.aload_n 1, 1) := dk_43 (dk_at dksX10_equals_0 9 rfl rfl)
theorem dX10_equals_10 : decode cX10_equals 10 = .ok (.checkcast 8, 3) := dk_192 0 8 (dk_at dksX10_equals_0 10 rfl rfl)
theorem dX10_equals_13 : decode cX10_equals 13 = .ok (.astore_n 2, 1) := dk_77 (dk_at dksX10_equals_0 13 rfl rfl)
theorem dX10_equals_14 : decode cX10_equals 14 = .ok (.aload_n 0, 1) := dk_42 (dk_at dksX10_equals_0 14 rfl rfl)
theorem dX10_equals_15 : decode cX10_equals 15 = .ok (.getfield 13, 3) := dk_180 0 13 (dk_at dksX10_equals_0 15 rfl rfl)
theorem dX10_equals_18 : decode cX10_equals 18 = .ok (.aload_n 2, 1) := dk_44 (dk_at dksX10_equals_0 18 rfl rfl)
theorem dX10_equals_19 : decode cX10_equals 19 = .ok (.getfield 13, 3) := dk_180 0 13 (dk_at dksX10_equals_0 19 rfl rfl)
theorem dX10_equals_22 : decode cX10_equals 22 = .ok (.if_icmp .ne 21, 3) := dk_160 0 21 (dk_at dksX10_equals_1 0 rfl rfl)
theorem dX10_equals_25 : decode cX10_equals 25 = .ok (.aload_n 0, 1) := dk_42 (dk_at dksX10_equals_1 3 rfl rfl)
theorem dX10_equals_26 : decode cX10_equals 26 = .ok (.getfield 7, 3) := dk_180 0 7 (dk_at dksX10_equals_1 4 rfl rfl)
theorem dX10_equals_29 : decode cX10_equals 29 = .ok (.aload_n 2, 1) := dk_44 (dk_at dksX10_equals_1 7 rfl rfl)
theorem dX10_equals_30 : decode cX10_equals 30 = .ok (.getfield 7, 3) := dk_180 0 7 (dk_at dksX10_equals_1 8 rfl rfl)
theorem dX10_equals_33 : decode cX10_equals 33 = .ok (.invokevirtual 17, 3) := dk_182 0 17 (dk_at dksX10_equals_1 11 rfl rfl)
theorem dX10_equals_36 : decode cX10_equals 36 = .ok (.ifCond .eq 7, 3) := dk_153 0 7 (dk_at dksX10_equals_1 14 rfl rfl)
theorem dX10_equals_39 : decode cX10_equals 39 = .ok (.iconst 1, 1) := dk_4 (dk_at dksX10_equals_1 17 rfl rfl)
theorem dX10_equals_40 : decode cX10_equals 40 = .ok (.goto 4, 3) := dk_167 0 4 (dk_at dksX10_equals_1 18 rfl rfl)
theorem dX10_equals_43 : decode cX10_equals 43 = .ok (.iconst 0, 1) := dk_3 (dk_at dksX10_equals_1 21 rfl rfl)
theorem dX10_equals_44 : decode cX10_equals 44 = .ok (.ireturn, 1) := dk_172 (dk_at dksX10_equals_1 22 rfl rfl)
abbrev cX10_init : ByteArray := prog_11_method_1_code
def yX10_init : MethodName := ⟨RX10, "<init>", "(LExcuseLedger$Name;I)V"⟩
def dkwX10_init_0 : List UInt8 := [42, 183, 0, 1, 42, 43, 181, 0, 7, 42, 28, 181, 0, 13, 177]
abbrev dktX10_init_0 : List UInt8 := dkwX10_init_0 ++ []
theorem dksX10_init_0 : cX10_init.data.toList.drop 0 = dktX10_init_0 := by decide +kernel
theorem dX10_init_0 : decode cX10_init 0 = .ok (.aload_n 0, 1) := dk_42 (dk_at dksX10_init_0 0 rfl rfl)
theorem dX10_init_1 : decode cX10_init 1 = .ok (.invokespecial 1, 3) := dk_183 0 1 (dk_at dksX10_init_0 1 rfl rfl)
theorem dX10_init_4 : decode cX10_init 4 = .ok (.aload_n 0, 1) := dk_42 (dk_at dksX10_init_0 4 rfl rfl)
theorem dX10_init_5 : decode cX10_init 5 = .ok (.aload_n 1, 1) := dk_43 (dk_at dksX10_init_0 5 rfl rfl)
theorem dX10_init_6 : decode cX10_init 6 = .ok (.putfield 7, 3) := dk_181 0 7 (dk_at dksX10_init_0 6 rfl rfl)
theorem dX10_init_9 : decode cX10_init 9 = .ok (.aload_n 0, 1) := dk_42 (dk_at dksX10_init_0 9 rfl rfl)
theorem dX10_init_10 : decode cX10_init 10 = .ok (.iload_n 2, 1) := dk_28 (dk_at dksX10_init_0 10 rfl rfl)
theorem dX10_init_11 : decode cX10_init 11 = .ok (.putfield 13, 3) := dk_181 0 13 (dk_at dksX10_init_0 11 rfl rfl)
theorem dX10_init_14 : decode cX10_init 14 = .ok (.return_, 1) := dk_177 (dk_at dksX10_init_0 14 rfl rfl)
abbrev rmX6_equals (mc ms : Nat) : Room := { frames := 10, cells := mc, slots := ms, locals := 160 }
def wX6_equalsb40 (G : gE) (P : Int32 → hSt → Prop) (PX : Nat → Nat → hSt → Prop)   (z : hSt) : Prop :=
  (okN .boolean 0 ∧ P 0 z)
def wX6_equalsb0 (G : gE) (P : Int32 → hSt → Prop) (PX : Nat → Nat → hSt → Prop)  (v0 : Option Nat) (v1 : Option Nat) (z : hSt) : Prop :=
  ioO z v1 [5] [] (fun x1 => ((¬ x1 = 0 → (ckO z v1 [5] ∧ gtI z v0 [5] 0 (fun x2 => gtI z v1 [5] 0 (fun x3 => ((¬ x2 = x3 → wX6_equalsb40 G P PX   z) ∧ (x2 = x3 → gtI z v0 [5] 1 (fun x4 => gtI z v1 [5] 1 (fun x5 => ((¬ x4 = x5 → wX6_equalsb40 G P PX   z) ∧ (x4 = x5 → (okN .boolean 1 ∧ P 1 z))))))))))) ∧ (x1 = 0 → (okN .boolean 0 ∧ P 0 z))))
def wX6_equals (G : gE) (P : Int32 → hSt → Prop) (PX : Nat → Nat → hSt → Prop) (v0 : Option Nat) (v1 : Option Nat) (z : hSt) : Prop := wX6_equalsb0 G P PX v0 v1 z
section
variable {p : Program} {l : Launch} {e : Env} {s : State} {m : MethodId} {args : Array Value} {below : List Frame} {meth : Method} {c : Code} {G : gE} {mc ms : Nat} {P : Int32 → hSt → Prop} {PX : Nat → Nat → hSt → Prop}
theorem kX6_equalsb40 (C : xC G p l s m args meth c cX6_equals 3 "ExcuseLedger$Name") (hr : meth.sig.returnType = (Option.some Jvm.ClassFile.FieldType.boolean)) (hin : meth.name = "equals") (hT : ∀ x ∈ c.exceptionTable.toList, False) (hmc : mc = gL G - s.heap.size ∧ ms = gU G - hsum s.heap)    {z : hSt} (hw : wX6_equalsb40 G P PX   z) : kt G p l e (rmX6_equals mc ms) s m args below meth c 3 (vx_MQ below (cQ G (pI P)) (cX G PX) args s mc ms (gF G)) 40 [] [] z := by
  intro H locs ls hS hl
  refine lv_iconst C.1 C.2.1 (v := 0) dX6_equals_40 rfl ?_
  exact r_zret C hS hmc hr dX6_equals_41 hw
theorem kX6_equalsb0 (C : xC G p l s m args meth c cX6_equals 3 "ExcuseLedger$Name") (hr : meth.sig.returnType = (Option.some Jvm.ClassFile.FieldType.boolean)) (hin : meth.name = "equals") (hT : ∀ x ∈ c.exceptionTable.toList, False) (hmc : mc = gL G - s.heap.size ∧ ms = gU G - hsum s.heap)   {v0 : Option Nat} {v1 : Option Nat} {z : hSt} (hw : wX6_equalsb0 G P PX  v0 v1 z) : kt G p l e (rmX6_equals mc ms) s m args below meth c 3 (vx_MQ below (cQ G (pI P)) (cX G PX) args s mc ms (gF G)) 0 [(0, va_rf v0), (1, va_rf v1)] [] z := by
  intro H locs ls hS hl
  refine r_aload_n C.1 C.2.1 dX6_equals_0 rfl (lv_at hl 1 rfl) ?_
  refine r_inst C hS q1628 ca_3 (fun _ h => absurd h List.not_mem_nil) dX6_equals_1 hw (fun x1 hw => ?_)
  refine lv_if_ne C.1 C.2.1 dX6_equals_4 rfl (fun h => ?_) (fun h => ?_)
  · have hw := hw.1 h
    refine r_aload_n C.1 C.2.1 dX6_equals_9 rfl (lv_at hl 1 rfl) ?_
    refine r_cast0 C hS q1628 ca_3 dX6_equals_10 hw.1 ?_
    have hw := hw.2
    refine r_astore_n C.1 C.2.1 dX6_equals_13 rfl hl (Nat.le_of_ble_eq_true rfl) (ls_new (ls_old 0 rfl rfl (.inl rfl) ls_nil)) (fun ls hl => ?_)
    refine r_aload_n C.1 C.2.1 dX6_equals_14 rfl (lv_at hl 1 rfl) ?_
    refine r_getI C hS fo_5_0 (fl_d C q2334) (fun _ h => h) dX6_equals_15 hw (fun x2 hw => ?_)
    refine r_aload_n C.1 C.2.1 dX6_equals_18 rfl (lv_at hl 0 rfl) ?_
    refine r_getI C hS fo_5_0 (fl_d C q2334) (fun _ h => h) dX6_equals_19 hw (fun x3 hw => ?_)
    refine lv_icmp_ne C.1 C.2.1 dX6_equals_22 rfl (fun h => ?_) (fun h => ?_)
    · have hw := hw.1 h
      exact kX6_equalsb40 C hr hin hT hmc  hw H locs ls hS (lv_sub hl [] rfl)
    · have hw := hw.2 h
      refine r_aload_n C.1 C.2.1 dX6_equals_25 rfl (lv_at hl 1 rfl) ?_
      refine r_getI C hS fo_5_1 (fl_d C q2337) (fun _ h => h) dX6_equals_26 hw (fun x4 hw => ?_)
      refine r_aload_n C.1 C.2.1 dX6_equals_29 rfl (lv_at hl 0 rfl) ?_
      refine r_getI C hS fo_5_1 (fl_d C q2337) (fun _ h => h) dX6_equals_30 hw (fun x5 hw => ?_)
      refine lv_icmp_ne C.1 C.2.1 dX6_equals_33 rfl (fun h => ?_) (fun h => ?_)
      · have hw := hw.1 h
        exact kX6_equalsb40 C hr hin hT hmc  hw H locs ls hS (lv_sub hl [] rfl)
      · have hw := hw.2 h
        refine lv_iconst C.1 C.2.1 (v := 1) dX6_equals_36 rfl ?_
        refine lv_goto C.1 C.2.1 dX6_equals_37 rfl ?_
        exact r_zret C hS hmc hr dX6_equals_41 hw
  · have hw := hw.2 h
    refine lv_iconst C.1 C.2.1 (v := 0) dX6_equals_7 rfl ?_
    exact r_zret C hS hmc hr dX6_equals_8 hw
end
theorem kX6_equals {l : Launch} (hl : l.stackTraces = false) {G : gE} {P : Int32 → hSt → Prop} {PX : Nat → Nat → hSt → Prop} {v0 : Option Nat} {v1 : Option Nat} {z : hSt} : cM l G yX6_equals (ws_ yX6_equals cX6_equals 3 (Option.some Jvm.ClassFile.FieldType.boolean)) 10 160 z [va_rf v0, va_rf v1] (wX6_equals G P PX v0 v1 z) (pI P) PX := by
  refine m_of hl (plainFor_of_name (by decide)) (by rw [lg_sl1 (va_rf_cat _), lg_sl1 (va_rf_cat _)]; exact Nat.le_of_ble_eq_true rfl) ?_
  intro p e s m args below meth c C hr hin hT hmc hw
  rw [lv_args1 (va_rf_cat _), lv_args1 (va_rf_cat _)]
  intro H locs ls hS hl
  exact kX6_equalsb0 C hr hin hT hmc hw H locs ls hS (lv_sub hl [0, 1] rfl)
theorem hdX6_equals : yX6_equals.cls ≠ "java/lang/invoke/MethodHandle" ∧ yX6_equals.cls ≠ "java/lang/invoke/VarHandle" ∧ (parseMethodDescriptor yX6_equals.desc).map (fun d => d.parameters.length) = some 1 := ⟨by decide +kernel, by decide +kernel, by decide +kernel⟩
abbrev rmX10_equals (mc ms : Nat) : Room := { frames := 11, cells := mc, slots := ms, locals := 182 }
def wX10_equalsb43 (G : gE) (P : Int32 → hSt → Prop) (PX : Nat → Nat → hSt → Prop)   (z : hSt) : Prop :=
  (okN .boolean 0 ∧ P 0 z)
def wX10_equalsb0 (G : gE) (P : Int32 → hSt → Prop) (PX : Nat → Nat → hSt → Prop)  (v0 : Option Nat) (v1 : Option Nat) (z : hSt) : Prop :=
  ioO z v1 [9] [] (fun x1 => ((¬ x1 = 0 → (ckO z v1 [9] ∧ gtI z v0 [9] 1 (fun x2 => gtI z v1 [9] 1 (fun x3 => ((¬ x2 = x3 → wX10_equalsb43 G P PX   z) ∧ (x2 = x3 → gtR z v0 [9] 0 (fun x4 => gtR z v1 [9] 0 (fun x5 => (rcv z x4 5 ∧ wX6_equals G (fun x7 z6 => ((x7 = 0 → wX10_equalsb43 G P PX   z6) ∧ (¬ x7 = 0 → (okN .boolean 1 ∧ P 1 z6)))) PX x4 x5 z))))))))) ∧ (x1 = 0 → (okN .boolean 0 ∧ P 0 z))))
def wX10_equals (G : gE) (P : Int32 → hSt → Prop) (PX : Nat → Nat → hSt → Prop) (v0 : Option Nat) (v1 : Option Nat) (z : hSt) : Prop := wX10_equalsb0 G P PX v0 v1 z
section
variable {p : Program} {l : Launch} {e : Env} {s : State} {m : MethodId} {args : Array Value} {below : List Frame} {meth : Method} {c : Code} {G : gE} {mc ms : Nat} {P : Int32 → hSt → Prop} {PX : Nat → Nat → hSt → Prop}
theorem kX10_equalsb43 (C : xC G p l s m args meth c cX10_equals 3 "ExcuseLedger$Story") (hr : meth.sig.returnType = (Option.some Jvm.ClassFile.FieldType.boolean)) (hin : meth.name = "equals") (hT : ∀ x ∈ c.exceptionTable.toList, False) (hmc : mc = gL G - s.heap.size ∧ ms = gU G - hsum s.heap)    {z : hSt} (hw : wX10_equalsb43 G P PX   z) : kt G p l e (rmX10_equals mc ms) s m args below meth c 3 (vx_MQ below (cQ G (pI P)) (cX G PX) args s mc ms (gF G)) 43 [] [] z := by
  intro H locs ls hS hl
  refine lv_iconst C.1 C.2.1 (v := 0) dX10_equals_43 rfl ?_
  exact r_zret C hS hmc hr dX10_equals_44 hw
theorem kX10_equalsb0 (C : xC G p l s m args meth c cX10_equals 3 "ExcuseLedger$Story") (hr : meth.sig.returnType = (Option.some Jvm.ClassFile.FieldType.boolean)) (hin : meth.name = "equals") (hT : ∀ x ∈ c.exceptionTable.toList, False) (hmc : mc = gL G - s.heap.size ∧ ms = gU G - hsum s.heap)   {v0 : Option Nat} {v1 : Option Nat} {z : hSt} (hw : wX10_equalsb0 G P PX  v0 v1 z) : kt G p l e (rmX10_equals mc ms) s m args below meth c 3 (vx_MQ below (cQ G (pI P)) (cX G PX) args s mc ms (gF G)) 0 [(0, va_rf v0), (1, va_rf v1)] [] z := by
  intro H locs ls hS hl
  refine r_aload_n C.1 C.2.1 dX10_equals_0 rfl (lv_at hl 1 rfl) ?_
  refine r_inst C hS q1636 ca_4 (fun _ h => absurd h List.not_mem_nil) dX10_equals_1 hw (fun x1 hw => ?_)
  refine lv_if_ne C.1 C.2.1 dX10_equals_4 rfl (fun h => ?_) (fun h => ?_)
  · have hw := hw.1 h
    refine r_aload_n C.1 C.2.1 dX10_equals_9 rfl (lv_at hl 1 rfl) ?_
    refine r_cast0 C hS q1636 ca_4 dX10_equals_10 hw.1 ?_
    have hw := hw.2
    refine r_astore_n C.1 C.2.1 dX10_equals_13 rfl hl (Nat.le_of_ble_eq_true rfl) (ls_new (ls_old 0 rfl rfl (.inl rfl) ls_nil)) (fun ls hl => ?_)
    refine r_aload_n C.1 C.2.1 dX10_equals_14 rfl (lv_at hl 1 rfl) ?_
    refine r_getI C hS fo_9_1 (fl_d C q2172) (fun _ h => h) dX10_equals_15 hw (fun x2 hw => ?_)
    refine r_aload_n C.1 C.2.1 dX10_equals_18 rfl (lv_at hl 0 rfl) ?_
    refine r_getI C hS fo_9_1 (fl_d C q2172) (fun _ h => h) dX10_equals_19 hw (fun x3 hw => ?_)
    refine lv_icmp_ne C.1 C.2.1 dX10_equals_22 rfl (fun h => ?_) (fun h => ?_)
    · have hw := hw.1 h
      exact kX10_equalsb43 C hr hin hT hmc  hw H locs ls hS (lv_sub hl [] rfl)
    · have hw := hw.2 h
      refine r_aload_n C.1 C.2.1 dX10_equals_25 rfl (lv_at hl 1 rfl) ?_
      refine r_getR C hS fo_9_0 (fl_d C q2171) (fun _ h => h) dX10_equals_26 hw (fun x4 hw => ?_)
      refine r_aload_n C.1 C.2.1 dX10_equals_29 rfl (lv_at hl 0 rfl) ?_
      refine r_getR C hS fo_9_0 (fl_d C q2171) (fun _ h => h) dX10_equals_30 hw (fun x5 hw => ?_)
      refine c_V C hS hmc hl.1 (ci := 5) rfl hw.1 (kX6_equals C.2.2.2.2.2.2.1) hw.2 (lw_V q1637 q1626 q3529 q90 q1627) ⟨rfl, hdX6_equals⟩ ⟨Nat.le_of_ble_eq_true rfl, Nat.le_of_ble_eq_true rfl⟩ (rest := []) rfl rfl (Nat.le_of_ble_eq_true rfl) dX10_equals_33 (fun ci q z H locs hx hS ht => r_out C hS hmc (fun x hx => (hT x hx).elim) ht hx) (fun v z6 H locs hv hS => ?_)
      obtain ⟨x7, rfl, hw⟩ := hv
      refine lv_if_eq C.1 C.2.1 dX10_equals_36 rfl (fun h => ?_) (fun h => ?_)
      · have hw := hw.1 h
        exact kX10_equalsb43 C hr hin hT hmc  hw H locs ls hS (lv_sub hl [] rfl)
      · have hw := hw.2 h
        refine lv_iconst C.1 C.2.1 (v := 1) dX10_equals_39 rfl ?_
        refine lv_goto C.1 C.2.1 dX10_equals_40 rfl ?_
        exact r_zret C hS hmc hr dX10_equals_44 hw
  · have hw := hw.2 h
    refine lv_iconst C.1 C.2.1 (v := 0) dX10_equals_7 rfl ?_
    exact r_zret C hS hmc hr dX10_equals_8 hw
end
theorem kX10_equals {l : Launch} (hl : l.stackTraces = false) {G : gE} {P : Int32 → hSt → Prop} {PX : Nat → Nat → hSt → Prop} {v0 : Option Nat} {v1 : Option Nat} {z : hSt} : cM l G yX10_equals (ws_ yX10_equals cX10_equals 3 (Option.some Jvm.ClassFile.FieldType.boolean)) 11 182 z [va_rf v0, va_rf v1] (wX10_equals G P PX v0 v1 z) (pI P) PX := by
  refine m_of hl (plainFor_of_name (by decide)) (by rw [lg_sl1 (va_rf_cat _), lg_sl1 (va_rf_cat _)]; exact Nat.le_of_ble_eq_true rfl) ?_
  intro p e s m args below meth c C hr hin hT hmc hw
  rw [lv_args1 (va_rf_cat _), lv_args1 (va_rf_cat _)]
  intro H locs ls hS hl
  exact kX10_equalsb0 C hr hin hT hmc hw H locs ls hS (lv_sub hl [0, 1] rfl)
theorem hdX10_equals : yX10_equals.cls ≠ "java/lang/invoke/MethodHandle" ∧ yX10_equals.cls ≠ "java/lang/invoke/VarHandle" ∧ (parseMethodDescriptor yX10_equals.desc).map (fun d => d.parameters.length) = some 1 := ⟨by decide +kernel, by decide +kernel, by decide +kernel⟩
abbrev rmX6_hashCode (mc ms : Nat) : Room := { frames := 10, cells := mc, slots := ms, locals := 160 }
def wX6_hashCodeb0 (G : gE) (P : Int32 → hSt → Prop) (PX : Nat → Nat → hSt → Prop)  (v0 : Option Nat) (z : hSt) : Prop :=
  gtI z v0 [5] 0 (fun x1 => gtI z v0 [5] 1 (fun x2 => P ((10 * x1) + x2) z))
def wX6_hashCode (G : gE) (P : Int32 → hSt → Prop) (PX : Nat → Nat → hSt → Prop) (v0 : Option Nat) (z : hSt) : Prop := wX6_hashCodeb0 G P PX v0 z
section
variable {p : Program} {l : Launch} {e : Env} {s : State} {m : MethodId} {args : Array Value} {below : List Frame} {meth : Method} {c : Code} {G : gE} {mc ms : Nat} {P : Int32 → hSt → Prop} {PX : Nat → Nat → hSt → Prop}
theorem kX6_hashCodeb0 (C : xC G p l s m args meth c cX6_hashCode 1 "ExcuseLedger$Name") (hr : meth.sig.returnType = (Option.some Jvm.ClassFile.FieldType.int)) (hin : meth.name = "hashCode") (hT : ∀ x ∈ c.exceptionTable.toList, False) (hmc : mc = gL G - s.heap.size ∧ ms = gU G - hsum s.heap)   {v0 : Option Nat} {z : hSt} (hw : wX6_hashCodeb0 G P PX  v0 z) : kt G p l e (rmX6_hashCode mc ms) s m args below meth c 1 (vx_MQ below (cQ G (pI P)) (cX G PX) args s mc ms (gF G)) 0 [(0, va_rf v0)] [] z := by
  intro H locs ls hS hl
  refine lv_bipush C.1 C.2.1 (v := 10) dX6_hashCode_0 rfl ?_
  refine r_aload_n C.1 C.2.1 dX6_hashCode_2 rfl (lv_at hl 0 rfl) ?_
  refine r_getI C hS fo_5_0 (fl_d C q2334) (fun _ h => h) dX6_hashCode_3 hw (fun x1 hw => ?_)
  refine lv_imul C.1 C.2.1 dX6_hashCode_6 ?_
  refine r_aload_n C.1 C.2.1 dX6_hashCode_7 rfl (lv_at hl 0 rfl) ?_
  refine r_getI C hS fo_5_1 (fl_d C q2337) (fun _ h => h) dX6_hashCode_8 hw (fun x2 hw => ?_)
  refine lv_iadd C.1 C.2.1 dX6_hashCode_11 ?_
  exact r_iret C hS hmc hr dX6_hashCode_12 hw
end
theorem kX6_hashCode {l : Launch} (hl : l.stackTraces = false) {G : gE} {P : Int32 → hSt → Prop} {PX : Nat → Nat → hSt → Prop} {v0 : Option Nat} {z : hSt} : cM l G yX6_hashCode (ws_ yX6_hashCode cX6_hashCode 1 (Option.some Jvm.ClassFile.FieldType.int)) 10 160 z [va_rf v0] (wX6_hashCode G P PX v0 z) (pI P) PX := by
  refine m_of hl (plainFor_of_name (by decide)) (by rw [lg_sl1 (va_rf_cat _)]; exact Nat.le_of_ble_eq_true rfl) ?_
  intro p e s m args below meth c C hr hin hT hmc hw
  rw [lv_args1 (va_rf_cat _)]
  intro H locs ls hS hl
  exact kX6_hashCodeb0 C hr hin hT hmc hw H locs ls hS (lv_sub hl [0] rfl)
theorem hdX6_hashCode : yX6_hashCode.cls ≠ "java/lang/invoke/MethodHandle" ∧ yX6_hashCode.cls ≠ "java/lang/invoke/VarHandle" ∧ (parseMethodDescriptor yX6_hashCode.desc).map (fun d => d.parameters.length) = some 0 := ⟨by decide +kernel, by decide +kernel, by decide +kernel⟩
abbrev rmX10_hashCode (mc ms : Nat) : Room := { frames := 11, cells := mc, slots := ms, locals := 180 }
def wX10_hashCodeb0 (G : gE) (P : Int32 → hSt → Prop) (PX : Nat → Nat → hSt → Prop)  (v0 : Option Nat) (z : hSt) : Prop :=
  gtR z v0 [9] 0 (fun x1 => (rcv z x1 5 ∧ wX6_hashCode G (fun x3 z2 => gtI z2 v0 [9] 1 (fun x4 => P ((31 * x3) + x4) z2)) PX x1  z))
def wX10_hashCode (G : gE) (P : Int32 → hSt → Prop) (PX : Nat → Nat → hSt → Prop) (v0 : Option Nat) (z : hSt) : Prop := wX10_hashCodeb0 G P PX v0 z
section
variable {p : Program} {l : Launch} {e : Env} {s : State} {m : MethodId} {args : Array Value} {below : List Frame} {meth : Method} {c : Code} {G : gE} {mc ms : Nat} {P : Int32 → hSt → Prop} {PX : Nat → Nat → hSt → Prop}
theorem kX10_hashCodeb0 (C : xC G p l s m args meth c cX10_hashCode 1 "ExcuseLedger$Story") (hr : meth.sig.returnType = (Option.some Jvm.ClassFile.FieldType.int)) (hin : meth.name = "hashCode") (hT : ∀ x ∈ c.exceptionTable.toList, False) (hmc : mc = gL G - s.heap.size ∧ ms = gU G - hsum s.heap)   {v0 : Option Nat} {z : hSt} (hw : wX10_hashCodeb0 G P PX  v0 z) : kt G p l e (rmX10_hashCode mc ms) s m args below meth c 1 (vx_MQ below (cQ G (pI P)) (cX G PX) args s mc ms (gF G)) 0 [(0, va_rf v0)] [] z := by
  intro H locs ls hS hl
  refine lv_bipush C.1 C.2.1 (v := 31) dX10_hashCode_0 rfl ?_
  refine r_aload_n C.1 C.2.1 dX10_hashCode_2 rfl (lv_at hl 0 rfl) ?_
  refine r_getR C hS fo_9_0 (fl_d C q2171) (fun _ h => h) dX10_hashCode_3 hw (fun x1 hw => ?_)
  refine c_V C hS hmc hl.1 (ci := 5) rfl hw.1 (kX6_hashCode C.2.2.2.2.2.2.1) hw.2 (lw_V q924 q915 q3519 q90 q916) ⟨rfl, hdX6_hashCode⟩ ⟨Nat.le_of_ble_eq_true rfl, Nat.le_of_ble_eq_true rfl⟩ (rest := [.int 31]) rfl rfl (Nat.le_of_ble_eq_true rfl) dX10_hashCode_6 (fun ci q z H locs hx hS ht => r_out C hS hmc (fun x hx => (hT x hx).elim) ht hx) (fun v z2 H locs hv hS => ?_)
  obtain ⟨x3, rfl, hw⟩ := hv
  refine lv_imul C.1 C.2.1 dX10_hashCode_9 ?_
  refine r_aload_n C.1 C.2.1 dX10_hashCode_10 rfl (lv_at hl 0 rfl) ?_
  refine r_getI C hS fo_9_1 (fl_d C q2172) (fun _ h => h) dX10_hashCode_11 hw (fun x4 hw => ?_)
  refine lv_iadd C.1 C.2.1 dX10_hashCode_14 ?_
  exact r_iret C hS hmc hr dX10_hashCode_15 hw
end
theorem kX10_hashCode {l : Launch} (hl : l.stackTraces = false) {G : gE} {P : Int32 → hSt → Prop} {PX : Nat → Nat → hSt → Prop} {v0 : Option Nat} {z : hSt} : cM l G yX10_hashCode (ws_ yX10_hashCode cX10_hashCode 1 (Option.some Jvm.ClassFile.FieldType.int)) 11 180 z [va_rf v0] (wX10_hashCode G P PX v0 z) (pI P) PX := by
  refine m_of hl (plainFor_of_name (by decide)) (by rw [lg_sl1 (va_rf_cat _)]; exact Nat.le_of_ble_eq_true rfl) ?_
  intro p e s m args below meth c C hr hin hT hmc hw
  rw [lv_args1 (va_rf_cat _)]
  intro H locs ls hS hl
  exact kX10_hashCodeb0 C hr hin hT hmc hw H locs ls hS (lv_sub hl [0] rfl)
theorem hdX10_hashCode : yX10_hashCode.cls ≠ "java/lang/invoke/MethodHandle" ∧ yX10_hashCode.cls ≠ "java/lang/invoke/VarHandle" ∧ (parseMethodDescriptor yX10_hashCode.desc).map (fun d => d.parameters.length) = some 0 := ⟨by decide +kernel, by decide +kernel, by decide +kernel⟩
abbrev rmX6_isDog (mc ms : Nat) : Room := { frames := 10, cells := mc, slots := ms, locals := 160 }
def wX6_isDogb0 (G : gE) (P : Int32 → hSt → Prop) (PX : Nat → Nat → hSt → Prop)  (v0 : Option Nat) (z : hSt) : Prop :=
  gtI z v0 [5] 0 (fun x1 => ((¬ x1 = 0 → (okN .boolean 0 ∧ P 0 z)) ∧ (x1 = 0 → (okN .boolean 1 ∧ P 1 z))))
def wX6_isDog (G : gE) (P : Int32 → hSt → Prop) (PX : Nat → Nat → hSt → Prop) (v0 : Option Nat) (z : hSt) : Prop := wX6_isDogb0 G P PX v0 z
section
variable {p : Program} {l : Launch} {e : Env} {s : State} {m : MethodId} {args : Array Value} {below : List Frame} {meth : Method} {c : Code} {G : gE} {mc ms : Nat} {P : Int32 → hSt → Prop} {PX : Nat → Nat → hSt → Prop}
theorem kX6_isDogb0 (C : xC G p l s m args meth c cX6_isDog 1 "ExcuseLedger$Name") (hr : meth.sig.returnType = (Option.some Jvm.ClassFile.FieldType.boolean)) (hin : meth.name = "isDog") (hT : ∀ x ∈ c.exceptionTable.toList, False) (hmc : mc = gL G - s.heap.size ∧ ms = gU G - hsum s.heap)   {v0 : Option Nat} {z : hSt} (hw : wX6_isDogb0 G P PX  v0 z) : kt G p l e (rmX6_isDog mc ms) s m args below meth c 1 (vx_MQ below (cQ G (pI P)) (cX G PX) args s mc ms (gF G)) 0 [(0, va_rf v0)] [] z := by
  intro H locs ls hS hl
  refine r_aload_n C.1 C.2.1 dX6_isDog_0 rfl (lv_at hl 0 rfl) ?_
  refine r_getI C hS fo_5_0 (fl_d C q2334) (fun _ h => h) dX6_isDog_1 hw (fun x1 hw => ?_)
  refine lv_if_ne C.1 C.2.1 dX6_isDog_4 rfl (fun h => ?_) (fun h => ?_)
  · have hw := hw.1 h
    refine lv_iconst C.1 C.2.1 (v := 0) dX6_isDog_11 rfl ?_
    exact r_zret C hS hmc hr dX6_isDog_12 hw
  · have hw := hw.2 h
    refine lv_iconst C.1 C.2.1 (v := 1) dX6_isDog_7 rfl ?_
    refine lv_goto C.1 C.2.1 dX6_isDog_8 rfl ?_
    exact r_zret C hS hmc hr dX6_isDog_12 hw
end
theorem kX6_isDog {l : Launch} (hl : l.stackTraces = false) {G : gE} {P : Int32 → hSt → Prop} {PX : Nat → Nat → hSt → Prop} {v0 : Option Nat} {z : hSt} : cM l G yX6_isDog (ws_ yX6_isDog cX6_isDog 1 (Option.some Jvm.ClassFile.FieldType.boolean)) 10 160 z [va_rf v0] (wX6_isDog G P PX v0 z) (pI P) PX := by
  refine m_of hl (plainFor_of_name (by decide)) (by rw [lg_sl1 (va_rf_cat _)]; exact Nat.le_of_ble_eq_true rfl) ?_
  intro p e s m args below meth c C hr hin hT hmc hw
  rw [lv_args1 (va_rf_cat _)]
  intro H locs ls hS hl
  exact kX6_isDogb0 C hr hin hT hmc hw H locs ls hS (lv_sub hl [0] rfl)
theorem hdX6_isDog : yX6_isDog.cls ≠ "java/lang/invoke/MethodHandle" ∧ yX6_isDog.cls ≠ "java/lang/invoke/VarHandle" ∧ (parseMethodDescriptor yX6_isDog.desc).map (fun d => d.parameters.length) = some 0 := ⟨by decide +kernel, by decide +kernel, by decide +kernel⟩
abbrev rmX6_isWeather (mc ms : Nat) : Room := { frames := 10, cells := mc, slots := ms, locals := 160 }
def wX6_isWeatherb0 (G : gE) (P : Int32 → hSt → Prop) (PX : Nat → Nat → hSt → Prop)  (v0 : Option Nat) (z : hSt) : Prop :=
  gtI z v0 [5] 0 (fun x1 => ((¬ x1 = 1 → (okN .boolean 0 ∧ P 0 z)) ∧ (x1 = 1 → (okN .boolean 1 ∧ P 1 z))))
def wX6_isWeather (G : gE) (P : Int32 → hSt → Prop) (PX : Nat → Nat → hSt → Prop) (v0 : Option Nat) (z : hSt) : Prop := wX6_isWeatherb0 G P PX v0 z
section
variable {p : Program} {l : Launch} {e : Env} {s : State} {m : MethodId} {args : Array Value} {below : List Frame} {meth : Method} {c : Code} {G : gE} {mc ms : Nat} {P : Int32 → hSt → Prop} {PX : Nat → Nat → hSt → Prop}
theorem kX6_isWeatherb0 (C : xC G p l s m args meth c cX6_isWeather 1 "ExcuseLedger$Name") (hr : meth.sig.returnType = (Option.some Jvm.ClassFile.FieldType.boolean)) (hin : meth.name = "isWeather") (hT : ∀ x ∈ c.exceptionTable.toList, False) (hmc : mc = gL G - s.heap.size ∧ ms = gU G - hsum s.heap)   {v0 : Option Nat} {z : hSt} (hw : wX6_isWeatherb0 G P PX  v0 z) : kt G p l e (rmX6_isWeather mc ms) s m args below meth c 1 (vx_MQ below (cQ G (pI P)) (cX G PX) args s mc ms (gF G)) 0 [(0, va_rf v0)] [] z := by
  intro H locs ls hS hl
  refine r_aload_n C.1 C.2.1 dX6_isWeather_0 rfl (lv_at hl 0 rfl) ?_
  refine r_getI C hS fo_5_0 (fl_d C q2334) (fun _ h => h) dX6_isWeather_1 hw (fun x1 hw => ?_)
  refine lv_iconst C.1 C.2.1 (v := 1) dX6_isWeather_4 rfl ?_
  refine lv_icmp_ne C.1 C.2.1 dX6_isWeather_5 rfl (fun h => ?_) (fun h => ?_)
  · have hw := hw.1 h
    refine lv_iconst C.1 C.2.1 (v := 0) dX6_isWeather_12 rfl ?_
    exact r_zret C hS hmc hr dX6_isWeather_13 hw
  · have hw := hw.2 h
    refine lv_iconst C.1 C.2.1 (v := 1) dX6_isWeather_8 rfl ?_
    refine lv_goto C.1 C.2.1 dX6_isWeather_9 rfl ?_
    exact r_zret C hS hmc hr dX6_isWeather_13 hw
end
theorem kX6_isWeather {l : Launch} (hl : l.stackTraces = false) {G : gE} {P : Int32 → hSt → Prop} {PX : Nat → Nat → hSt → Prop} {v0 : Option Nat} {z : hSt} : cM l G yX6_isWeather (ws_ yX6_isWeather cX6_isWeather 1 (Option.some Jvm.ClassFile.FieldType.boolean)) 10 160 z [va_rf v0] (wX6_isWeather G P PX v0 z) (pI P) PX := by
  refine m_of hl (plainFor_of_name (by decide)) (by rw [lg_sl1 (va_rf_cat _)]; exact Nat.le_of_ble_eq_true rfl) ?_
  intro p e s m args below meth c C hr hin hT hmc hw
  rw [lv_args1 (va_rf_cat _)]
  intro H locs ls hS hl
  exact kX6_isWeatherb0 C hr hin hT hmc hw H locs ls hS (lv_sub hl [0] rfl)
theorem hdX6_isWeather : yX6_isWeather.cls ≠ "java/lang/invoke/MethodHandle" ∧ yX6_isWeather.cls ≠ "java/lang/invoke/VarHandle" ∧ (parseMethodDescriptor yX6_isWeather.desc).map (fun d => d.parameters.length) = some 0 := ⟨by decide +kernel, by decide +kernel, by decide +kernel⟩
abbrev rmX10_init (mc ms : Nat) : Room := { frames := 10, cells := mc, slots := ms, locals := 160 }
def wX10_initb0 (G : gE) (P : hSt → Prop) (PX : Nat → Nat → hSt → Prop)  (v0 : Option Nat) (v1 : Option Nat) (v2 : Int32) (z : hSt) : Prop :=
  (nnl v0 ∧ ptV G z v0 [9] 0 (va_rf v1) (fun z1 => ptV G z1 v0 [9] 1 (.int v2) (fun z2 => P z2)))
def wX10_init (G : gE) (P : hSt → Prop) (PX : Nat → Nat → hSt → Prop) (v0 : Option Nat) (v1 : Option Nat) (v2 : Int32) (z : hSt) : Prop := wX10_initb0 G P PX v0 v1 v2 z
section
variable {p : Program} {l : Launch} {e : Env} {s : State} {m : MethodId} {args : Array Value} {below : List Frame} {meth : Method} {c : Code} {G : gE} {mc ms : Nat} {P : hSt → Prop} {PX : Nat → Nat → hSt → Prop}
theorem kX10_initb0 (C : xC G p l s m args meth c cX10_init 3 "ExcuseLedger$Story") (hr : meth.sig.returnType = (Option.none : Option Jvm.ClassFile.FieldType)) (hin : meth.name = "<init>") (hT : ∀ x ∈ c.exceptionTable.toList, False) (hmc : mc = gL G - s.heap.size ∧ ms = gU G - hsum s.heap)   {v0 : Option Nat} {v1 : Option Nat} {v2 : Int32} {z : hSt} (hw : wX10_initb0 G P PX  v0 v1 v2 z) : kt G p l e (rmX10_init mc ms) s m args below meth c 3 (vx_MQ below (cQ G (pV P)) (cX G PX) args s mc ms (gF G)) 0 [(0, va_rf v0), (1, va_rf v1), (2, .int v2)] [] z := by
  intro H locs ls hS hl
  refine r_aload_n C.1 C.2.1 dX10_init_0 rfl (lv_at hl 0 rfl) ?_
  refine r_objInit C hl.1 hw.1 q2170 q140 q141 rfl dX10_init_1 (Nat.le_of_ble_eq_true rfl) (Nat.le_of_ble_eq_true rfl) ?_
  have hw := hw.2
  refine r_aload_n C.1 C.2.1 dX10_init_4 rfl (lv_at hl 0 rfl) ?_
  refine r_aload_n C.1 C.2.1 dX10_init_5 rfl (lv_at hl 1 rfl) ?_
  refine r_putF C hS fo_9_0 (C.2.2.2.2.1 _ q2171) (fun _ h => h) hin rfl (narrow_rfO _ _) (fits_rfO _ _) dX10_init_6 hw (fun z1 H locs hw hS => ?_)
  refine r_aload_n C.1 C.2.1 dX10_init_9 rfl (lv_at hl 0 rfl) ?_
  refine lv_iload_n C.1 C.2.1 dX10_init_10 rfl (lv_at hl 2 rfl) ?_
  refine r_putF C hS fo_9_1 (C.2.2.2.2.1 _ q2172) (fun _ h => h) hin rfl rfl rfl dX10_init_11 hw (fun z2 H locs hw hS => ?_)
  exact r_vret C hS hmc hr dX10_init_14 hw
end
theorem kX10_init {l : Launch} (hl : l.stackTraces = false) {G : gE} {P : hSt → Prop} {PX : Nat → Nat → hSt → Prop} {v0 : Option Nat} {v1 : Option Nat} {v2 : Int32} {z : hSt} : cM l G yX10_init (ws_ yX10_init cX10_init 3 (Option.none : Option Jvm.ClassFile.FieldType)) 10 160 z [va_rf v0, va_rf v1, .int v2] (wX10_init G P PX v0 v1 v2 z) (pV P) PX := by
  refine m_of hl (plainFor_of_name (by decide)) (by rw [lg_sl1 (va_rf_cat _), lg_sl1 (va_rf_cat _), lg_sl1 rfl]; exact Nat.le_of_ble_eq_true rfl) ?_
  intro p e s m args below meth c C hr hin hT hmc hw
  rw [lv_args1 (va_rf_cat _), lv_args1 (va_rf_cat _), lv_args1 rfl]
  intro H locs ls hS hl
  exact kX10_initb0 C hr hin hT hmc hw H locs ls hS (lv_sub hl [0, 1, 2] rfl)
theorem hdX10_init : yX10_init.cls ≠ "java/lang/invoke/MethodHandle" ∧ yX10_init.cls ≠ "java/lang/invoke/VarHandle" ∧ (parseMethodDescriptor yX10_init.desc).map (fun d => d.parameters.length) = some 2 := ⟨by decide +kernel, by decide +kernel, by decide +kernel⟩
abbrev rmX6_init (mc ms : Nat) : Room := { frames := 10, cells := mc, slots := ms, locals := 160 }
def wX6_initb0 (G : gE) (P : hSt → Prop) (PX : Nat → Nat → hSt → Prop)  (v0 : Option Nat) (v1 : Int32) (v2 : Int32) (z : hSt) : Prop :=
  (nnl v0 ∧ ptV G z v0 [5] 0 (.int v1) (fun z1 => ptV G z1 v0 [5] 1 (.int v2) (fun z2 => P z2)))
def wX6_init (G : gE) (P : hSt → Prop) (PX : Nat → Nat → hSt → Prop) (v0 : Option Nat) (v1 : Int32) (v2 : Int32) (z : hSt) : Prop := wX6_initb0 G P PX v0 v1 v2 z
section
variable {p : Program} {l : Launch} {e : Env} {s : State} {m : MethodId} {args : Array Value} {below : List Frame} {meth : Method} {c : Code} {G : gE} {mc ms : Nat} {P : hSt → Prop} {PX : Nat → Nat → hSt → Prop}
theorem kX6_initb0 (C : xC G p l s m args meth c cX6_init 3 "ExcuseLedger$Name") (hr : meth.sig.returnType = (Option.none : Option Jvm.ClassFile.FieldType)) (hin : meth.name = "<init>") (hT : ∀ x ∈ c.exceptionTable.toList, False) (hmc : mc = gL G - s.heap.size ∧ ms = gU G - hsum s.heap)   {v0 : Option Nat} {v1 : Int32} {v2 : Int32} {z : hSt} (hw : wX6_initb0 G P PX  v0 v1 v2 z) : kt G p l e (rmX6_init mc ms) s m args below meth c 3 (vx_MQ below (cQ G (pV P)) (cX G PX) args s mc ms (gF G)) 0 [(0, va_rf v0), (1, .int v1), (2, .int v2)] [] z := by
  intro H locs ls hS hl
  refine r_aload_n C.1 C.2.1 dX6_init_0 rfl (lv_at hl 0 rfl) ?_
  refine r_objInit C hl.1 hw.1 q2333 q140 q141 rfl dX6_init_1 (Nat.le_of_ble_eq_true rfl) (Nat.le_of_ble_eq_true rfl) ?_
  have hw := hw.2
  refine r_aload_n C.1 C.2.1 dX6_init_4 rfl (lv_at hl 0 rfl) ?_
  refine lv_iload_n C.1 C.2.1 dX6_init_5 rfl (lv_at hl 1 rfl) ?_
  refine r_putF C hS fo_5_0 (C.2.2.2.2.1 _ q2334) (fun _ h => h) hin rfl rfl rfl dX6_init_6 hw (fun z1 H locs hw hS => ?_)
  refine r_aload_n C.1 C.2.1 dX6_init_9 rfl (lv_at hl 0 rfl) ?_
  refine lv_iload_n C.1 C.2.1 dX6_init_10 rfl (lv_at hl 2 rfl) ?_
  refine r_putF C hS fo_5_1 (C.2.2.2.2.1 _ q2337) (fun _ h => h) hin rfl rfl rfl dX6_init_11 hw (fun z2 H locs hw hS => ?_)
  exact r_vret C hS hmc hr dX6_init_14 hw
end
theorem kX6_init {l : Launch} (hl : l.stackTraces = false) {G : gE} {P : hSt → Prop} {PX : Nat → Nat → hSt → Prop} {v0 : Option Nat} {v1 : Int32} {v2 : Int32} {z : hSt} : cM l G yX6_init (ws_ yX6_init cX6_init 3 (Option.none : Option Jvm.ClassFile.FieldType)) 10 160 z [va_rf v0, .int v1, .int v2] (wX6_init G P PX v0 v1 v2 z) (pV P) PX := by
  refine m_of hl (plainFor_of_name (by decide)) (by rw [lg_sl1 (va_rf_cat _), lg_sl1 rfl, lg_sl1 rfl]; exact Nat.le_of_ble_eq_true rfl) ?_
  intro p e s m args below meth c C hr hin hT hmc hw
  rw [lv_args1 (va_rf_cat _), lv_args1 rfl, lv_args1 rfl]
  intro H locs ls hS hl
  exact kX6_initb0 C hr hin hT hmc hw H locs ls hS (lv_sub hl [0, 1, 2] rfl)
theorem hdX6_init : yX6_init.cls ≠ "java/lang/invoke/MethodHandle" ∧ yX6_init.cls ≠ "java/lang/invoke/VarHandle" ∧ (parseMethodDescriptor yX6_init.desc).map (fun d => d.parameters.length) = some 2 := ⟨by decide +kernel, by decide +kernel, by decide +kernel⟩
abbrev rmX6_told (mc ms : Nat) : Room := { frames := 16, cells := mc, slots := ms, locals := 292 }
def wX6_toldb0 (G : gE) (P : Option Nat → hSt → Prop) (PX : Nat → Nat → hSt → Prop)  (v0 : Option Nat) (z : hSt) : Prop :=
  nwO G z 16 4 dfJ9 (fun x1 z2 => (nnl (some x1) ∧ wJ9_init G (fun z3 => (rcv z3 (some x1) 16 ∧ wJ9_append G (fun x5 z4 => gtI z4 v0 [5] 0 (fun x6 => (rcv z4 (some (gA G 15)) 17 ∧ wJ10_charAt G (fun x8 z7 => (rcv z7 x5 16 ∧ wJ9_append_3 G (fun x10 z9 => gtI z9 v0 [5] 1 (fun x11 => (rcv z9 x10 16 ∧ wJ9_append_2 G (fun x13 z12 => (rcv z12 x13 16 ∧ wJ9_toString G (fun x15 z14 => P x15 z14) PX x13  z12)) PX x10 x11 z9))) PX x5 x8 z7)) PX (some (gA G 15)) x6 z4))) PX (some x1) (some (gA G 0)) z3)) PX (some x1)  z2))
def wX6_told (G : gE) (P : Option Nat → hSt → Prop) (PX : Nat → Nat → hSt → Prop) (v0 : Option Nat) (z : hSt) : Prop := wX6_toldb0 G P PX v0 z
section
variable {p : Program} {l : Launch} {e : Env} {s : State} {m : MethodId} {args : Array Value} {below : List Frame} {meth : Method} {c : Code} {G : gE} {mc ms : Nat} {P : Option Nat → hSt → Prop} {PX : Nat → Nat → hSt → Prop}
theorem kX6_toldb0 (C : xC G p l s m args meth c cX6_told 1 "ExcuseLedger$Name") (hr : meth.sig.returnType = (Option.some (Jvm.ClassFile.FieldType.object "java/lang/String"))) (hin : meth.name = "told") (hT : ∀ x ∈ c.exceptionTable.toList, False) (hmc : mc = gL G - s.heap.size ∧ ms = gU G - hsum s.heap)   {v0 : Option Nat} {z : hSt} (hw : wX6_toldb0 G P PX  v0 z) : kt G p l e (rmX6_told mc ms) s m args below meth c 1 (vx_MQ below (cQ G (pR P)) (cX G PX) args s mc ms (gF G)) 0 [(0, va_rf v0)] [] z := by
  intro H locs ls hS hl
  refine r_new C hS (ci := 16) rfl in_J9 tyJ9_ok q2691 q356 q80 rfl dfJ9_ok hmc dX6_told_0 hw (fun x1 z2 H locs hw hS => ?_)
  refine lv_dup C.1 C.2.1 dX6_told_3 (va_rf_cat _) ?_
  refine c_I C hS hmc hl.1 hw.1 (kJ9_init C.2.2.2.2.2.2.1) hw.2 (lw_meth q359) q80 q2692 q358 rfl hdJ9_init ⟨Nat.le_of_ble_eq_true rfl, Nat.le_of_ble_eq_true rfl⟩ (rest := [va_rf (some x1)]) rfl rfl (Nat.le_of_ble_eq_true rfl) dX6_told_4 (fun ci q z H locs hx hS ht => r_out C hS hmc (fun x hx => (hT x hx).elim) ht hx) (fun v z3 H locs hv hS => ?_)
  obtain ⟨rfl, hw⟩ := hv
  refine r_ldcS C (k := 0) (tx := "") (by decide +kernel) dX6_told_7 ?_
  refine c_V C hS hmc hl.1 (ci := 16) rfl hw.1 (kJ9_append C.2.2.2.2.2.2.1) hw.2 (lw_V q2694 q1010 q1011 q80 q1012) ⟨rfl, hdJ9_append⟩ ⟨Nat.le_of_ble_eq_true rfl, Nat.le_of_ble_eq_true rfl⟩ (rest := []) rfl rfl (Nat.le_of_ble_eq_true rfl) dX6_told_9 (fun ci q z H locs hx hS ht => r_out C hS hmc (fun x hx => (hT x hx).elim) ht hx) (fun v z4 H locs hv hS => ?_)
  obtain ⟨x5, rfl, hw⟩ := hv
  refine r_ldcS C (k := 15) (tx := "dwit") (by decide +kernel) dX6_told_12 ?_
  refine r_aload_n C.1 C.2.1 dX6_told_14 rfl (lv_at hl 0 rfl) ?_
  refine r_getI C hS fo_5_0 (fl_d C q2334) (fun _ h => h) dX6_told_15 hw (fun x6 hw => ?_)
  refine c_V C hS hmc hl.1 (ci := 17) rfl hw.1 (kJ10_charAt C.2.2.2.2.2.2.1) hw.2 (lw_V q2696 q2697 q2698 q81 q2699) ⟨rfl, hdJ10_charAt⟩ ⟨Nat.le_of_ble_eq_true rfl, Nat.le_of_ble_eq_true rfl⟩ (rest := [va_rf x5]) rfl rfl (Nat.le_of_ble_eq_true rfl) dX6_told_18 (fun ci q z H locs hx hS ht => r_out C hS hmc (fun x hx => (hT x hx).elim) ht hx) (fun v z7 H locs hv hS => ?_)
  obtain ⟨x8, rfl, hw⟩ := hv
  refine c_V C hS hmc hl.1 (ci := 16) rfl hw.1 (kJ9_append_3 C.2.2.2.2.2.2.1) hw.2 (lw_V q2714 q2715 q2716 q80 q2717) ⟨rfl, hdJ9_append_3⟩ ⟨Nat.le_of_ble_eq_true rfl, Nat.le_of_ble_eq_true rfl⟩ (rest := []) rfl rfl (Nat.le_of_ble_eq_true rfl) dX6_told_21 (fun ci q z H locs hx hS ht => r_out C hS hmc (fun x hx => (hT x hx).elim) ht hx) (fun v z9 H locs hv hS => ?_)
  obtain ⟨x10, rfl, hw⟩ := hv
  refine r_aload_n C.1 C.2.1 dX6_told_24 rfl (lv_at hl 0 rfl) ?_
  refine r_getI C hS fo_5_1 (fl_d C q2337) (fun _ h => h) dX6_told_25 hw (fun x11 hw => ?_)
  refine c_V C hS hmc hl.1 (ci := 16) rfl hw.1 (kJ9_append_2 C.2.2.2.2.2.2.1) hw.2 (lw_V q2727 q1120 q1121 q80 q1122) ⟨rfl, hdJ9_append_2⟩ ⟨Nat.le_of_ble_eq_true rfl, Nat.le_of_ble_eq_true rfl⟩ (rest := []) rfl rfl (Nat.le_of_ble_eq_true rfl) dX6_told_28 (fun ci q z H locs hx hS ht => r_out C hS hmc (fun x hx => (hT x hx).elim) ht hx) (fun v z12 H locs hv hS => ?_)
  obtain ⟨x13, rfl, hw⟩ := hv
  refine c_V C hS hmc hl.1 (ci := 16) rfl hw.1 (kJ9_toString C.2.2.2.2.2.2.1) hw.2 (lw_V q2728 q1145 q1146 q80 q1147) ⟨rfl, hdJ9_toString⟩ ⟨Nat.le_of_ble_eq_true rfl, Nat.le_of_ble_eq_true rfl⟩ (rest := []) rfl rfl (Nat.le_of_ble_eq_true rfl) dX6_told_31 (fun ci q z H locs hx hS ht => r_out C hS hmc (fun x hx => (hT x hx).elim) ht hx) (fun v z14 H locs hv hS => ?_)
  obtain ⟨x15, rfl, hw⟩ := hv
  exact r_aret C hS hmc hr (Or.inl ⟨_, rfl⟩) dX6_told_34 hw
end
theorem kX6_told {l : Launch} (hl : l.stackTraces = false) {G : gE} {P : Option Nat → hSt → Prop} {PX : Nat → Nat → hSt → Prop} {v0 : Option Nat} {z : hSt} : cM l G yX6_told (ws_ yX6_told cX6_told 1 (Option.some (Jvm.ClassFile.FieldType.object "java/lang/String"))) 16 292 z [va_rf v0] (wX6_told G P PX v0 z) (pR P) PX := by
  refine m_of hl (plainFor_of_name (by decide)) (by rw [lg_sl1 (va_rf_cat _)]; exact Nat.le_of_ble_eq_true rfl) ?_
  intro p e s m args below meth c C hr hin hT hmc hw
  rw [lv_args1 (va_rf_cat _)]
  intro H locs ls hS hl
  exact kX6_toldb0 C hr hin hT hmc hw H locs ls hS (lv_sub hl [0] rfl)
theorem hdX6_told : yX6_told.cls ≠ "java/lang/invoke/MethodHandle" ∧ yX6_told.cls ≠ "java/lang/invoke/VarHandle" ∧ (parseMethodDescriptor yX6_told.desc).map (fun d => d.parameters.length) = some 0 := ⟨by decide +kernel, by decide +kernel, by decide +kernel⟩
