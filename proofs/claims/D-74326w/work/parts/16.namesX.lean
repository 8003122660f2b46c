/-! java/lang/Enum -/
set_option maxRecDepth 100000
def RJ0 : String := "java/lang/Enum"
abbrev cJ0_compareTo : ByteArray := prog_32_method_15_code
def yJ0_compareTo : MethodName := ⟨RJ0, "compareTo", "(Ljava/lang/Object;)I"⟩
def dkwJ0_compareTo_0 : List UInt8 := [42, 43, 192, 0, 2, 182, 0, 101, 172]
abbrev dktJ0_compareTo_0 : List UInt8 := dkwJ0_compareTo_0 ++ []
theorem dksJ0_compareTo_0 : cJ0_compareTo.data.toList.drop 0 = dktJ0_compareTo_0 := by decide +kernel
theorem dJ0_compareTo_0 : decode cJ0_compareTo 0 = .ok (.aload_n 0, 1) := dk_42 (dk_at dksJ0_compareTo_0 0 rfl rfl)
theorem dJ0_compareTo_1 : decode cJ0_compareTo 1 = .ok (.aload_n 1, 1) := dk_43 (dk_at dksJ0_compareTo_0 1 rfl rfl)
theorem dJ0_compareTo_2 : decode cJ0_compareTo 2 = .ok (.checkcast 2, 3) := dk_192 0 2 (dk_at dksJ0_compareTo_0 2 rfl rfl)
theorem dJ0_compareTo_5 : decode cJ0_compareTo 5 = .ok (.invokevirtual 101, 3) := dk_182 0 101 (dk_at dksJ0_compareTo_0 5 rfl rfl)
theorem dJ0_compareTo_8 : decode cJ0_compareTo 8 = .ok (.ireturn, 1) := dk_172 (dk_at dksJ0_compareTo_0 8 rfl rfl)
abbrev cJ0_compareTo_2 : ByteArray := prog_32_method_8_code
def yJ0_compareTo_2 : MethodName := ⟨RJ0, "compareTo", "(Ljava/lang/Enum;)I"⟩
def dkwJ0_compareTo_2_1 : List UInt8 := [165, 0, 11, 187, 0, 36, 89, 183, 0, 38, 191, 45, 180, 0, 7, 44, 180, 0, 7, 100, 172]
abbrev dktJ0_compareTo_2_1 : List UInt8 := dkwJ0_compareTo_2_1 ++ []
def dkwJ0_compareTo_2_0 : List UInt8 := [43, 77, 42, 78, 45, 182, 0, 29, 44, 182, 0, 29, 165, 0, 22, 45, 182, 0, 33, 44, 182, 0, 33]
abbrev dktJ0_compareTo_2_0 : List UInt8 := dkwJ0_compareTo_2_0 ++ dktJ0_compareTo_2_1
theorem dksJ0_compareTo_2_0 : cJ0_compareTo_2.data.toList.drop 0 = dktJ0_compareTo_2_0 := by decide +kernel
theorem dksJ0_compareTo_2_1 : cJ0_compareTo_2.data.toList.drop 23 = dktJ0_compareTo_2_1 := dk_seg dksJ0_compareTo_2_0 23 rfl rfl
theorem dJ0_compareTo_2_0 : decode cJ0_compareTo_2 0 = .ok (.aload_n 1, 1) := dk_43 (dk_at dksJ0_compareTo_2_0 0 rfl rfl)
theorem dJ0_compareTo_2_1 : decode cJ0_compareTo_2 1 = .ok (.astore_n 2, 1) := dk_77 (dk_at dksJ0_compareTo_2_0 1 rfl rfl)
theorem dJ0_compareTo_2_2 : decode cJ0_compareTo_2 2 = .ok (.aload_n 0, 1) := dk_42 (dk_at dksJ0_compareTo_2_0 2 rfl rfl)
theorem dJ0_compareTo_2_3 : decode cJ0_compareTo_2 3 = .ok (.astore_n 3, 1) := dk_78 (dk_at dksJ0_compareTo_2_0 3 rfl rfl)
theorem dJ0_compareTo_2_4 : decode cJ0_compareTo_2 4 = .ok (.aload_n 3, 1) := dk_45 (dk_at dksJ0_compareTo_2_0 4 rfl rfl)
theorem dJ0_compareTo_2_5 : decode cJ0_compareTo_2 5 = .ok (.invokevirtual 29, 3) := dk_182 0 29 (dk_at dksJ0_compareTo_2_0 5 rfl rfl)
theorem dJ0_compareTo_2_8 : decode cJ0_compareTo_2 8 = .ok (.aload_n 2, 1) := dk_44 (dk_at dksJ0_compareTo_2_0 8 rfl rfl)
theorem dJ0_compareTo_2_9 : decode cJ0_compareTo_2 9 = .ok (.invokevirtual 29, 3) := dk_182 0 29 (dk_at dksJ0_compareTo_2_0 9 rfl rfl)
theorem dJ0_compareTo_2_12 : decode cJ0_compareTo_2 12 = .ok (.if_acmp .eq 22, 3) := dk_165 0 22 (dk_at dksJ0_compareTo_2_0 12 rfl rfl)
theorem dJ0_compareTo_2_15 : decode cJ0_compareTo_2 15 = .ok (.aload_n 3, 1) := dk_45 (dk_at dksJ0_compareTo_2_0 15 rfl rfl)
theorem dJ0_compareTo_2_16 : decode cJ0_compareTo_2 16 = .ok (.invokevirtual 33, 3) := dk_182 0 33 (dk_at dksJ0_compareTo_2_0 16 rfl rfl)
theorem dJ0_compareTo_2_19 : decode cJ0_compareTo_2 19 = .ok (.aload_n 2, 1) := dk_44 (dk_at dksJ0_compareTo_2_0 19 rfl rfl)
theorem dJ0_compareTo_2_20 : decode cJ0_compareTo_2 20 = .ok (.invokevirtual 33, 3) := dk_182 0 33 (dk_at dksJ0_compareTo_2_0 20 rfl rfl)
theorem dJ0_compareTo_2_23 : decode cJ0_compareTo_2 23 = .ok (.if_acmp .eq 11, 3) := dk_165 0 11 (dk_at dksJ0_compareTo_2_1 0 rfl rfl)
theorem dJ0_compareTo_2_26 : decode cJ0_compareTo_2 26 = .ok (.new 36, 3) := dk_187 0 36 (dk_at dksJ0_compareTo_2_1 3 rfl rfl)
theorem dJ0_compareTo_2_29 : decode cJ0_compareTo_2 29 = .ok (.dup, 1) := dk_89 (dk_at dksJ0_compareTo_2_1 6 rfl rfl)
theorem dJ0_compareTo_2_30 : decode cJ0_compareTo_2 30 = .ok (.invokespecial 38, 3) := dk_183 0 38 (dk_at dksJ0_compareTo_2_1 7 rfl rfl)
theorem dJ0_compareTo_2_33 : decode cJ0_compareTo_2 33 = .ok (.athrow, 1) := dk_191 (dk_at dksJ0_compareTo_2_1 10 rfl rfl)
theorem dJ0_compareTo_2_34 : decode cJ0_compareTo_2 34 = .ok (.aload_n 3, 1) := dk_45 (dk_at dksJ0_compareTo_2_1 11 rfl rfl)
theorem dJ0_compareTo_2_35 : decode cJ0_compareTo_2 35 = .ok (.getfield 7, 3) := dk_180 0 7 (dk_at dksJ0_compareTo_2_1 12 rfl rfl)
theorem dJ0_compareTo_2_38 : decode cJ0_compareTo_2 38 = .ok (.aload_n 2, 1) := dk_44 (dk_at dksJ0_compareTo_2_1 15 rfl rfl)
theorem dJ0_compareTo_2_39 : decode cJ0_compareTo_2 39 = .ok (.getfield 7, 3) := dk_180 0 7 (dk_at dksJ0_compareTo_2_1 16 rfl rfl)
theorem dJ0_compareTo_2_42 : decode cJ0_compareTo_2 42 = .ok (.isub, 1) := dk_100 (dk_at dksJ0_compareTo_2_1 19 rfl rfl)
theorem dJ0_compareTo_2_43 : decode cJ0_compareTo_2 43 = .ok (.ireturn, 1) := dk_172 (dk_at dksJ0_compareTo_2_1 20 rfl rfl)
abbrev cJ0_getDeclaringClass : ByteArray := prog_32_method_9_code
def yJ0_getDeclaringClass : MethodName := ⟨RJ0, "getDeclaringClass", "()Ljava/lang/Class;"⟩
def dkwJ0_getDeclaringClass_0 : List UInt8 := [42, 182, 0, 29, 76, 43, 182, 0, 39, 77, 44, 18, 2, 166, 0, 7, 43, 167, 0, 4, 44, 176]
abbrev dktJ0_getDeclaringClass_0 : List UInt8 := dkwJ0_getDeclaringClass_0 ++ []
theorem dksJ0_getDeclaringClass_0 : cJ0_getDeclaringClass.data.toList.drop 0 = dktJ0_getDeclaringClass_0 := by decide +kernel
theorem dJ0_getDeclaringClass_0 : decode cJ0_getDeclaringClass 0 = .ok (.aload_n 0, 1) := dk_42 (dk_at dksJ0_getDeclaringClass_0 0 rfl rfl)
theorem dJ0_getDeclaringClass_1 : decode cJ0_getDeclaringClass 1 = .ok (.invokevirtual 29, 3) := dk_182 0 29 (dk_at dksJ0_getDeclaringClass_0 1 rfl rfl)
theorem dJ0_getDeclaringClass_4 : decode cJ0_getDeclaringClass 4 = .ok (.astore_n 1, 1) := dk_76 (dk_at dksJ0_getDeclaringClass_0 4 rfl rfl)
theorem dJ0_getDeclaringClass_5 : decode cJ0_getDeclaringClass 5 = .ok (.aload_n 1, 1) := dk_43 (dk_at dksJ0_getDeclaringClass_0 5 rfl rfl)
theorem dJ0_getDeclaringClass_6 : decode cJ0_getDeclaringClass 6 = .ok (.invokevirtual 39, 3) := dk_182 0 39 (dk_at dksJ0_getDeclaringClass_0 6 rfl rfl)
theorem dJ0_getDeclaringClass_9 : decode cJ0_getDeclaringClass 9 = .ok (.astore_n 2, 1) := dk_77 (dk_at dksJ0_getDeclaringClass_0 9 rfl rfl)
theorem dJ0_getDeclaringClass_10 : decode cJ0_getDeclaringClass 10 = .ok (.aload_n 2, 1) := dk_44 (dk_at dksJ0_getDeclaringClass_0 10 rfl rfl)
theorem dJ0_getDeclaringClass_11 : decode cJ0_getDeclaringClass 11 = .ok (.ldc 2, 2) := dk_18 2 (dk_at dksJ0_getDeclaringClass_0 11 rfl rfl)
theorem dJ0_getDeclaringClass_13 : decode cJ0_getDeclaringClass 13 = .ok (.if_acmp .ne 7, 3) := dk_166 0 7 (dk_at dksJ0_getDeclaringClass_0 13 rfl rfl)
theorem dJ0_getDeclaringClass_16 : decode cJ0_getDeclaringClass 16 = .ok (.aload_n 1, 1) := dk_43 (dk_at dksJ0_getDeclaringClass_0 16 rfl rfl)
theorem dJ0_getDeclaringClass_17 : decode cJ0_getDeclaringClass 17 = .ok (.goto 4, 3) := dk_167 0 4 (dk_at dksJ0_getDeclaringClass_0 17 rfl rfl)
theorem dJ0_getDeclaringClass_20 : decode cJ0_getDeclaringClass 20 = .ok (.aload_n 2, 1) := dk_44 (dk_at dksJ0_getDeclaringClass_0 20 rfl rfl)
theorem dJ0_getDeclaringClass_21 : decode cJ0_getDeclaringClass 21 = .ok (.areturn, 1) := dk_176 (dk_at dksJ0_getDeclaringClass_0 21 rfl rfl)
abbrev cJ0_ordinal : ByteArray := prog_32_method_2_code
def yJ0_ordinal : MethodName := ⟨RJ0, "ordinal", "()I"⟩
theorem dJ0_ordinal_0 : decode cJ0_ordinal 0 = .ok (.aload_n 0, 1) := by decide +kernel
theorem dJ0_ordinal_1 : decode cJ0_ordinal 1 = .ok (.getfield 7, 3) := by decide +kernel
theorem dJ0_ordinal_4 : decode cJ0_ordinal 4 = .ok (.ireturn, 1) := by decide +kernel
theorem q103 : (Jvm.Cond.initialized "java/lang/Enum") ∈ lw_all := lw_g (lw_at lw_m1 2 rfl) rfl
theorem q1044 : (Jvm.Cond.instanceMethod ({ cls := "java/lang/Enum", name := "compareTo", desc := "(Ljava/lang/Object;)I" } : Jvm.MethodName)) ∈ lw_all := lw_g (lw_at lw_m4 223 rfl) rfl
theorem q1045 : (Jvm.Cond.publicMethod ({ cls := "java/lang/Enum", name := "compareTo", desc := "(Ljava/lang/Object;)I" } : Jvm.MethodName)) ∈ lw_tbl := lw_at lw_m4 224 rfl
theorem q1046 : (Jvm.Cond.code ({ cls := "java/lang/Enum", name := "compareTo", desc := "(Ljava/lang/Object;)I" } : Jvm.MethodName) prog_32_method_15_code (2 : Nat) (Option.some Jvm.ClassFile.FieldType.int)) ∈ lw_all := lw_g (lw_at lw_m4 225 rfl) rfl
theorem q1047 : (Jvm.Cond.classLink "java/lang/Enum" (2 : Nat) "java/lang/Enum") ∈ lw_all := lw_g (lw_at lw_m4 226 rfl) rfl
theorem q1048 : (Jvm.Cond.methodLink "java/lang/Enum" (101 : Nat) ({ cls := "java/lang/Enum", name := "compareTo", desc := "(Ljava/lang/Enum;)I" } : Jvm.MethodName)) ∈ lw_all := lw_g (lw_at lw_m4 227 rfl) rfl
theorem q1049 : (Jvm.Cond.instanceMethod ({ cls := "java/lang/Enum", name := "compareTo", desc := "(Ljava/lang/Enum;)I" } : Jvm.MethodName)) ∈ lw_all := lw_g (lw_at lw_m4 228 rfl) rfl
theorem q1050 : (Jvm.Cond.sameMethod "java/lang/Enum" "java/lang/Enum" "compareTo" "(Ljava/lang/Enum;)I") ∈ lw_all := lw_g (lw_at lw_m4 229 rfl) rfl
theorem q1056 : (Jvm.Cond.code ({ cls := "java/lang/Enum", name := "compareTo", desc := "(Ljava/lang/Enum;)I" } : Jvm.MethodName) prog_32_method_8_code (4 : Nat) (Option.some Jvm.ClassFile.FieldType.int)) ∈ lw_all := lw_g (lw_at lw_m4 235 rfl) rfl
theorem q1057 : (Jvm.Cond.methodLink "java/lang/Enum" (29 : Nat) ({ cls := "java/lang/Object", name := "getClass", desc := "()Ljava/lang/Class;" } : Jvm.MethodName)) ∈ lw_all := lw_g (lw_at lw_m4 236 rfl) rfl
theorem q1058 : (Jvm.Cond.methodLink "java/lang/Enum" (33 : Nat) ({ cls := "java/lang/Enum", name := "getDeclaringClass", desc := "()Ljava/lang/Class;" } : Jvm.MethodName)) ∈ lw_all := lw_g (lw_at lw_m4 237 rfl) rfl
theorem q1059 : (Jvm.Cond.instanceMethod ({ cls := "java/lang/Enum", name := "getDeclaringClass", desc := "()Ljava/lang/Class;" } : Jvm.MethodName)) ∈ lw_all := lw_g (lw_at lw_m4 238 rfl) rfl
theorem q1060 : (Jvm.Cond.sameMethod "java/lang/Enum" "java/lang/Enum" "getDeclaringClass" "()Ljava/lang/Class;") ∈ lw_all := lw_g (lw_at lw_m4 239 rfl) rfl
theorem q1066 : (Jvm.Cond.code ({ cls := "java/lang/Enum", name := "getDeclaringClass", desc := "()Ljava/lang/Class;" } : Jvm.MethodName) prog_32_method_9_code (3 : Nat) (Option.some (Jvm.ClassFile.FieldType.object "java/lang/Class"))) ∈ lw_all := lw_g (lw_at lw_m5 5 rfl) rfl
theorem q1543 : (Jvm.Cond.declares ({ cls := "java/lang/Enum", name := "ordinal", desc := "()I" } : Jvm.MethodName)) ∈ lw_tbl := lw_at lw_m7 2 rfl
theorem q1549 : (Jvm.Cond.instanceMethod ({ cls := "java/lang/Enum", name := "ordinal", desc := "()I" } : Jvm.MethodName)) ∈ lw_all := lw_g (lw_at lw_m7 8 rfl) rfl
theorem q1550 : (Jvm.Cond.code ({ cls := "java/lang/Enum", name := "ordinal", desc := "()I" } : Jvm.MethodName) prog_32_method_2_code (1 : Nat) (Option.some Jvm.ClassFile.FieldType.int)) ∈ lw_all := lw_g (lw_at lw_m7 9 rfl) rfl
theorem q2609 : (Jvm.Cond.fieldLink "java/lang/Enum" (7 : Nat) "java/lang/Enum" "ordinal" "I") ∈ lw_all := lw_g (lw_at lw_m11 108 rfl) rfl

/-! java/lang/Throwable -/
set_option maxRecDepth 100000
def RJ1 : String := "java/lang/Throwable"
def TJ1 : u_T := fun k => match k with
  | 0 => ("java/lang/Throwable", "cause", "Ljava/lang/Throwable;", false)
  | 1 => ("java/lang/Throwable", "stackTrace", "[Ljava/lang/StackTraceElement;", false)
  | 2 => ("java/lang/Throwable", "suppressedExceptions", "Ljava/util/List;", false)
  | 3 => ("java/lang/Throwable", "detailMessage", "Ljava/lang/String;", false)
  | _ => ("java/lang/Throwable", "backtrace", "Ljava/lang/Object;", false)
def tyJ1 : Nat → FieldType := fun k => match k with
  | 0 => .object "java/lang/Throwable"
  | 1 => .array (.object "java/lang/StackTraceElement")
  | 2 => .object "java/util/List"
  | 3 => .object "java/lang/String"
  | _ => .object "java/lang/Object"
abbrev wsJ10 : List Cond := u_ws RJ1 TJ1 5
theorem nmJ1 : ∀ a, a < 5 → ∀ b, b < 5 → a ≠ b → (TJ1 a).2.1 ≠ (TJ1 b).2.1 := by decide +kernel
theorem tyJ1_ok : ∀ k, k < 5 → parseFieldDescriptor (TJ1 k).2.2.1 = some (tyJ1 k) := by decide +kernel
abbrev cJ1_init : ByteArray := prog_48_method_2_code
def yJ1_init : MethodName := ⟨RJ1, "<init>", "(Ljava/lang/String;)V"⟩
def dkwJ1_init_1 : List UInt8 := [182, 0, 27, 87, 42, 43, 181, 0, 31, 177]
abbrev dktJ1_init_1 : List UInt8 := dkwJ1_init_1 ++ []
def dkwJ1_init_0 : List UInt8 := [42, 183, 0, 1, 42, 42, 181, 0, 7, 42, 178, 0, 13, 181, 0, 17, 42, 178, 0, 20, 181, 0, 24, 42]
abbrev dktJ1_init_0 : List UInt8 := dkwJ1_init_0 ++ dktJ1_init_1
theorem dksJ1_init_0 : cJ1_init.data.toList.drop 0 = dktJ1_init_0 := by decide +kernel
theorem dksJ1_init_1 : cJ1_init.data.toList.drop 24 = dktJ1_init_1 := dk_seg dksJ1_init_0 24 rfl rfl
theorem dJ1_init_0 : decode cJ1_init 0 = .ok (.aload_n 0, 1) := dk_42 (dk_at dksJ1_init_0 0 rfl rfl)
theorem dJ1_init_1 : decode cJ1_init 1 = .ok (.invokespecial 1, 3) := dk_183 0 1 (dk_at dksJ1_init_0 1 rfl rfl)
theorem dJ1_init_4 : decode cJ1_init 4 = .ok (.aload_n 0, 1) := dk_42 (dk_at dksJ1_init_0 4 rfl rfl)
theorem dJ1_init_5 : decode cJ1_init 5 = .ok (.aload_n 0, 1) := dk_42 (dk_at dksJ1_init_0 5 rfl rfl)
theorem dJ1_init_6 : decode cJ1_init 6 = .ok (.putfield 7, 3) := dk_181 0 7 (dk_at dksJ1_init_0 6 rfl rfl)
theorem dJ1_init_9 : decode cJ1_init 9 = .ok (.aload_n 0, 1) := dk_42 (dk_at dksJ1_init_0 9 rfl rfl)
theorem dJ1_init_10 : decode cJ1_init 10 = .ok (.getstatic 13, 3) := dk_178 0 13 (dk_at dksJ1_init_0 10 rfl rfl)
theorem dJ1_init_13 : decode cJ1_init 13 = .ok (.putfield 17, 3) := dk_181 0 17 (dk_at dksJ1_init_0 13 rfl rfl)
theorem dJ1_init_16 : decode cJ1_init 16 = .ok (.aload_n 0, 1) := dk_42 (dk_at dksJ1_init_0 16 rfl rfl)
theorem dJ1_init_17 : decode cJ1_init 17 = .ok (.getstatic 20, 3) := dk_178 0 20 (dk_at dksJ1_init_0 17 rfl rfl)
theorem dJ1_init_20 : decode cJ1_init 20 = .ok (.putfield 24, 3) := dk_181 0 24 (dk_at dksJ1_init_0 20 rfl rfl)
theorem dJ1_init_23 : decode cJ1_init 23 = .ok (.aload_n 0, 1) := dk_42 (dk_at dksJ1_init_0 23 rfl rfl)
theorem dJ1_init_24 : decode cJ1_init 24 = .ok (.invokevirtual 27, 3) := dk_182 0 27 (dk_at dksJ1_init_1 0 rfl rfl)
theorem dJ1_init_27 : decode cJ1_init 27 = .ok (.pop, 1) := dk_87 (dk_at dksJ1_init_1 3 rfl rfl)
theorem dJ1_init_28 : decode cJ1_init 28 = .ok (.aload_n 0, 1) := dk_42 (dk_at dksJ1_init_1 4 rfl rfl)
theorem dJ1_init_29 : decode cJ1_init 29 = .ok (.aload_n 1, 1) := dk_43 (dk_at dksJ1_init_1 5 rfl rfl)
theorem dJ1_init_30 : decode cJ1_init 30 = .ok (.putfield 31, 3) := dk_181 0 31 (dk_at dksJ1_init_1 6 rfl rfl)
theorem dJ1_init_33 : decode cJ1_init 33 = .ok (.return_, 1) := dk_177 (dk_at dksJ1_init_1 9 rfl rfl)
abbrev cJ1_init_2 : ByteArray := prog_48_method_1_code
def yJ1_init_2 : MethodName := ⟨RJ1, "<init>", "()V"⟩
def dkwJ1_init_2_1 : List UInt8 := [182, 0, 27, 87, 177]
abbrev dktJ1_init_2_1 : List UInt8 := dkwJ1_init_2_1 ++ []
def dkwJ1_init_2_0 : List UInt8 := [42, 183, 0, 1, 42, 42, 181, 0, 7, 42, 178, 0, 13, 181, 0, 17, 42, 178, 0, 20, 181, 0, 24, 42]
abbrev dktJ1_init_2_0 : List UInt8 := dkwJ1_init_2_0 ++ dktJ1_init_2_1
theorem dksJ1_init_2_0 : cJ1_init_2.data.toList.drop 0 = dktJ1_init_2_0 := by decide +kernel
theorem dksJ1_init_2_1 : cJ1_init_2.data.toList.drop 24 = dktJ1_init_2_1 := dk_seg dksJ1_init_2_0 24 rfl rfl
theorem dJ1_init_2_0 : decode cJ1_init_2 0 = .ok (.aload_n 0, 1) := dk_42 (dk_at dksJ1_init_2_0 0 rfl rfl)
theorem dJ1_init_2_1 : decode cJ1_init_2 1 = .ok (.invokespecial 1, 3) := dk_183 0 1 (dk_at dksJ1_init_2_0 1 rfl rfl)
theorem dJ1_init_2_4 : decode cJ1_init_2 4 = .ok (.aload_n 0, 1) := dk_42 (dk_at dksJ1_init_2_0 4 rfl rfl)
theorem dJ1_init_2_5 : decode cJ1_init_2 5 = .ok (.aload_n 0, 1) := dk_42 (dk_at dksJ1_init_2_0 5 rfl rfl)
theorem dJ1_init_2_6 : decode cJ1_init_2 6 = .ok (.putfield 7, 3) := dk_181 0 7 (dk_at dksJ1_init_2_0 6 rfl rfl)
theorem dJ1_init_2_9 : decode cJ1_init_2 9 = .ok (.aload_n 0, 1) := dk_42 (dk_at dksJ1_init_2_0 9 rfl rfl)
theorem dJ1_init_2_10 : decode cJ1_init_2 10 = .ok (.getstatic 13, 3) := dk_178 0 13 (dk_at dksJ1_init_2_0 10 rfl rfl)
theorem dJ1_init_2_13 : decode cJ1_init_2 13 = .ok (.putfield 17, 3) := dk_181 0 17 (dk_at dksJ1_init_2_0 13 rfl rfl)
theorem dJ1_init_2_16 : decode cJ1_init_2 16 = .ok (.aload_n 0, 1) := dk_42 (dk_at dksJ1_init_2_0 16 rfl rfl)
theorem dJ1_init_2_17 : decode cJ1_init_2 17 = .ok (.getstatic 20, 3) := dk_178 0 20 (dk_at dksJ1_init_2_0 17 rfl rfl)
theorem dJ1_init_2_20 : decode cJ1_init_2 20 = .ok (.putfield 24, 3) := dk_181 0 24 (dk_at dksJ1_init_2_0 20 rfl rfl)
theorem dJ1_init_2_23 : decode cJ1_init_2 23 = .ok (.aload_n 0, 1) := dk_42 (dk_at dksJ1_init_2_0 23 rfl rfl)
theorem dJ1_init_2_24 : decode cJ1_init_2 24 = .ok (.invokevirtual 27, 3) := dk_182 0 27 (dk_at dksJ1_init_2_1 0 rfl rfl)
theorem dJ1_init_2_27 : decode cJ1_init_2 27 = .ok (.pop, 1) := dk_87 (dk_at dksJ1_init_2_1 3 rfl rfl)
theorem dJ1_init_2_28 : decode cJ1_init_2 28 = .ok (.return_, 1) := dk_177 (dk_at dksJ1_init_2_1 4 rfl rfl)
abbrev cJ1_init_3 : ByteArray := prog_48_method_5_code
def yJ1_init_3 : MethodName := ⟨RJ1, "<init>", "(Ljava/lang/String;Ljava/lang/Throwable;ZZ)V"⟩
def dkwJ1_init_3_2 : List UInt8 := [44, 181, 0, 7, 29, 154, 0, 8, 42, 1, 181, 0, 24, 177]
abbrev dktJ1_init_3_2 : List UInt8 := dkwJ1_init_3_2 ++ []
def dkwJ1_init_3_1 : List UInt8 := [21, 4, 153, 0, 11, 42, 182, 0, 27, 87, 167, 0, 8, 42, 1, 181, 0, 17, 42, 43, 181, 0, 31, 42]
abbrev dktJ1_init_3_1 : List UInt8 := dkwJ1_init_3_1 ++ dktJ1_init_3_2
def dkwJ1_init_3_0 : List UInt8 := [42, 183, 0, 1, 42, 42, 181, 0, 7, 42, 178, 0, 13, 181, 0, 17, 42, 178, 0, 20, 181, 0, 24]
abbrev dktJ1_init_3_0 : List UInt8 := dkwJ1_init_3_0 ++ dktJ1_init_3_1
theorem dksJ1_init_3_0 : cJ1_init_3.data.toList.drop 0 = dktJ1_init_3_0 := by decide +kernel
theorem dksJ1_init_3_1 : cJ1_init_3.data.toList.drop 23 = dktJ1_init_3_1 := dk_seg dksJ1_init_3_0 23 rfl rfl
theorem dksJ1_init_3_2 : cJ1_init_3.data.toList.drop 47 = dktJ1_init_3_2 := dk_seg dksJ1_init_3_1 24 rfl rfl
theorem dJ1_init_3_0 : decode cJ1_init_3 0 = .ok (.aload_n 0, 1) := dk_42 (dk_at dksJ1_init_3_0 0 rfl rfl)
theorem dJ1_init_3_1 : decode cJ1_init_3 1 = .ok (.invokespecial 1, 3) := dk_183 0 1 (dk_at dksJ1_init_3_0 1 rfl rfl)
theorem dJ1_init_3_4 : decode cJ1_init_3 4 = .ok (.aload_n 0, 1) := dk_42 (dk_at dksJ1_init_3_0 4 rfl rfl)
theorem dJ1_init_3_5 : decode cJ1_init_3 5 = .ok (.aload_n 0, 1) := dk_42 (dk_at dksJ1_init_3_0 5 rfl rfl)
theorem dJ1_init_3_6 : decode cJ1_init_3 6 = .ok (.putfield 7, 3) := dk_181 0 7 (dk_at dksJ1_init_3_0 6 rfl rfl)
theorem dJ1_init_3_9 : decode cJ1_init_3 9 = .ok (.aload_n 0, 1) := dk_42 (dk_at dksJ1_init_3_0 9 rfl rfl)
theorem dJ1_init_3_10 : decode cJ1_init_3 10 = .ok (.getstatic 13, 3) := dk_178 0 13 (dk_at dksJ1_init_3_0 10 rfl rfl)
theorem dJ1_init_3_13 : decode cJ1_init_3 13 = .ok (.putfield 17, 3) := dk_181 0 17 (dk_at dksJ1_init_3_0 13 rfl rfl)
theorem dJ1_init_3_16 : decode cJ1_init_3 16 = .ok (.aload_n 0, 1) := dk_42 (dk_at dksJ1_init_3_0 16 rfl rfl)
theorem dJ1_init_3_17 : decode cJ1_init_3 17 = .ok (.getstatic 20, 3) := dk_178 0 20 (dk_at dksJ1_init_3_0 17 rfl rfl)
theorem dJ1_init_3_20 : decode cJ1_init_3 20 = .ok (.putfield 24, 3) := dk_181 0 24 (dk_at dksJ1_init_3_0 20 rfl rfl)
theorem dJ1_init_3_23 : decode cJ1_init_3 23 = .ok (.iload 4, 2) := dk_21 4 (dk_at dksJ1_init_3_1 0 rfl rfl)
theorem dJ1_init_3_25 : decode cJ1_init_3 25 = .ok (.ifCond .eq 11, 3) := dk_153 0 11 (dk_at dksJ1_init_3_1 2 rfl rfl)
theorem dJ1_init_3_28 : decode cJ1_init_3 28 = .ok (.aload_n 0, 1) := dk_42 (dk_at dksJ1_init_3_1 5 rfl rfl)
theorem dJ1_init_3_29 : decode cJ1_init_3 29 = .ok (.invokevirtual 27, 3) := dk_182 0 27 (dk_at dksJ1_init_3_1 6 rfl rfl)
theorem dJ1_init_3_32 : decode cJ1_init_3 32 = .ok (.pop, 1) := dk_87 (dk_at dksJ1_init_3_1 9 rfl rfl)
theorem dJ1_init_3_33 : decode cJ1_init_3 33 = .ok (.goto 8, 3) := dk_167 0 8 (dk_at dksJ1_init_3_1 10 rfl rfl)
theorem dJ1_init_3_36 : decode cJ1_init_3 36 = .ok (.aload_n 0, 1) := dk_42 (dk_at dksJ1_init_3_1 13 rfl rfl)
theorem dJ1_init_3_37 : decode cJ1_init_3 37 = .ok (.aconst_null, 1) := dk_1 (dk_at dksJ1_init_3_1 14 rfl rfl)
theorem dJ1_init_3_38 : decode cJ1_init_3 38 = .ok (.putfield 17, 3) := dk_181 0 17 (dk_at dksJ1_init_3_1 15 rfl rfl)
theorem dJ1_init_3_41 : decode cJ1_init_3 41 = .ok (.aload_n 0, 1) := dk_42 (dk_at dksJ1_init_3_1 18 rfl rfl)
theorem dJ1_init_3_42 : decode cJ1_init_3 42 = .ok (.aload_n 1, 1) := dk_43 (dk_at dksJ1_init_3_1 19 rfl rfl)
theorem dJ1_init_3_43 : decode cJ1_init_3 43 = .ok (.putfield 31, 3) := dk_181 0 31 (dk_at dksJ1_init_3_1 20 rfl rfl)
theorem dJ1_init_3_46 : decode cJ1_init_3 46 = .ok (.aload_n 0, 1) := dk_42 (dk_at dksJ1_init_3_1 23 rfl rfl)
theorem dJ1_init_3_47 : decode cJ1_init_3 47 = .ok (.aload_n 2, 1) := dk_44 (dk_at dksJ1_init_3_2 0 rfl rfl)
theorem dJ1_init_3_48 : decode cJ1_init_3 48 = .ok (.putfield 7, 3) := dk_181 0 7 (dk_at dksJ1_init_3_2 1 rfl rfl)
theorem dJ1_init_3_51 : decode cJ1_init_3 51 = .ok (.iload_n 3, 1) := dk_29 (dk_at dksJ1_init_3_2 4 rfl rfl)
theorem dJ1_init_3_52 : decode cJ1_init_3 52 = .ok (.ifCond .ne 8, 3) := dk_154 0 8 (dk_at dksJ1_init_3_2 5 rfl rfl)
theorem dJ1_init_3_55 : decode cJ1_init_3 55 = .ok (.aload_n 0, 1) := dk_42 (dk_at dksJ1_init_3_2 8 rfl rfl)
theorem dJ1_init_3_56 : decode cJ1_init_3 56 = .ok (.aconst_null, 1) := dk_1 (dk_at dksJ1_init_3_2 9 rfl rfl)
theorem dJ1_init_3_57 : decode cJ1_init_3 57 = .ok (.putfield 24, 3) := dk_181 0 24 (dk_at dksJ1_init_3_2 10 rfl rfl)
theorem dJ1_init_3_60 : decode cJ1_init_3 60 = .ok (.return_, 1) := dk_177 (dk_at dksJ1_init_3_2 13 rfl rfl)
theorem q106 : (Jvm.Cond.initialized "java/lang/Throwable") ∈ lw_all := lw_g (lw_at lw_m1 5 rfl) rfl
theorem q162 : (Jvm.Cond.instanceMethod ({ cls := "java/lang/Throwable", name := "getCause", desc := "()Ljava/lang/Throwable;" } : Jvm.MethodName)) ∈ lw_all := lw_g (lw_at lw_m1 61 rfl) rfl
theorem q163 : (Jvm.Cond.sameMethod "java/lang/Throwable" "java/lang/Throwable" "getCause" "()Ljava/lang/Throwable;") ∈ lw_all := lw_g (lw_at lw_m1 62 rfl) rfl
theorem q169 : (Jvm.Cond.codeSync ({ cls := "java/lang/Throwable", name := "getCause", desc := "()Ljava/lang/Throwable;" } : Jvm.MethodName) prog_48_method_8_code (1 : Nat) (Option.some (Jvm.ClassFile.FieldType.object "java/lang/Throwable"))) ∈ lw_all := lw_g (lw_at lw_m1 68 rfl) rfl
theorem q173 : (Jvm.Cond.declares ({ cls := "java/lang/Throwable", name := "getCause", desc := "()Ljava/lang/Throwable;" } : Jvm.MethodName)) ∈ lw_tbl := lw_at lw_m1 72 rfl
theorem q296 : (Jvm.Cond.instanceMethod ({ cls := "java/lang/Throwable", name := "<init>", desc := "(Ljava/lang/String;)V" } : Jvm.MethodName)) ∈ lw_all := lw_g (lw_at lw_m1 195 rfl) rfl
theorem q297 : (Jvm.Cond.code ({ cls := "java/lang/Throwable", name := "<init>", desc := "(Ljava/lang/String;)V" } : Jvm.MethodName) prog_48_method_2_code (2 : Nat) (Option.none : Option Jvm.ClassFile.FieldType)) ∈ lw_all := lw_g (lw_at lw_m1 196 rfl) rfl
theorem q298 : (Jvm.Cond.methodLink "java/lang/Throwable" (1 : Nat) ({ cls := "java/lang/Object", name := "<init>", desc := "()V" } : Jvm.MethodName)) ∈ lw_all := lw_g (lw_at lw_m1 197 rfl) rfl
theorem q299 : (Jvm.Cond.fieldLink "java/lang/Throwable" (13 : Nat) "java/lang/Throwable" "UNASSIGNED_STACK" "[Ljava/lang/StackTraceElement;") ∈ lw_all := lw_g (lw_at lw_m1 198 rfl) rfl
theorem q300 : (Jvm.Cond.laysStatic "java/lang/Throwable" "UNASSIGNED_STACK" "[Ljava/lang/StackTraceElement;") ∈ lw_tbl := lw_at lw_m1 199 rfl
theorem q301 : (Jvm.Cond.fieldLink "java/lang/Throwable" (20 : Nat) "java/lang/Throwable" "SUPPRESSED_SENTINEL" "Ljava/util/List;") ∈ lw_all := lw_g (lw_at lw_m1 200 rfl) rfl
theorem q302 : (Jvm.Cond.laysStatic "java/lang/Throwable" "SUPPRESSED_SENTINEL" "Ljava/util/List;") ∈ lw_tbl := lw_at lw_m1 201 rfl
theorem q303 : (Jvm.Cond.methodLink "java/lang/Throwable" (27 : Nat) ({ cls := "java/lang/Throwable", name := "fillInStackTrace", desc := "()Ljava/lang/Throwable;" } : Jvm.MethodName)) ∈ lw_all := lw_g (lw_at lw_m1 202 rfl) rfl
theorem q304 : (Jvm.Cond.instanceMethod ({ cls := "java/lang/Throwable", name := "fillInStackTrace", desc := "()Ljava/lang/Throwable;" } : Jvm.MethodName)) ∈ lw_all := lw_g (lw_at lw_m1 203 rfl) rfl
theorem q305 : (Jvm.Cond.sameMethod "java/lang/Throwable" "java/lang/Throwable" "fillInStackTrace" "()Ljava/lang/Throwable;") ∈ lw_all := lw_g (lw_at lw_m1 204 rfl) rfl
theorem q320 : (Jvm.Cond.declares ({ cls := "java/lang/Throwable", name := "fillInStackTrace", desc := "()Ljava/lang/Throwable;" } : Jvm.MethodName)) ∈ lw_tbl := lw_at lw_m1 219 rfl
theorem q324 : (Jvm.Cond.codeSync ({ cls := "java/lang/Throwable", name := "fillInStackTrace", desc := "()Ljava/lang/Throwable;" } : Jvm.MethodName) prog_48_method_18_code (1 : Nat) (Option.some (Jvm.ClassFile.FieldType.object "java/lang/Throwable"))) ∈ lw_all := lw_g (lw_at lw_m1 223 rfl) rfl
theorem q325 : (Jvm.Cond.methodLink "java/lang/Throwable" (202 : Nat) ({ cls := "java/lang/Throwable", name := "fillInStackTrace", desc := "(I)Ljava/lang/Throwable;" } : Jvm.MethodName)) ∈ lw_all := lw_g (lw_at lw_m1 224 rfl) rfl
theorem q326 : (Jvm.Cond.privateMethod ({ cls := "java/lang/Throwable", name := "fillInStackTrace", desc := "(I)Ljava/lang/Throwable;" } : Jvm.MethodName)) ∈ lw_tbl := lw_at lw_m1 225 rfl
theorem q327 : (Jvm.Cond.instanceMethod ({ cls := "java/lang/Throwable", name := "fillInStackTrace", desc := "(I)Ljava/lang/Throwable;" } : Jvm.MethodName)) ∈ lw_all := lw_g (lw_at lw_m1 226 rfl) rfl
theorem q328 : (Jvm.Cond.instantiable "java/lang/Throwable" (6 : Nat)) ∈ lw_all := lw_g (lw_at lw_m1 227 rfl) rfl
theorem q329 : (Jvm.Cond.native ({ cls := "java/lang/Throwable", name := "fillInStackTrace", desc := "(I)Ljava/lang/Throwable;" } : Jvm.MethodName)) ∈ lw_all := lw_g (lw_at lw_m1 228 rfl) rfl
theorem q330 : (Jvm.Cond.fieldLink "java/lang/Throwable" (198 : Nat) "java/lang/Throwable" "backtrace" "Ljava/lang/Object;") ∈ lw_all := lw_g (lw_at lw_m1 229 rfl) rfl
theorem q331 : (Jvm.Cond.fieldLink "java/lang/Throwable" (31 : Nat) "java/lang/Throwable" "detailMessage" "Ljava/lang/String;") ∈ lw_all := lw_g (lw_at lw_m1 230 rfl) rfl
theorem q332 : (Jvm.Cond.fieldLink "java/lang/Throwable" (7 : Nat) "java/lang/Throwable" "cause" "Ljava/lang/Throwable;") ∈ lw_all := lw_g (lw_at lw_m1 231 rfl) rfl
theorem q333 : (Jvm.Cond.fieldLink "java/lang/Throwable" (17 : Nat) "java/lang/Throwable" "stackTrace" "[Ljava/lang/StackTraceElement;") ∈ lw_all := lw_g (lw_at lw_m1 232 rfl) rfl
theorem q334 : (Jvm.Cond.fieldLink "java/lang/Throwable" (24 : Nat) "java/lang/Throwable" "suppressedExceptions" "Ljava/util/List;") ∈ lw_all := lw_g (lw_at lw_m1 233 rfl) rfl
theorem q336 : (Jvm.Cond.soleField "java/lang/Throwable" "backtrace") ∈ lw_all := lw_g (lw_at lw_m1 235 rfl) rfl
theorem q338 : (Jvm.Cond.soleField "java/lang/Throwable" "detailMessage") ∈ lw_all := lw_g (lw_at lw_m1 237 rfl) rfl
theorem q340 : (Jvm.Cond.soleField "java/lang/Throwable" "cause") ∈ lw_all := lw_g (lw_at lw_m1 239 rfl) rfl
theorem q342 : (Jvm.Cond.soleField "java/lang/Throwable" "stackTrace") ∈ lw_all := lw_g (lw_at lw_m2 1 rfl) rfl
theorem q344 : (Jvm.Cond.soleField "java/lang/Throwable" "depth") ∈ lw_all := lw_g (lw_at lw_m2 3 rfl) rfl
theorem q346 : (Jvm.Cond.soleField "java/lang/Throwable" "suppressedExceptions") ∈ lw_all := lw_g (lw_at lw_m2 5 rfl) rfl
theorem q355 : (Jvm.Cond.declares ({ cls := "java/lang/Throwable", name := "<init>", desc := "()V" } : Jvm.MethodName)) ∈ lw_tbl := lw_at lw_m2 14 rfl
theorem q356 : (Jvm.Cond.declares ({ cls := "java/lang/Throwable", name := "<init>", desc := "(Ljava/lang/String;)V" } : Jvm.MethodName)) ∈ lw_tbl := lw_at lw_m2 15 rfl
theorem q358 : (Jvm.Cond.lays "java/lang/Throwable" "java/lang/Throwable" "cause" "Ljava/lang/Throwable;") ∈ lw_all := lw_g (lw_at lw_m2 17 rfl) rfl
theorem q359 : (Jvm.Cond.lays "java/lang/Throwable" "java/lang/Throwable" "stackTrace" "[Ljava/lang/StackTraceElement;") ∈ lw_all := lw_g (lw_at lw_m2 18 rfl) rfl
theorem q360 : (Jvm.Cond.lays "java/lang/Throwable" "java/lang/Throwable" "suppressedExceptions" "Ljava/util/List;") ∈ lw_all := lw_g (lw_at lw_m2 19 rfl) rfl
theorem q361 : (Jvm.Cond.lays "java/lang/Throwable" "java/lang/Throwable" "detailMessage" "Ljava/lang/String;") ∈ lw_all := lw_g (lw_at lw_m2 20 rfl) rfl
theorem q362 : (Jvm.Cond.lays "java/lang/Throwable" "java/lang/Throwable" "backtrace" "Ljava/lang/Object;") ∈ lw_all := lw_g (lw_at lw_m2 21 rfl) rfl
theorem q363 : (Jvm.Cond.fieldLink "java/lang/Throwable" (198 : Nat) "java/lang/Throwable" "backtrace" "Ljava/lang/Object;") ∈ lw_all := lw_g (lw_at lw_m2 22 rfl) rfl
theorem q364 : (Jvm.Cond.superclass "java/lang/Throwable" "java/lang/Object") ∈ lw_all := lw_g (lw_at lw_m2 23 rfl) rfl
theorem q365 : (Jvm.Cond.instanceMethod ({ cls := "java/lang/Throwable", name := "<init>", desc := "()V" } : Jvm.MethodName)) ∈ lw_all := lw_g (lw_at lw_m2 24 rfl) rfl
theorem q366 : (Jvm.Cond.code ({ cls := "java/lang/Throwable", name := "<init>", desc := "()V" } : Jvm.MethodName) prog_48_method_1_code (1 : Nat) (Option.none : Option Jvm.ClassFile.FieldType)) ∈ lw_all := lw_g (lw_at lw_m2 25 rfl) rfl
theorem q678 : (Jvm.Cond.instanceMethod ({ cls := "java/lang/Throwable", name := "<init>", desc := "(Ljava/lang/String;Ljava/lang/Throwable;ZZ)V" } : Jvm.MethodName)) ∈ lw_all := lw_g (lw_at lw_m3 97 rfl) rfl
theorem q679 : (Jvm.Cond.code ({ cls := "java/lang/Throwable", name := "<init>", desc := "(Ljava/lang/String;Ljava/lang/Throwable;ZZ)V" } : Jvm.MethodName) prog_48_method_5_code (5 : Nat) (Option.none : Option Jvm.ClassFile.FieldType)) ∈ lw_all := lw_g (lw_at lw_m3 98 rfl) rfl
theorem q2533 : (Jvm.Cond.sameMethod "java/lang/Throwable" "java/lang/Throwable" "fillInStackTrace" "(I)Ljava/lang/Throwable;") ∈ lw_all := lw_g (lw_at lw_m11 32 rfl) rfl
theorem q2584 : (Jvm.Cond.castable "java/lang/Throwable" "java/lang/Object") ∈ lw_tbl := lw_at lw_m11 83 rfl
theorem in_J1 : ∀ w ∈ wsJ10, w ∈ lw_all := lw_in wsJ10 [358, 359, 360, 361, 362] (by decide +kernel) (by decide +kernel)

/-! java/lang/Exception -/
set_option maxRecDepth 100000
def RJ2 : String := "java/lang/Exception"
abbrev cJ2_init : ByteArray := prog_33_method_2_code
def yJ2_init : MethodName := ⟨RJ2, "<init>", "(Ljava/lang/String;)V"⟩
def dkwJ2_init_0 : List UInt8 := [42, 43, 183, 0, 7, 177]
abbrev dktJ2_init_0 : List UInt8 := dkwJ2_init_0 ++ []
theorem dksJ2_init_0 : cJ2_init.data.toList.drop 0 = dktJ2_init_0 := by decide +kernel
theorem dJ2_init_0 : decode cJ2_init 0 = .ok (.aload_n 0, 1) := dk_42 (dk_at dksJ2_init_0 0 rfl rfl)
theorem dJ2_init_1 : decode cJ2_init 1 = .ok (.aload_n 1, 1) := dk_43 (dk_at dksJ2_init_0 1 rfl rfl)
theorem dJ2_init_2 : decode cJ2_init 2 = .ok (.invokespecial 7, 3) := dk_183 0 7 (dk_at dksJ2_init_0 2 rfl rfl)
theorem dJ2_init_5 : decode cJ2_init 5 = .ok (.return_, 1) := dk_177 (dk_at dksJ2_init_0 5 rfl rfl)
abbrev cJ2_init_2 : ByteArray := prog_33_method_5_code
def yJ2_init_2 : MethodName := ⟨RJ2, "<init>", "(Ljava/lang/String;Ljava/lang/Throwable;ZZ)V"⟩
def dkwJ2_init_2_0 : List UInt8 := [42, 43, 44, 29, 21, 4, 183, 0, 16, 177]
abbrev dktJ2_init_2_0 : List UInt8 := dkwJ2_init_2_0 ++ []
theorem dksJ2_init_2_0 : cJ2_init_2.data.toList.drop 0 = dktJ2_init_2_0 := by decide +kernel
theorem dJ2_init_2_0 : decode cJ2_init_2 0 = .ok (.aload_n 0, 1) := dk_42 (dk_at dksJ2_init_2_0 0 rfl rfl)
theorem dJ2_init_2_1 : decode cJ2_init_2 1 = .ok (.aload_n 1, 1) := dk_43 (dk_at dksJ2_init_2_0 1 rfl rfl)
theorem dJ2_init_2_2 : decode cJ2_init_2 2 = .ok (.aload_n 2, 1) := dk_44 (dk_at dksJ2_init_2_0 2 rfl rfl)
theorem dJ2_init_2_3 : decode cJ2_init_2 3 = .ok (.iload_n 3, 1) := dk_29 (dk_at dksJ2_init_2_0 3 rfl rfl)
theorem dJ2_init_2_4 : decode cJ2_init_2 4 = .ok (.iload 4, 2) := dk_21 4 (dk_at dksJ2_init_2_0 4 rfl rfl)
theorem dJ2_init_2_6 : decode cJ2_init_2 6 = .ok (.invokespecial 16, 3) := dk_183 0 16 (dk_at dksJ2_init_2_0 6 rfl rfl)
theorem dJ2_init_2_9 : decode cJ2_init_2 9 = .ok (.return_, 1) := dk_177 (dk_at dksJ2_init_2_0 9 rfl rfl)
abbrev cJ2_init_3 : ByteArray := prog_33_method_1_code
def yJ2_init_3 : MethodName := ⟨RJ2, "<init>", "()V"⟩
theorem dJ2_init_3_0 : decode cJ2_init_3 0 = .ok (.aload_n 0, 1) := by decide +kernel
theorem dJ2_init_3_1 : decode cJ2_init_3 1 = .ok (.invokespecial 1, 3) := by decide +kernel
theorem dJ2_init_3_4 : decode cJ2_init_3 4 = .ok (.return_, 1) := by decide +kernel
theorem q107 : (Jvm.Cond.initialized "java/lang/Exception") ∈ lw_all := lw_g (lw_at lw_m1 6 rfl) rfl
theorem q293 : (Jvm.Cond.instanceMethod ({ cls := "java/lang/Exception", name := "<init>", desc := "(Ljava/lang/String;)V" } : Jvm.MethodName)) ∈ lw_all := lw_g (lw_at lw_m1 192 rfl) rfl
theorem q294 : (Jvm.Cond.code ({ cls := "java/lang/Exception", name := "<init>", desc := "(Ljava/lang/String;)V" } : Jvm.MethodName) prog_33_method_2_code (2 : Nat) (Option.none : Option Jvm.ClassFile.FieldType)) ∈ lw_all := lw_g (lw_at lw_m1 193 rfl) rfl
theorem q295 : (Jvm.Cond.methodLink "java/lang/Exception" (7 : Nat) ({ cls := "java/lang/Throwable", name := "<init>", desc := "(Ljava/lang/String;)V" } : Jvm.MethodName)) ∈ lw_all := lw_g (lw_at lw_m1 194 rfl) rfl
theorem q323 : (Jvm.Cond.superclass "java/lang/Exception" "java/lang/Throwable") ∈ lw_all := lw_g (lw_at lw_m1 222 rfl) rfl
theorem q353 : (Jvm.Cond.declares ({ cls := "java/lang/Exception", name := "<init>", desc := "()V" } : Jvm.MethodName)) ∈ lw_tbl := lw_at lw_m2 12 rfl
theorem q354 : (Jvm.Cond.declares ({ cls := "java/lang/Exception", name := "<init>", desc := "(Ljava/lang/String;)V" } : Jvm.MethodName)) ∈ lw_tbl := lw_at lw_m2 13 rfl
theorem q675 : (Jvm.Cond.instanceMethod ({ cls := "java/lang/Exception", name := "<init>", desc := "(Ljava/lang/String;Ljava/lang/Throwable;ZZ)V" } : Jvm.MethodName)) ∈ lw_all := lw_g (lw_at lw_m3 94 rfl) rfl
theorem q676 : (Jvm.Cond.code ({ cls := "java/lang/Exception", name := "<init>", desc := "(Ljava/lang/String;Ljava/lang/Throwable;ZZ)V" } : Jvm.MethodName) prog_33_method_5_code (5 : Nat) (Option.none : Option Jvm.ClassFile.FieldType)) ∈ lw_all := lw_g (lw_at lw_m3 95 rfl) rfl
theorem q677 : (Jvm.Cond.methodLink "java/lang/Exception" (16 : Nat) ({ cls := "java/lang/Throwable", name := "<init>", desc := "(Ljava/lang/String;Ljava/lang/Throwable;ZZ)V" } : Jvm.MethodName)) ∈ lw_all := lw_g (lw_at lw_m3 96 rfl) rfl
theorem q909 : (Jvm.Cond.instanceMethod ({ cls := "java/lang/Exception", name := "<init>", desc := "()V" } : Jvm.MethodName)) ∈ lw_all := lw_g (lw_at lw_m4 88 rfl) rfl
theorem q910 : (Jvm.Cond.code ({ cls := "java/lang/Exception", name := "<init>", desc := "()V" } : Jvm.MethodName) prog_33_method_1_code (1 : Nat) (Option.none : Option Jvm.ClassFile.FieldType)) ∈ lw_all := lw_g (lw_at lw_m4 89 rfl) rfl
theorem q911 : (Jvm.Cond.methodLink "java/lang/Exception" (1 : Nat) ({ cls := "java/lang/Throwable", name := "<init>", desc := "()V" } : Jvm.MethodName)) ∈ lw_all := lw_g (lw_at lw_m4 90 rfl) rfl

/-! ToldPowers$Kind$1 -/
set_option maxRecDepth 100000
def RX17 : String := "ToldPowers$Kind$1"
abbrev cX17_of : ByteArray := prog_10_method_2_code
def yX17_of : MethodName := ⟨RX17, "of", "(J)J"⟩
theorem dX17_of_0 : decode cX17_of 0 = .ok (.lload_n 1, 1) := by decide +kernel
theorem dX17_of_1 : decode cX17_of 1 = .ok (.lreturn, 1) := by decide +kernel
theorem q744 : (Jvm.Cond.selects "ToldPowers$Kind$1" ({ cls := "ToldPowers$Kind", name := "of", desc := "(J)J" } : Jvm.MethodName) ({ cls := "ToldPowers$Kind$1", name := "of", desc := "(J)J" } : Jvm.MethodName)) ∈ lw_all := lw_g (lw_at lw_m3 163 rfl) rfl
theorem q745 : (Jvm.Cond.instanceMethod ({ cls := "ToldPowers$Kind$1", name := "of", desc := "(J)J" } : Jvm.MethodName)) ∈ lw_all := lw_g (lw_at lw_m3 164 rfl) rfl
theorem q746 : (Jvm.Cond.code ({ cls := "ToldPowers$Kind$1", name := "of", desc := "(J)J" } : Jvm.MethodName) prog_10_method_2_code (3 : Nat) (Option.some Jvm.ClassFile.FieldType.long)) ∈ lw_all := lw_g (lw_at lw_m3 165 rfl) rfl
theorem q802 : (Jvm.Cond.selects "ToldPowers$Kind$1" ({ cls := "java/lang/Object", name := "getClass", desc := "()Ljava/lang/Class;" } : Jvm.MethodName) ({ cls := "java/lang/Object", name := "getClass", desc := "()Ljava/lang/Class;" } : Jvm.MethodName)) ∈ lw_all := lw_g (lw_at lw_m3 221 rfl) rfl
theorem q1041 : (Jvm.Cond.castable "ToldPowers$Kind$1" "java/lang/Comparable") ∈ lw_tbl := lw_at lw_m4 220 rfl
theorem q1042 : (Jvm.Cond.selects "ToldPowers$Kind$1" ({ cls := "java/lang/Comparable", name := "compareTo", desc := "(Ljava/lang/Object;)I" } : Jvm.MethodName) ({ cls := "java/lang/Enum", name := "compareTo", desc := "(Ljava/lang/Object;)I" } : Jvm.MethodName)) ∈ lw_all := lw_g (lw_at lw_m4 221 rfl) rfl
theorem q1043 : (Jvm.Cond.unhidden "ToldPowers$Kind$1" "compareTo" "(Ljava/lang/Object;)I") ∈ lw_tbl := lw_at lw_m4 222 rfl
theorem q1051 : (Jvm.Cond.selects "ToldPowers$Kind$1" ({ cls := "java/lang/Enum", name := "compareTo", desc := "(Ljava/lang/Enum;)I" } : Jvm.MethodName) ({ cls := "java/lang/Enum", name := "compareTo", desc := "(Ljava/lang/Enum;)I" } : Jvm.MethodName)) ∈ lw_all := lw_g (lw_at lw_m4 230 rfl) rfl
theorem q1061 : (Jvm.Cond.selects "ToldPowers$Kind$1" ({ cls := "java/lang/Enum", name := "getDeclaringClass", desc := "()Ljava/lang/Class;" } : Jvm.MethodName) ({ cls := "java/lang/Enum", name := "getDeclaringClass", desc := "()Ljava/lang/Class;" } : Jvm.MethodName)) ∈ lw_all := lw_g (lw_at lw_m5 0 rfl) rfl
theorem q1544 : (Jvm.Cond.selects "ToldPowers$Kind$1" ({ cls := "ToldPowers$Kind", name := "ordinal", desc := "()I" } : Jvm.MethodName) ({ cls := "java/lang/Enum", name := "ordinal", desc := "()I" } : Jvm.MethodName)) ∈ lw_all := lw_g (lw_at lw_m7 3 rfl) rfl
theorem q2546 : (Jvm.Cond.castable "ToldPowers$Kind$1" "java/lang/Enum") ∈ lw_tbl := lw_at lw_m11 45 rfl
theorem q2557 : (Jvm.Cond.castable "ToldPowers$Kind$1" "java/lang/Object") ∈ lw_tbl := lw_at lw_m11 56 rfl
theorem q2585 : (Jvm.Cond.castable "ToldPowers$Kind$1" "ToldPowers$Kind") ∈ lw_tbl := lw_at lw_m11 84 rfl

/-! ToldPowers$Kind$2 -/
set_option maxRecDepth 100000
def RX18 : String := "ToldPowers$Kind$2"
abbrev cX18_of : ByteArray := prog_11_method_2_code
def yX18_of : MethodName := ⟨RX18, "of", "(J)J"⟩
def dkwX18_of_0 : List UInt8 := [31, 31, 105, 173]
abbrev dktX18_of_0 : List UInt8 := dkwX18_of_0 ++ []
theorem dksX18_of_0 : cX18_of.data.toList.drop 0 = dktX18_of_0 := by decide +kernel
theorem dX18_of_0 : decode cX18_of 0 = .ok (.lload_n 1, 1) := dk_31 (dk_at dksX18_of_0 0 rfl rfl)
theorem dX18_of_1 : decode cX18_of 1 = .ok (.lload_n 1, 1) := dk_31 (dk_at dksX18_of_0 1 rfl rfl)
theorem dX18_of_2 : decode cX18_of 2 = .ok (.lmul, 1) := dk_105 (dk_at dksX18_of_0 2 rfl rfl)
theorem dX18_of_3 : decode cX18_of 3 = .ok (.lreturn, 1) := dk_173 (dk_at dksX18_of_0 3 rfl rfl)
theorem q747 : (Jvm.Cond.selects "ToldPowers$Kind$2" ({ cls := "ToldPowers$Kind", name := "of", desc := "(J)J" } : Jvm.MethodName) ({ cls := "ToldPowers$Kind$2", name := "of", desc := "(J)J" } : Jvm.MethodName)) ∈ lw_all := lw_g (lw_at lw_m3 166 rfl) rfl
theorem q748 : (Jvm.Cond.instanceMethod ({ cls := "ToldPowers$Kind$2", name := "of", desc := "(J)J" } : Jvm.MethodName)) ∈ lw_all := lw_g (lw_at lw_m3 167 rfl) rfl
theorem q749 : (Jvm.Cond.code ({ cls := "ToldPowers$Kind$2", name := "of", desc := "(J)J" } : Jvm.MethodName) prog_11_method_2_code (3 : Nat) (Option.some Jvm.ClassFile.FieldType.long)) ∈ lw_all := lw_g (lw_at lw_m3 168 rfl) rfl
theorem q803 : (Jvm.Cond.selects "ToldPowers$Kind$2" ({ cls := "java/lang/Object", name := "getClass", desc := "()Ljava/lang/Class;" } : Jvm.MethodName) ({ cls := "java/lang/Object", name := "getClass", desc := "()Ljava/lang/Class;" } : Jvm.MethodName)) ∈ lw_all := lw_g (lw_at lw_m3 222 rfl) rfl
theorem q1052 : (Jvm.Cond.selects "ToldPowers$Kind$2" ({ cls := "java/lang/Enum", name := "compareTo", desc := "(Ljava/lang/Enum;)I" } : Jvm.MethodName) ({ cls := "java/lang/Enum", name := "compareTo", desc := "(Ljava/lang/Enum;)I" } : Jvm.MethodName)) ∈ lw_all := lw_g (lw_at lw_m4 231 rfl) rfl
theorem q1062 : (Jvm.Cond.selects "ToldPowers$Kind$2" ({ cls := "java/lang/Enum", name := "getDeclaringClass", desc := "()Ljava/lang/Class;" } : Jvm.MethodName) ({ cls := "java/lang/Enum", name := "getDeclaringClass", desc := "()Ljava/lang/Class;" } : Jvm.MethodName)) ∈ lw_all := lw_g (lw_at lw_m5 1 rfl) rfl
theorem q1067 : (Jvm.Cond.castable "ToldPowers$Kind$2" "java/lang/Comparable") ∈ lw_tbl := lw_at lw_m5 6 rfl
theorem q1068 : (Jvm.Cond.selects "ToldPowers$Kind$2" ({ cls := "java/lang/Comparable", name := "compareTo", desc := "(Ljava/lang/Object;)I" } : Jvm.MethodName) ({ cls := "java/lang/Enum", name := "compareTo", desc := "(Ljava/lang/Object;)I" } : Jvm.MethodName)) ∈ lw_all := lw_g (lw_at lw_m5 7 rfl) rfl
theorem q1069 : (Jvm.Cond.unhidden "ToldPowers$Kind$2" "compareTo" "(Ljava/lang/Object;)I") ∈ lw_tbl := lw_at lw_m5 8 rfl
theorem q1545 : (Jvm.Cond.selects "ToldPowers$Kind$2" ({ cls := "ToldPowers$Kind", name := "ordinal", desc := "()I" } : Jvm.MethodName) ({ cls := "java/lang/Enum", name := "ordinal", desc := "()I" } : Jvm.MethodName)) ∈ lw_all := lw_g (lw_at lw_m7 4 rfl) rfl
theorem q2547 : (Jvm.Cond.castable "ToldPowers$Kind$2" "java/lang/Enum") ∈ lw_tbl := lw_at lw_m11 46 rfl
theorem q2558 : (Jvm.Cond.castable "ToldPowers$Kind$2" "java/lang/Object") ∈ lw_tbl := lw_at lw_m11 57 rfl
theorem q2586 : (Jvm.Cond.castable "ToldPowers$Kind$2" "ToldPowers$Kind") ∈ lw_tbl := lw_at lw_m11 85 rfl

/-! ToldPowers$Kind$3 -/
set_option maxRecDepth 100000
def RX19 : String := "ToldPowers$Kind$3"
abbrev cX19_of : ByteArray := prog_12_method_2_code
def yX19_of : MethodName := ⟨RX19, "of", "(J)J"⟩
def dkwX19_of_0 : List UInt8 := [31, 31, 105, 31, 105, 173]
abbrev dktX19_of_0 : List UInt8 := dkwX19_of_0 ++ []
theorem dksX19_of_0 : cX19_of.data.toList.drop 0 = dktX19_of_0 := by decide +kernel
theorem dX19_of_0 : decode cX19_of 0 = .ok (.lload_n 1, 1) := dk_31 (dk_at dksX19_of_0 0 rfl rfl)
theorem dX19_of_1 : decode cX19_of 1 = .ok (.lload_n 1, 1) := dk_31 (dk_at dksX19_of_0 1 rfl rfl)
theorem dX19_of_2 : decode cX19_of 2 = .ok (.lmul, 1) := dk_105 (dk_at dksX19_of_0 2 rfl rfl)
theorem dX19_of_3 : decode cX19_of 3 = .ok (.lload_n 1, 1) := dk_31 (dk_at dksX19_of_0 3 rfl rfl)
theorem dX19_of_4 : decode cX19_of 4 = .ok (.lmul, 1) := dk_105 (dk_at dksX19_of_0 4 rfl rfl)
theorem dX19_of_5 : decode cX19_of 5 = .ok (.lreturn, 1) := dk_173 (dk_at dksX19_of_0 5 rfl rfl)
theorem q750 : (Jvm.Cond.selects "ToldPowers$Kind$3" ({ cls := "ToldPowers$Kind", name := "of", desc := "(J)J" } : Jvm.MethodName) ({ cls := "ToldPowers$Kind$3", name := "of", desc := "(J)J" } : Jvm.MethodName)) ∈ lw_all := lw_g (lw_at lw_m3 169 rfl) rfl
theorem q751 : (Jvm.Cond.instanceMethod ({ cls := "ToldPowers$Kind$3", name := "of", desc := "(J)J" } : Jvm.MethodName)) ∈ lw_all := lw_g (lw_at lw_m3 170 rfl) rfl
theorem q752 : (Jvm.Cond.code ({ cls := "ToldPowers$Kind$3", name := "of", desc := "(J)J" } : Jvm.MethodName) prog_12_method_2_code (3 : Nat) (Option.some Jvm.ClassFile.FieldType.long)) ∈ lw_all := lw_g (lw_at lw_m3 171 rfl) rfl
theorem q804 : (Jvm.Cond.selects "ToldPowers$Kind$3" ({ cls := "java/lang/Object", name := "getClass", desc := "()Ljava/lang/Class;" } : Jvm.MethodName) ({ cls := "java/lang/Object", name := "getClass", desc := "()Ljava/lang/Class;" } : Jvm.MethodName)) ∈ lw_all := lw_g (lw_at lw_m3 223 rfl) rfl
theorem q1053 : (Jvm.Cond.selects "ToldPowers$Kind$3" ({ cls := "java/lang/Enum", name := "compareTo", desc := "(Ljava/lang/Enum;)I" } : Jvm.MethodName) ({ cls := "java/lang/Enum", name := "compareTo", desc := "(Ljava/lang/Enum;)I" } : Jvm.MethodName)) ∈ lw_all := lw_g (lw_at lw_m4 232 rfl) rfl
theorem q1063 : (Jvm.Cond.selects "ToldPowers$Kind$3" ({ cls := "java/lang/Enum", name := "getDeclaringClass", desc := "()Ljava/lang/Class;" } : Jvm.MethodName) ({ cls := "java/lang/Enum", name := "getDeclaringClass", desc := "()Ljava/lang/Class;" } : Jvm.MethodName)) ∈ lw_all := lw_g (lw_at lw_m5 2 rfl) rfl
theorem q1070 : (Jvm.Cond.castable "ToldPowers$Kind$3" "java/lang/Comparable") ∈ lw_tbl := lw_at lw_m5 9 rfl
theorem q1071 : (Jvm.Cond.selects "ToldPowers$Kind$3" ({ cls := "java/lang/Comparable", name := "compareTo", desc := "(Ljava/lang/Object;)I" } : Jvm.MethodName) ({ cls := "java/lang/Enum", name := "compareTo", desc := "(Ljava/lang/Object;)I" } : Jvm.MethodName)) ∈ lw_all := lw_g (lw_at lw_m5 10 rfl) rfl
theorem q1072 : (Jvm.Cond.unhidden "ToldPowers$Kind$3" "compareTo" "(Ljava/lang/Object;)I") ∈ lw_tbl := lw_at lw_m5 11 rfl
theorem q1546 : (Jvm.Cond.selects "ToldPowers$Kind$3" ({ cls := "ToldPowers$Kind", name := "ordinal", desc := "()I" } : Jvm.MethodName) ({ cls := "java/lang/Enum", name := "ordinal", desc := "()I" } : Jvm.MethodName)) ∈ lw_all := lw_g (lw_at lw_m7 5 rfl) rfl
theorem q2548 : (Jvm.Cond.castable "ToldPowers$Kind$3" "java/lang/Enum") ∈ lw_tbl := lw_at lw_m11 47 rfl
theorem q2559 : (Jvm.Cond.castable "ToldPowers$Kind$3" "java/lang/Object") ∈ lw_tbl := lw_at lw_m11 58 rfl
theorem q2587 : (Jvm.Cond.castable "ToldPowers$Kind$3" "ToldPowers$Kind") ∈ lw_tbl := lw_at lw_m11 86 rfl

/-! ToldPowers$Kind$4 -/
set_option maxRecDepth 100000
def RX20 : String := "ToldPowers$Kind$4"
abbrev cX20_of : ByteArray := prog_13_method_2_code
def yX20_of : MethodName := ⟨RX20, "of", "(J)J"⟩
def dkwX20_of_0 : List UInt8 := [31, 31, 105, 31, 105, 31, 105, 173]
abbrev dktX20_of_0 : List UInt8 := dkwX20_of_0 ++ []
theorem dksX20_of_0 : cX20_of.data.toList.drop 0 = dktX20_of_0 := by decide +kernel
theorem dX20_of_0 : decode cX20_of 0 = .ok (.lload_n 1, 1) := dk_31 (dk_at dksX20_of_0 0 rfl rfl)
theorem dX20_of_1 : decode cX20_of 1 = .ok (.lload_n 1, 1) := dk_31 (dk_at dksX20_of_0 1 rfl rfl)
theorem dX20_of_2 : decode cX20_of 2 = .ok (.lmul, 1) := dk_105 (dk_at dksX20_of_0 2 rfl rfl)
theorem dX20_of_3 : decode cX20_of 3 = .ok (.lload_n 1, 1) := dk_31 (dk_at dksX20_of_0 3 rfl rfl)
theorem dX20_of_4 : decode cX20_of 4 = .ok (.lmul, 1) := dk_105 (dk_at dksX20_of_0 4 rfl rfl)
theorem dX20_of_5 : decode cX20_of 5 = .ok (.lload_n 1, 1) := dk_31 (dk_at dksX20_of_0 5 rfl rfl)
theorem dX20_of_6 : decode cX20_of 6 = .ok (.lmul, 1) := dk_105 (dk_at dksX20_of_0 6 rfl rfl)
theorem dX20_of_7 : decode cX20_of 7 = .ok (.lreturn, 1) := dk_173 (dk_at dksX20_of_0 7 rfl rfl)
theorem q753 : (Jvm.Cond.selects "ToldPowers$Kind$4" ({ cls := "ToldPowers$Kind", name := "of", desc := "(J)J" } : Jvm.MethodName) ({ cls := "ToldPowers$Kind$4", name := "of", desc := "(J)J" } : Jvm.MethodName)) ∈ lw_all := lw_g (lw_at lw_m3 172 rfl) rfl
theorem q754 : (Jvm.Cond.instanceMethod ({ cls := "ToldPowers$Kind$4", name := "of", desc := "(J)J" } : Jvm.MethodName)) ∈ lw_all := lw_g (lw_at lw_m3 173 rfl) rfl
theorem q755 : (Jvm.Cond.code ({ cls := "ToldPowers$Kind$4", name := "of", desc := "(J)J" } : Jvm.MethodName) prog_13_method_2_code (3 : Nat) (Option.some Jvm.ClassFile.FieldType.long)) ∈ lw_all := lw_g (lw_at lw_m3 174 rfl) rfl
theorem q805 : (Jvm.Cond.selects "ToldPowers$Kind$4" ({ cls := "java/lang/Object", name := "getClass", desc := "()Ljava/lang/Class;" } : Jvm.MethodName) ({ cls := "java/lang/Object", name := "getClass", desc := "()Ljava/lang/Class;" } : Jvm.MethodName)) ∈ lw_all := lw_g (lw_at lw_m3 224 rfl) rfl
theorem q1054 : (Jvm.Cond.selects "ToldPowers$Kind$4" ({ cls := "java/lang/Enum", name := "compareTo", desc := "(Ljava/lang/Enum;)I" } : Jvm.MethodName) ({ cls := "java/lang/Enum", name := "compareTo", desc := "(Ljava/lang/Enum;)I" } : Jvm.MethodName)) ∈ lw_all := lw_g (lw_at lw_m4 233 rfl) rfl
theorem q1064 : (Jvm.Cond.selects "ToldPowers$Kind$4" ({ cls := "java/lang/Enum", name := "getDeclaringClass", desc := "()Ljava/lang/Class;" } : Jvm.MethodName) ({ cls := "java/lang/Enum", name := "getDeclaringClass", desc := "()Ljava/lang/Class;" } : Jvm.MethodName)) ∈ lw_all := lw_g (lw_at lw_m5 3 rfl) rfl
theorem q1073 : (Jvm.Cond.castable "ToldPowers$Kind$4" "java/lang/Comparable") ∈ lw_tbl := lw_at lw_m5 12 rfl
theorem q1074 : (Jvm.Cond.selects "ToldPowers$Kind$4" ({ cls := "java/lang/Comparable", name := "compareTo", desc := "(Ljava/lang/Object;)I" } : Jvm.MethodName) ({ cls := "java/lang/Enum", name := "compareTo", desc := "(Ljava/lang/Object;)I" } : Jvm.MethodName)) ∈ lw_all := lw_g (lw_at lw_m5 13 rfl) rfl
theorem q1075 : (Jvm.Cond.unhidden "ToldPowers$Kind$4" "compareTo" "(Ljava/lang/Object;)I") ∈ lw_tbl := lw_at lw_m5 14 rfl
theorem q1547 : (Jvm.Cond.selects "ToldPowers$Kind$4" ({ cls := "ToldPowers$Kind", name := "ordinal", desc := "()I" } : Jvm.MethodName) ({ cls := "java/lang/Enum", name := "ordinal", desc := "()I" } : Jvm.MethodName)) ∈ lw_all := lw_g (lw_at lw_m7 6 rfl) rfl
theorem q2549 : (Jvm.Cond.castable "ToldPowers$Kind$4" "java/lang/Enum") ∈ lw_tbl := lw_at lw_m11 48 rfl
theorem q2560 : (Jvm.Cond.castable "ToldPowers$Kind$4" "java/lang/Object") ∈ lw_tbl := lw_at lw_m11 59 rfl
theorem q2588 : (Jvm.Cond.castable "ToldPowers$Kind$4" "ToldPowers$Kind") ∈ lw_tbl := lw_at lw_m11 87 rfl

/-! ToldPowers$Kind$5 -/
set_option maxRecDepth 100000
def RX21 : String := "ToldPowers$Kind$5"
abbrev cX21_of : ByteArray := prog_14_method_2_code
def yX21_of : MethodName := ⟨RX21, "of", "(J)J"⟩
def dkwX21_of_0 : List UInt8 := [31, 31, 10, 97, 105, 20, 0, 7, 109, 173]
abbrev dktX21_of_0 : List UInt8 := dkwX21_of_0 ++ []
theorem dksX21_of_0 : cX21_of.data.toList.drop 0 = dktX21_of_0 := by decide +kernel
theorem dX21_of_0 : decode cX21_of 0 = .ok (.lload_n 1, 1) := dk_31 (dk_at dksX21_of_0 0 rfl rfl)
theorem dX21_of_1 : decode cX21_of 1 = .ok (.lload_n 1, 1) := dk_31 (dk_at dksX21_of_0 1 rfl rfl)
theorem dX21_of_2 : decode cX21_of 2 = .ok (.lconst 1, 1) := dk_10 (dk_at dksX21_of_0 2 rfl rfl)
theorem dX21_of_3 : decode cX21_of 3 = .ok (.ladd, 1) := dk_97 (dk_at dksX21_of_0 3 rfl rfl)
theorem dX21_of_4 : decode cX21_of 4 = .ok (.lmul, 1) := dk_105 (dk_at dksX21_of_0 4 rfl rfl)
theorem dX21_of_5 : decode cX21_of 5 = .ok (.ldc2_w 7, 3) := dk_20 0 7 (dk_at dksX21_of_0 5 rfl rfl)
theorem dX21_of_8 : decode cX21_of 8 = .ok (.ldiv, 1) := dk_109 (dk_at dksX21_of_0 8 rfl rfl)
theorem dX21_of_9 : decode cX21_of 9 = .ok (.lreturn, 1) := dk_173 (dk_at dksX21_of_0 9 rfl rfl)
theorem q756 : (Jvm.Cond.selects "ToldPowers$Kind$5" ({ cls := "ToldPowers$Kind", name := "of", desc := "(J)J" } : Jvm.MethodName) ({ cls := "ToldPowers$Kind$5", name := "of", desc := "(J)J" } : Jvm.MethodName)) ∈ lw_all := lw_g (lw_at lw_m3 175 rfl) rfl
theorem q757 : (Jvm.Cond.instanceMethod ({ cls := "ToldPowers$Kind$5", name := "of", desc := "(J)J" } : Jvm.MethodName)) ∈ lw_all := lw_g (lw_at lw_m3 176 rfl) rfl
theorem q758 : (Jvm.Cond.code ({ cls := "ToldPowers$Kind$5", name := "of", desc := "(J)J" } : Jvm.MethodName) prog_14_method_2_code (3 : Nat) (Option.some Jvm.ClassFile.FieldType.long)) ∈ lw_all := lw_g (lw_at lw_m3 177 rfl) rfl
theorem q759 : (Jvm.Cond.constantLong "ToldPowers$Kind$5" (7 : Nat) (2 : Int64)) ∈ lw_all := lw_g (lw_at lw_m3 178 rfl) rfl
theorem q806 : (Jvm.Cond.selects "ToldPowers$Kind$5" ({ cls := "java/lang/Object", name := "getClass", desc := "()Ljava/lang/Class;" } : Jvm.MethodName) ({ cls := "java/lang/Object", name := "getClass", desc := "()Ljava/lang/Class;" } : Jvm.MethodName)) ∈ lw_all := lw_g (lw_at lw_m3 225 rfl) rfl
theorem q1055 : (Jvm.Cond.selects "ToldPowers$Kind$5" ({ cls := "java/lang/Enum", name := "compareTo", desc := "(Ljava/lang/Enum;)I" } : Jvm.MethodName) ({ cls := "java/lang/Enum", name := "compareTo", desc := "(Ljava/lang/Enum;)I" } : Jvm.MethodName)) ∈ lw_all := lw_g (lw_at lw_m4 234 rfl) rfl
theorem q1065 : (Jvm.Cond.selects "ToldPowers$Kind$5" ({ cls := "java/lang/Enum", name := "getDeclaringClass", desc := "()Ljava/lang/Class;" } : Jvm.MethodName) ({ cls := "java/lang/Enum", name := "getDeclaringClass", desc := "()Ljava/lang/Class;" } : Jvm.MethodName)) ∈ lw_all := lw_g (lw_at lw_m5 4 rfl) rfl
theorem q1076 : (Jvm.Cond.castable "ToldPowers$Kind$5" "java/lang/Comparable") ∈ lw_tbl := lw_at lw_m5 15 rfl
theorem q1077 : (Jvm.Cond.selects "ToldPowers$Kind$5" ({ cls := "java/lang/Comparable", name := "compareTo", desc := "(Ljava/lang/Object;)I" } : Jvm.MethodName) ({ cls := "java/lang/Enum", name := "compareTo", desc := "(Ljava/lang/Object;)I" } : Jvm.MethodName)) ∈ lw_all := lw_g (lw_at lw_m5 16 rfl) rfl
theorem q1078 : (Jvm.Cond.unhidden "ToldPowers$Kind$5" "compareTo" "(Ljava/lang/Object;)I") ∈ lw_tbl := lw_at lw_m5 17 rfl
theorem q1548 : (Jvm.Cond.selects "ToldPowers$Kind$5" ({ cls := "ToldPowers$Kind", name := "ordinal", desc := "()I" } : Jvm.MethodName) ({ cls := "java/lang/Enum", name := "ordinal", desc := "()I" } : Jvm.MethodName)) ∈ lw_all := lw_g (lw_at lw_m7 7 rfl) rfl
theorem q2550 : (Jvm.Cond.castable "ToldPowers$Kind$5" "java/lang/Enum") ∈ lw_tbl := lw_at lw_m11 49 rfl
theorem q2561 : (Jvm.Cond.castable "ToldPowers$Kind$5" "java/lang/Object") ∈ lw_tbl := lw_at lw_m11 60 rfl
theorem q2589 : (Jvm.Cond.castable "ToldPowers$Kind$5" "ToldPowers$Kind") ∈ lw_tbl := lw_at lw_m11 88 rfl

/-! ToldPowers -/
set_option maxRecDepth 100000
abbrev cX0_fault : ByteArray := prog_1_method_18_code
def yX0_fault : MethodName := ⟨RX0, "fault", "(I)I"⟩
def dkwX0_fault_4 : List UInt8 := [182, 0, 153, 192, 0, 154, 180, 0, 156, 167, 0, 4, 2, 172]
abbrev dktX0_fault_4 : List UInt8 := dkwX0_fault_4 ++ []
def dkwX0_fault_3 : List UInt8 := [27, 6, 160, 0, 32, 42, 180, 0, 126, 182, 0, 153, 193, 0, 154, 153, 0, 19, 42, 180, 0, 126]
abbrev dktX0_fault_3 : List UInt8 := dkwX0_fault_3 ++ dktX0_fault_4
def dkwX0_fault_2 : List UInt8 := [42, 182, 0, 138, 180, 0, 142, 172, 42, 182, 0, 138, 180, 0, 145, 172, 42, 180, 0, 126, 180, 0, 148, 172]
abbrev dktX0_fault_2 : List UInt8 := dkwX0_fault_2 ++ dktX0_fault_3
def dkwX0_fault_1 : List UInt8 := [170, 0, 0, 0, 0, 50, 0, 0, 0, 0, 0, 0, 0, 2, 0, 0, 0, 26, 0, 0, 0, 34, 0, 0, 0, 42]
abbrev dktX0_fault_1 : List UInt8 := dkwX0_fault_1 ++ dktX0_fault_2
def dkwX0_fault_0 : List UInt8 := [42, 180, 0, 126, 199, 0, 13, 27, 154, 0, 7, 3, 167, 0, 4, 2, 172, 27]
abbrev dktX0_fault_0 : List UInt8 := dkwX0_fault_0 ++ dktX0_fault_1
theorem dksX0_fault_0 : cX0_fault.data.toList.drop 0 = dktX0_fault_0 := by decide +kernel
theorem dksX0_fault_1 : cX0_fault.data.toList.drop 18 = dktX0_fault_1 := dk_seg dksX0_fault_0 18 rfl rfl
theorem dksX0_fault_2 : cX0_fault.data.toList.drop 44 = dktX0_fault_2 := dk_seg dksX0_fault_1 26 rfl rfl
theorem dksX0_fault_3 : cX0_fault.data.toList.drop 68 = dktX0_fault_3 := dk_seg dksX0_fault_2 24 rfl rfl
theorem dksX0_fault_4 : cX0_fault.data.toList.drop 90 = dktX0_fault_4 := dk_seg dksX0_fault_3 22 rfl rfl
theorem dX0_fault_0 : decode cX0_fault 0 = .ok (.aload_n 0, 1) := dk_42 (dk_at dksX0_fault_0 0 rfl rfl)
theorem dX0_fault_1 : decode cX0_fault 1 = .ok (.getfield 126, 3) := dk_180 0 126 (dk_at dksX0_fault_0 1 rfl rfl)
theorem dX0_fault_4 : decode cX0_fault 4 = .ok (.ifnonnull 13, 3) := dk_199 0 13 (dk_at dksX0_fault_0 4 rfl rfl)
theorem dX0_fault_7 : decode cX0_fault 7 = .ok (.iload_n 1, 1) := dk_27 (dk_at dksX0_fault_0 7 rfl rfl)
theorem dX0_fault_8 : decode cX0_fault 8 = .ok (.ifCond .ne 7, 3) := dk_154 0 7 (dk_at dksX0_fault_0 8 rfl rfl)
theorem dX0_fault_11 : decode cX0_fault 11 = .ok (.iconst 0, 1) := dk_3 (dk_at dksX0_fault_0 11 rfl rfl)
theorem dX0_fault_12 : decode cX0_fault 12 = .ok (.goto 4, 3) := dk_167 0 4 (dk_at dksX0_fault_0 12 rfl rfl)
theorem dX0_fault_15 : decode cX0_fault 15 = .ok (.iconst (-1), 1) := dk_2 (dk_at dksX0_fault_0 15 rfl rfl)
theorem dX0_fault_16 : decode cX0_fault 16 = .ok (.ireturn, 1) := dk_172 (dk_at dksX0_fault_0 16 rfl rfl)
theorem dX0_fault_17 : decode cX0_fault 17 = .ok (.iload_n 1, 1) := dk_27 (dk_at dksX0_fault_0 17 rfl rfl)
theorem dX0_fault_18 : decode cX0_fault 18 = .ok (.tableswitch 50 0 2 #[26, 34, 42], 26) := by decide +kernel
theorem dX0_fault_44 : decode cX0_fault 44 = .ok (.aload_n 0, 1) := dk_42 (dk_at dksX0_fault_2 0 rfl rfl)
theorem dX0_fault_45 : decode cX0_fault 45 = .ok (.invokevirtual 138, 3) := dk_182 0 138 (dk_at dksX0_fault_2 1 rfl rfl)
theorem dX0_fault_48 : decode cX0_fault 48 = .ok (.getfield 142, 3) := dk_180 0 142 (dk_at dksX0_fault_2 4 rfl rfl)
theorem dX0_fault_51 : decode cX0_fault 51 = .ok (.ireturn, 1) := dk_172 (dk_at dksX0_fault_2 7 rfl rfl)
theorem dX0_fault_52 : decode cX0_fault 52 = .ok (.aload_n 0, 1) := dk_42 (dk_at dksX0_fault_2 8 rfl rfl)
theorem dX0_fault_53 : decode cX0_fault 53 = .ok (.invokevirtual 138, 3) := dk_182 0 138 (dk_at dksX0_fault_2 9 rfl rfl)
theorem dX0_fault_56 : decode cX0_fault 56 = .ok (.getfield 145, 3) := dk_180 0 145 (dk_at dksX0_fault_2 12 rfl rfl)
theorem dX0_fault_59 : decode cX0_fault 59 = .ok (.ireturn, 1) := dk_172 (dk_at dksX0_fault_2 15 rfl rfl)
theorem dX0_fault_60 : decode cX0_fault 60 = .ok (.aload_n 0, 1) := dk_42 (dk_at dksX0_fault_2 16 rfl rfl)
theorem dX0_fault_61 : decode cX0_fault 61 = .ok (.getfield 126, 3) := dk_180 0 126 (dk_at dksX0_fault_2 17 rfl rfl)
theorem dX0_fault_64 : decode cX0_fault 64 = .ok (.getfield 148, 3) := dk_180 0 148 (dk_at dksX0_fault_2 20 rfl rfl)
theorem dX0_fault_67 : decode cX0_fault 67 = .ok (.ireturn, 1) := dk_172 (dk_at dksX0_fault_2 23 rfl rfl)
theorem dX0_fault_68 : decode cX0_fault 68 = .ok (.iload_n 1, 1) := dk_27 (dk_at dksX0_fault_3 0 rfl rfl)
theorem dX0_fault_69 : decode cX0_fault 69 = .ok (.iconst 3, 1) := dk_6 (dk_at dksX0_fault_3 1 rfl rfl)
theorem dX0_fault_70 : decode cX0_fault 70 = .ok (.if_icmp .ne 32, 3) := dk_160 0 32 (dk_at dksX0_fault_3 2 rfl rfl)
theorem dX0_fault_73 : decode cX0_fault 73 = .ok (.aload_n 0, 1) := dk_42 (dk_at dksX0_fault_3 5 rfl rfl)
theorem dX0_fault_74 : decode cX0_fault 74 = .ok (.getfield 126, 3) := dk_180 0 126 (dk_at dksX0_fault_3 6 rfl rfl)
theorem dX0_fault_77 : decode cX0_fault 77 = .ok (.invokevirtual 153, 3) := dk_182 0 153 (dk_at dksX0_fault_3 9 rfl rfl)
theorem dX0_fault_80 : decode cX0_fault 80 = .ok (.instanceof 154, 3) := dk_193 0 154 (dk_at dksX0_fault_3 12 rfl rfl)
theorem dX0_fault_83 : decode cX0_fault 83 = .ok (.ifCond .eq 19, 3) := dk_153 0 19 (dk_at dksX0_fault_3 15 rfl rfl)
theorem dX0_fault_86 : decode cX0_fault 86 = .ok (.aload_n 0, 1) := dk_42 (dk_at dksX0_fault_3 18 rfl rfl)
theorem dX0_fault_87 : decode cX0_fault 87 = .ok (.getfield 126, 3) := dk_180 0 126 (dk_at dksX0_fault_3 19 rfl rfl)
theorem dX0_fault_90 : decode cX0_fault 90 = .ok (.invokevirtual 153, 3) := dk_182 0 153 (dk_at dksX0_fault_4 0 rfl rfl)
theorem dX0_fault_93 : decode cX0_fault 93 = .ok (.checkcast 154, 3) := dk_192 0 154 (dk_at dksX0_fault_4 3 rfl rfl)
theorem dX0_fault_96 : decode cX0_fault 96 = .ok (.getfield 156, 3) := dk_180 0 156 (dk_at dksX0_fault_4 6 rfl rfl)
theorem dX0_fault_99 : decode cX0_fault 99 = .ok (.goto 4, 3) := dk_167 0 4 (dk_at dksX0_fault_4 9 rfl rfl)
theorem dX0_fault_102 : decode cX0_fault 102 = .ok (.iconst (-1), 1) := dk_2 (dk_at dksX0_fault_4 12 rfl rfl)
theorem dX0_fault_103 : decode cX0_fault 103 = .ok (.ireturn, 1) := dk_172 (dk_at dksX0_fault_4 13 rfl rfl)
abbrev cX0_root : ByteArray := prog_1_method_17_code
def yX0_root : MethodName := ⟨RX0, "root", "()LToldPowers$Wrong;"⟩
def dkwX0_root_1 : List UInt8 := [176]
abbrev dktX0_root_1 : List UInt8 := dkwX0_root_1 ++ []
def dkwX0_root_0 : List UInt8 := [42, 180, 0, 126, 76, 43, 182, 0, 130, 198, 0, 11, 43, 182, 0, 130, 76, 167, 255, 244, 43, 192, 0, 136]
abbrev dktX0_root_0 : List UInt8 := dkwX0_root_0 ++ dktX0_root_1
theorem dksX0_root_0 : cX0_root.data.toList.drop 0 = dktX0_root_0 := by decide +kernel
theorem dksX0_root_1 : cX0_root.data.toList.drop 24 = dktX0_root_1 := dk_seg dksX0_root_0 24 rfl rfl
theorem dX0_root_0 : decode cX0_root 0 = .ok (.aload_n 0, 1) := dk_42 (dk_at dksX0_root_0 0 rfl rfl)
theorem dX0_root_1 : decode cX0_root 1 = .ok (.getfield 126, 3) := dk_180 0 126 (dk_at dksX0_root_0 1 rfl rfl)
theorem dX0_root_4 : decode cX0_root 4 = .ok (.astore_n 1, 1) := dk_76 (dk_at dksX0_root_0 4 rfl rfl)
theorem dX0_root_5 : decode cX0_root 5 = .ok (.aload_n 1, 1) := dk_43 (dk_at dksX0_root_0 5 rfl rfl)
theorem dX0_root_6 : decode cX0_root 6 = .ok (.invokevirtual 130, 3) := dk_182 0 130 (dk_at dksX0_root_0 6 rfl rfl)
theorem dX0_root_9 : decode cX0_root 9 = .ok (.ifnull 11, 3) := dk_198 0 11 (dk_at dksX0_root_0 9 rfl rfl)
theorem dX0_root_12 : decode cX0_root 12 = .ok (.aload_n 1, 1) := dk_43 (dk_at dksX0_root_0 12 rfl rfl)
theorem dX0_root_13 : decode cX0_root 13 = .ok (.invokevirtual 130, 3) := dk_182 0 130 (dk_at dksX0_root_0 13 rfl rfl)
theorem dX0_root_16 : decode cX0_root 16 = .ok (.astore_n 1, 1) := dk_76 (dk_at dksX0_root_0 16 rfl rfl)
theorem dX0_root_17 : decode cX0_root 17 = .ok (.goto (-12), 3) := dk_167 255 244 (dk_at dksX0_root_0 17 rfl rfl)
theorem dX0_root_20 : decode cX0_root 20 = .ok (.aload_n 1, 1) := dk_43 (dk_at dksX0_root_0 20 rfl rfl)
theorem dX0_root_21 : decode cX0_root 21 = .ok (.checkcast 136, 3) := dk_192 0 136 (dk_at dksX0_root_0 21 rfl rfl)
theorem dX0_root_24 : decode cX0_root 24 = .ok (.areturn, 1) := dk_176 (dk_at dksX0_root_1 0 rfl rfl)
abbrev cX0_init : ByteArray := prog_1_method_19_code
def yX0_init : MethodName := ⟨RX0, "<init>", "()V"⟩
def dkwX0_init_6 : List UInt8 := [197, 0, 212, 2, 181, 0, 214, 42, 18, 217, 181, 0, 219, 177]
abbrev dktX0_init_6 : List UInt8 := dkwX0_init_6 ++ []
def dkwX0_init_5 : List UInt8 := [181, 0, 201, 42, 16, 60, 188, 11, 181, 0, 205, 42, 16, 60, 188, 11, 181, 0, 209, 42, 16, 6, 16, 60]
abbrev dktX0_init_5 : List UInt8 := dkwX0_init_5 ++ dktX0_init_6
def dkwX0_init_4 : List UInt8 := [181, 0, 37, 42, 16, 6, 17, 117, 49, 197, 0, 200, 2, 181, 0, 84, 42, 17, 3, 32, 188, 8]
abbrev dktX0_init_4 : List UInt8 := dkwX0_init_4 ++ dktX0_init_5
def dkwX0_init_3 : List UInt8 := [83, 181, 0, 196, 42, 7, 189, 0, 10, 181, 0, 5, 42, 16, 6, 17, 117, 49, 197, 0, 200, 2]
abbrev dktX0_init_3 : List UInt8 := dkwX0_init_3 ++ dktX0_init_4
def dkwX0_init_2 : List UInt8 := [89, 3, 18, 186, 83, 89, 4, 18, 188, 83, 89, 5, 18, 190, 83, 89, 6, 18, 192, 83, 89, 7, 18, 194]
abbrev dktX0_init_2 : List UInt8 := dkwX0_init_2 ++ dktX0_init_3
def dkwX0_init_1 : List UInt8 := [178, 0, 171, 83, 89, 6, 178, 0, 174, 83, 89, 7, 178, 0, 177, 83, 181, 0, 180, 42, 8, 189, 0, 184]
abbrev dktX0_init_1 : List UInt8 := dkwX0_init_1 ++ dktX0_init_2
def dkwX0_init_0 : List UInt8 := [42, 183, 0, 157, 42, 8, 189, 0, 162, 89, 3, 178, 0, 164, 83, 89, 4, 178, 0, 168, 83, 89, 5]
abbrev dktX0_init_0 : List UInt8 := dkwX0_init_0 ++ dktX0_init_1
theorem dksX0_init_0 : cX0_init.data.toList.drop 0 = dktX0_init_0 := by decide +kernel
theorem dksX0_init_1 : cX0_init.data.toList.drop 23 = dktX0_init_1 := dk_seg dksX0_init_0 23 rfl rfl
theorem dksX0_init_2 : cX0_init.data.toList.drop 47 = dktX0_init_2 := dk_seg dksX0_init_1 24 rfl rfl
theorem dksX0_init_3 : cX0_init.data.toList.drop 71 = dktX0_init_3 := dk_seg dksX0_init_2 24 rfl rfl
theorem dksX0_init_4 : cX0_init.data.toList.drop 93 = dktX0_init_4 := dk_seg dksX0_init_3 22 rfl rfl
theorem dksX0_init_5 : cX0_init.data.toList.drop 115 = dktX0_init_5 := dk_seg dksX0_init_4 22 rfl rfl
theorem dksX0_init_6 : cX0_init.data.toList.drop 139 = dktX0_init_6 := dk_seg dksX0_init_5 24 rfl rfl
theorem dX0_init_0 : decode cX0_init 0 = .ok (.aload_n 0, 1) := dk_42 (dk_at dksX0_init_0 0 rfl rfl)
theorem dX0_init_1 : decode cX0_init 1 = .ok (.invokespecial 157, 3) := dk_183 0 157 (dk_at dksX0_init_0 1 rfl rfl)
theorem dX0_init_4 : decode cX0_init 4 = .ok (.aload_n 0, 1) := dk_42 (dk_at dksX0_init_0 4 rfl rfl)
theorem dX0_init_5 : decode cX0_init 5 = .ok (.iconst 5, 1) := dk_8 (dk_at dksX0_init_0 5 rfl rfl)
theorem dX0_init_6 : decode cX0_init 6 = .ok (.anewarray 162, 3) := dk_189 0 162 (dk_at dksX0_init_0 6 rfl rfl)
theorem dX0_init_9 : decode cX0_init 9 = .ok (.dup, 1) := dk_89 (dk_at dksX0_init_0 9 rfl rfl)
theorem dX0_init_10 : decode cX0_init 10 = .ok (.iconst 0, 1) := dk_3 (dk_at dksX0_init_0 10 rfl rfl)
theorem dX0_init_11 : decode cX0_init 11 = .ok (.getstatic 164, 3) := dk_178 0 164 (dk_at dksX0_init_0 11 rfl rfl)
theorem dX0_init_14 : decode cX0_init 14 = .ok (.aastore, 1) := dk_83 (dk_at dksX0_init_0 14 rfl rfl)
theorem dX0_init_15 : decode cX0_init 15 = .ok (.dup, 1) := dk_89 (dk_at dksX0_init_0 15 rfl rfl)
theorem dX0_init_16 : decode cX0_init 16 = .ok (.iconst 1, 1) := dk_4 (dk_at dksX0_init_0 16 rfl rfl)
theorem dX0_init_17 : decode cX0_init 17 = .ok (.getstatic 168, 3) := dk_178 0 168 (dk_at dksX0_init_0 17 rfl rfl)
theorem dX0_init_20 : decode cX0_init 20 = .ok (.aastore, 1) := dk_83 (dk_at dksX0_init_0 20 rfl rfl)
theorem dX0_init_21 : decode cX0_init 21 = .ok (.dup, 1) := dk_89 (dk_at dksX0_init_0 21 rfl rfl)
theorem dX0_init_22 : decode cX0_init 22 = .ok (.iconst 2, 1) := dk_5 (dk_at dksX0_init_0 22 rfl rfl)
theorem dX0_init_23 : decode cX0_init 23 = .ok (.getstatic 171, 3) := dk_178 0 171 (dk_at dksX0_init_1 0 rfl rfl)
theorem dX0_init_26 : decode cX0_init 26 = .ok (.aastore, 1) := dk_83 (dk_at dksX0_init_1 3 rfl rfl)
theorem dX0_init_27 : decode cX0_init 27 = .ok (.dup, 1) := dk_89 (dk_at dksX0_init_1 4 rfl rfl)
theorem dX0_init_28 : decode cX0_init 28 = .ok (.iconst 3, 1) := dk_6 (dk_at dksX0_init_1 5 rfl rfl)
theorem dX0_init_29 : decode cX0_init 29 = .ok (.getstatic 174, 3) := dk_178 0 174 (dk_at dksX0_init_1 6 rfl rfl)
theorem dX0_init_32 : decode cX0_init 32 = .ok (.aastore, 1) := dk_83 (dk_at dksX0_init_1 9 rfl rfl)
theorem dX0_init_33 : decode cX0_init 33 = .ok (.dup, 1) := dk_89 (dk_at dksX0_init_1 10 rfl rfl)
theorem dX0_init_34 : decode cX0_init 34 = .ok (.iconst 4, 1) := dk_7 (dk_at dksX0_init_1 11 rfl rfl)
theorem dX0_init_35 : decode cX0_init 35 = .ok (.getstatic 177, 3) := dk_178 0 177 (dk_at dksX0_init_1 12 rfl rfl)
theorem dX0_init_38 : decode cX0_init 38 = .ok (.aastore, 1) := dk_83 (dk_at dksX0_init_1 15 rfl rfl)
theorem dX0_init_39 : decode cX0_init 39 = .ok (.putfield 180, 3) := dk_181 0 180 (dk_at dksX0_init_1 16 rfl rfl)
theorem dX0_init_42 : decode cX0_init 42 = .ok (.aload_n 0, 1) := dk_42 (dk_at dksX0_init_1 19 rfl rfl)
theorem dX0_init_43 : decode cX0_init 43 = .ok (.iconst 5, 1) := dk_8 (dk_at dksX0_init_1 20 rfl rfl)
theorem dX0_init_44 : decode cX0_init 44 = .ok (.anewarray 184, 3) := dk_189 0 184 (dk_at dksX0_init_1 21 rfl rfl)
theorem dX0_init_47 : decode cX0_init 47 = .ok (.dup, 1) := dk_89 (dk_at dksX0_init_2 0 rfl rfl)
theorem dX0_init_48 : decode cX0_init 48 = .ok (.iconst 0, 1) := dk_3 (dk_at dksX0_init_2 1 rfl rfl)
theorem dX0_init_49 : decode cX0_init 49 = .ok (.ldc 186, 2) := dk_18 186 (dk_at dksX0_init_2 2 rfl rfl)
theorem dX0_init_51 : decode cX0_init 51 = .ok (.aastore, 1) := dk_83 (dk_at dksX0_init_2 4 rfl rfl)
theorem dX0_init_52 : decode cX0_init 52 = .ok (.dup, 1) := dk_89 (dk_at dksX0_init_2 5 rfl rfl)
theorem dX0_init_53 : decode cX0_init 53 = .ok (.iconst 1, 1) := dk_4 (dk_at dksX0_init_2 6 rfl rfl)
theorem dX0_init_54 : decode cX0_init 54 = .ok (.ldc 188, 2) := dk_18 188 (dk_at dksX0_init_2 7 rfl rfl)
theorem dX0_init_56 : decode cX0_init 56 = .ok (.aastore, 1) := dk_83 (dk_at dksX0_init_2 9 rfl rfl)
theorem dX0_init_57 : decode cX0_init 57 = .ok (.dup, 1) := dk_89 (dk_at dksX0_init_2 10 rfl rfl)
theorem dX0_init_58 : decode cX0_init 58 = .ok (.iconst 2, 1) := dk_5 (dk_at dksX0_init_2 11 rfl rfl)
theorem dX0_init_59 : decode cX0_init 59 = .ok (.ldc 190, 2) := dk_18 190 (dk_at dksX0_init_2 12 rfl rfl)
theorem dX0_init_61 : decode cX0_init 61 = .ok (.aastore, 1) := dk_83 (dk_at dksX0_init_2 14 rfl rfl)
theorem dX0_init_62 : decode cX0_init 62 = .ok (.dup, 1) := dk_89 (dk_at dksX0_init_2 15 rfl rfl)
theorem dX0_init_63 : decode cX0_init 63 = .ok (.iconst 3, 1) := dk_6 (dk_at dksX0_init_2 16 rfl rfl)
theorem dX0_init_64 : decode cX0_init 64 = .ok (.ldc 192, 2) := dk_18 192 (dk_at dksX0_init_2 17 rfl rfl)
theorem dX0_init_66 : decode cX0_init 66 = .ok (.aastore, 1) := dk_83 (dk_at dksX0_init_2 19 rfl rfl)
theorem dX0_init_67 : decode cX0_init 67 = .ok (.dup, 1) := dk_89 (dk_at dksX0_init_2 20 rfl rfl)
theorem dX0_init_68 : decode cX0_init 68 = .ok (.iconst 4, 1) := dk_7 (dk_at dksX0_init_2 21 rfl rfl)
theorem dX0_init_69 : decode cX0_init 69 = .ok (.ldc 194, 2) := dk_18 194 (dk_at dksX0_init_2 22 rfl rfl)
theorem dX0_init_71 : decode cX0_init 71 = .ok (.aastore, 1) := dk_83 (dk_at dksX0_init_3 0 rfl rfl)
theorem dX0_init_72 : decode cX0_init 72 = .ok (.putfield 196, 3) := dk_181 0 196 (dk_at dksX0_init_3 1 rfl rfl)
theorem dX0_init_75 : decode cX0_init 75 = .ok (.aload_n 0, 1) := dk_42 (dk_at dksX0_init_3 4 rfl rfl)
theorem dX0_init_76 : decode cX0_init 76 = .ok (.iconst 4, 1) := dk_7 (dk_at dksX0_init_3 5 rfl rfl)
theorem dX0_init_77 : decode cX0_init 77 = .ok (.anewarray 10, 3) := dk_189 0 10 (dk_at dksX0_init_3 6 rfl rfl)
theorem dX0_init_80 : decode cX0_init 80 = .ok (.putfield 5, 3) := dk_181 0 5 (dk_at dksX0_init_3 9 rfl rfl)
theorem dX0_init_83 : decode cX0_init 83 = .ok (.aload_n 0, 1) := dk_42 (dk_at dksX0_init_3 12 rfl rfl)
theorem dX0_init_84 : decode cX0_init 84 = .ok (.bipush 6, 2) := dk_16 6 (dk_at dksX0_init_3 13 rfl rfl)
theorem dX0_init_86 : decode cX0_init 86 = .ok (.sipush 30001, 3) := dk_17 117 49 (dk_at dksX0_init_3 15 rfl rfl)
theorem dX0_init_89 : decode cX0_init 89 = .ok (.multianewarray 200 2, 4) := by decide +kernel
theorem dX0_init_93 : decode cX0_init 93 = .ok (.putfield 37, 3) := dk_181 0 37 (dk_at dksX0_init_4 0 rfl rfl)
theorem dX0_init_96 : decode cX0_init 96 = .ok (.aload_n 0, 1) := dk_42 (dk_at dksX0_init_4 3 rfl rfl)
theorem dX0_init_97 : decode cX0_init 97 = .ok (.bipush 6, 2) := dk_16 6 (dk_at dksX0_init_4 4 rfl rfl)
theorem dX0_init_99 : decode cX0_init 99 = .ok (.sipush 30001, 3) := dk_17 117 49 (dk_at dksX0_init_4 6 rfl rfl)
theorem dX0_init_102 : decode cX0_init 102 = .ok (.multianewarray 200 2, 4) := by decide +kernel
theorem dX0_init_106 : decode cX0_init 106 = .ok (.putfield 84, 3) := dk_181 0 84 (dk_at dksX0_init_4 13 rfl rfl)
theorem dX0_init_109 : decode cX0_init 109 = .ok (.aload_n 0, 1) := dk_42 (dk_at dksX0_init_4 16 rfl rfl)
theorem dX0_init_110 : decode cX0_init 110 = .ok (.sipush 800, 3) := dk_17 3 32 (dk_at dksX0_init_4 17 rfl rfl)
theorem dX0_init_113 : decode cX0_init 113 = .ok (.newarray .byte, 2) := dk_188_8 (dk_at dksX0_init_4 20 rfl rfl)
theorem dX0_init_115 : decode cX0_init 115 = .ok (.putfield 201, 3) := dk_181 0 201 (dk_at dksX0_init_5 0 rfl rfl)
theorem dX0_init_118 : decode cX0_init 118 = .ok (.aload_n 0, 1) := dk_42 (dk_at dksX0_init_5 3 rfl rfl)
theorem dX0_init_119 : decode cX0_init 119 = .ok (.bipush 60, 2) := dk_16 60 (dk_at dksX0_init_5 4 rfl rfl)
theorem dX0_init_121 : decode cX0_init 121 = .ok (.newarray .long, 2) := dk_188_11 (dk_at dksX0_init_5 6 rfl rfl)
theorem dX0_init_123 : decode cX0_init 123 = .ok (.putfield 205, 3) := dk_181 0 205 (dk_at dksX0_init_5 8 rfl rfl)
theorem dX0_init_126 : decode cX0_init 126 = .ok (.aload_n 0, 1) := dk_42 (dk_at dksX0_init_5 11 rfl rfl)
theorem dX0_init_127 : decode cX0_init 127 = .ok (.bipush 60, 2) := dk_16 60 (dk_at dksX0_init_5 12 rfl rfl)
theorem dX0_init_129 : decode cX0_init 129 = .ok (.newarray .long, 2) := dk_188_11 (dk_at dksX0_init_5 14 rfl rfl)
theorem dX0_init_131 : decode cX0_init 131 = .ok (.putfield 209, 3) := dk_181 0 209 (dk_at dksX0_init_5 16 rfl rfl)
theorem dX0_init_134 : decode cX0_init 134 = .ok (.aload_n 0, 1) := dk_42 (dk_at dksX0_init_5 19 rfl rfl)
theorem dX0_init_135 : decode cX0_init 135 = .ok (.bipush 6, 2) := dk_16 6 (dk_at dksX0_init_5 20 rfl rfl)
theorem dX0_init_137 : decode cX0_init 137 = .ok (.bipush 60, 2) := dk_16 60 (dk_at dksX0_init_5 22 rfl rfl)
theorem dX0_init_139 : decode cX0_init 139 = .ok (.multianewarray 212 2, 4) := by decide +kernel
theorem dX0_init_143 : decode cX0_init 143 = .ok (.putfield 214, 3) := dk_181 0 214 (dk_at dksX0_init_6 4 rfl rfl)
theorem dX0_init_146 : decode cX0_init 146 = .ok (.aload_n 0, 1) := dk_42 (dk_at dksX0_init_6 7 rfl rfl)
theorem dX0_init_147 : decode cX0_init 147 = .ok (.ldc 217, 2) := dk_18 217 (dk_at dksX0_init_6 8 rfl rfl)
theorem dX0_init_149 : decode cX0_init 149 = .ok (.putfield 219, 3) := dk_181 0 219 (dk_at dksX0_init_6 10 rfl rfl)
theorem dX0_init_152 : decode cX0_init 152 = .ok (.return_, 1) := dk_177 (dk_at dksX0_init_6 13 rfl rfl)
abbrev cX0_feed : ByteArray := prog_1_method_20_code
def yX0_feed : MethodName := ⟨RX0, "feed", "(IIIII)I"⟩
def dkwX0_feed_4 : List UInt8 := [89, 180, 0, 223, 25, 6, 190, 96, 181, 0, 223, 42, 180, 0, 223, 172, 58, 8, 2, 172]
abbrev dktX0_feed_4 : List UInt8 := dkwX0_feed_4 ++ []
def dkwX0_feed_3 : List UInt8 := [132, 8, 1, 167, 255, 221, 25, 6, 3, 42, 180, 0, 201, 42, 180, 0, 223, 25, 6, 190, 184, 0, 91, 42]
abbrev dktX0_feed_3 : List UInt8 := dkwX0_feed_3 ++ dktX0_feed_4
def dkwX0_feed_2 : List UInt8 := [21, 8, 25, 7, 21, 8, 7, 108, 46, 16, 24, 16, 8, 21, 8, 7, 112, 104, 100, 122, 145, 84]
abbrev dktX0_feed_2 : List UInt8 := dkwX0_feed_2 ++ dktX0_feed_3
def dkwX0_feed_1 : List UInt8 := [21, 4, 79, 89, 7, 21, 5, 79, 58, 7, 3, 54, 8, 21, 8, 25, 6, 190, 162, 0, 33, 25, 6]
abbrev dktX0_feed_1 : List UInt8 := dkwX0_feed_1 ++ dktX0_feed_2
def dkwX0_feed_0 : List UInt8 := [16, 20, 188, 8, 58, 6, 8, 188, 10, 89, 3, 27, 79, 89, 4, 28, 79, 89, 5, 29, 79, 89, 6]
abbrev dktX0_feed_0 : List UInt8 := dkwX0_feed_0 ++ dktX0_feed_1
theorem dksX0_feed_0 : cX0_feed.data.toList.drop 0 = dktX0_feed_0 := by decide +kernel
theorem dksX0_feed_1 : cX0_feed.data.toList.drop 23 = dktX0_feed_1 := dk_seg dksX0_feed_0 23 rfl rfl
theorem dksX0_feed_2 : cX0_feed.data.toList.drop 46 = dktX0_feed_2 := dk_seg dksX0_feed_1 23 rfl rfl
theorem dksX0_feed_3 : cX0_feed.data.toList.drop 68 = dktX0_feed_3 := dk_seg dksX0_feed_2 22 rfl rfl
theorem dksX0_feed_4 : cX0_feed.data.toList.drop 92 = dktX0_feed_4 := dk_seg dksX0_feed_3 24 rfl rfl
theorem dX0_feed_0 : decode cX0_feed 0 = .ok (.bipush 20, 2) := dk_16 20 (dk_at dksX0_feed_0 0 rfl rfl)
theorem dX0_feed_2 : decode cX0_feed 2 = .ok (.newarray .byte, 2) := dk_188_8 (dk_at dksX0_feed_0 2 rfl rfl)
theorem dX0_feed_4 : decode cX0_feed 4 = .ok (.astore 6, 2) := dk_58 6 (dk_at dksX0_feed_0 4 rfl rfl)
theorem dX0_feed_6 : decode cX0_feed 6 = .ok (.iconst 5, 1) := dk_8 (dk_at dksX0_feed_0 6 rfl rfl)
theorem dX0_feed_7 : decode cX0_feed 7 = .ok (.newarray .int, 2) := dk_188_10 (dk_at dksX0_feed_0 7 rfl rfl)
theorem dX0_feed_9 : decode cX0_feed 9 = .ok (.dup, 1) := dk_89 (dk_at dksX0_feed_0 9 rfl rfl)
theorem dX0_feed_10 : decode cX0_feed 10 = .ok (.iconst 0, 1) := dk_3 (dk_at dksX0_feed_0 10 rfl rfl)
theorem dX0_feed_11 : decode cX0_feed 11 = .ok (.iload_n 1, 1) := dk_27 (dk_at dksX0_feed_0 11 rfl rfl)
theorem dX0_feed_12 : decode cX0_feed 12 = .ok (.iastore, 1) := dk_79 (dk_at dksX0_feed_0 12 rfl rfl)
theorem dX0_feed_13 : decode cX0_feed 13 = .ok (.dup, 1) := dk_89 (dk_at dksX0_feed_0 13 rfl rfl)
theorem dX0_feed_14 : decode cX0_feed 14 = .ok (.iconst 1, 1) := dk_4 (dk_at dksX0_feed_0 14 rfl rfl)
theorem dX0_feed_15 : decode cX0_feed 15 = .ok (.iload_n 2, 1) := dk_28 (dk_at dksX0_feed_0 15 rfl rfl)
theorem dX0_feed_16 : decode cX0_feed 16 = .ok (.iastore, 1) := dk_79 (dk_at dksX0_feed_0 16 rfl rfl)
theorem dX0_feed_17 : decode cX0_feed 17 = .ok (.dup, 1) := dk_89 (dk_at dksX0_feed_0 17 rfl rfl)
theorem dX0_feed_18 : decode cX0_feed 18 = .ok (.iconst 2, 1) := dk_5 (dk_at dksX0_feed_0 18 rfl rfl)
theorem dX0_feed_19 : decode cX0_feed 19 = .ok (.iload_n 3, 1) := dk_29 (dk_at dksX0_feed_0 19 rfl rfl)
theorem dX0_feed_20 : decode cX0_feed 20 = .ok (.iastore, 1) := dk_79 (dk_at dksX0_feed_0 20 rfl rfl)
theorem dX0_feed_21 : decode cX0_feed 21 = .ok (.dup, 1) := dk_89 (dk_at dksX0_feed_0 21 rfl rfl)
theorem dX0_feed_22 : decode cX0_feed 22 = .ok (.iconst 3, 1) := dk_6 (dk_at dksX0_feed_0 22 rfl rfl)
theorem dX0_feed_23 : decode cX0_feed 23 = .ok (.iload 4, 2) := dk_21 4 (dk_at dksX0_feed_1 0 rfl rfl)
theorem dX0_feed_25 : decode cX0_feed 25 = .ok (.iastore, 1) := dk_79 (dk_at dksX0_feed_1 2 rfl rfl)
theorem dX0_feed_26 : decode cX0_feed 26 = .ok (.dup, 1) := dk_89 (dk_at dksX0_feed_1 3 rfl rfl)
theorem dX0_feed_27 : decode cX0_feed 27 = .ok (.iconst 4, 1) := dk_7 (dk_at dksX0_feed_1 4 rfl rfl)
theorem dX0_feed_28 : decode cX0_feed 28 = .ok (.iload 5, 2) := dk_21 5 (dk_at dksX0_feed_1 5 rfl rfl)
theorem dX0_feed_30 : decode cX0_feed 30 = .ok (.iastore, 1) := dk_79 (dk_at dksX0_feed_1 7 rfl rfl)
theorem dX0_feed_31 : decode cX0_feed 31 = .ok (.astore 7, 2) := dk_58 7 (dk_at dksX0_feed_1 8 rfl rfl)
theorem dX0_feed_33 : decode cX0_feed 33 = .ok (.iconst 0, 1) := dk_3 (dk_at dksX0_feed_1 10 rfl rfl)
theorem dX0_feed_34 : decode cX0_feed 34 = .ok (.istore 8, 2) := dk_54 8 (dk_at dksX0_feed_1 11 rfl rfl)
theorem dX0_feed_36 : decode cX0_feed 36 = .ok (.iload 8, 2) := dk_21 8 (dk_at dksX0_feed_1 13 rfl rfl)
theorem dX0_feed_38 : decode cX0_feed 38 = .ok (.aload 6, 2) := dk_25 6 (dk_at dksX0_feed_1 15 rfl rfl)
theorem dX0_feed_40 : decode cX0_feed 40 = .ok (.arraylength, 1) := dk_190 (dk_at dksX0_feed_1 17 rfl rfl)
theorem dX0_feed_41 : decode cX0_feed 41 = .ok (.if_icmp .ge 33, 3) := dk_162 0 33 (dk_at dksX0_feed_1 18 rfl rfl)
theorem dX0_feed_44 : decode cX0_feed 44 = .ok (.aload 6, 2) := dk_25 6 (dk_at dksX0_feed_1 21 rfl rfl)
theorem dX0_feed_46 : decode cX0_feed 46 = .ok (.iload 8, 2) := dk_21 8 (dk_at dksX0_feed_2 0 rfl rfl)
theorem dX0_feed_48 : decode cX0_feed 48 = .ok (.aload 7, 2) := dk_25 7 (dk_at dksX0_feed_2 2 rfl rfl)
theorem dX0_feed_50 : decode cX0_feed 50 = .ok (.iload 8, 2) := dk_21 8 (dk_at dksX0_feed_2 4 rfl rfl)
theorem dX0_feed_52 : decode cX0_feed 52 = .ok (.iconst 4, 1) := dk_7 (dk_at dksX0_feed_2 6 rfl rfl)
theorem dX0_feed_53 : decode cX0_feed 53 = .ok (.idiv, 1) := dk_108 (dk_at dksX0_feed_2 7 rfl rfl)
theorem dX0_feed_54 : decode cX0_feed 54 = .ok (.iaload, 1) := dk_46 (dk_at dksX0_feed_2 8 rfl rfl)
theorem dX0_feed_55 : decode cX0_feed 55 = .ok (.bipush 24, 2) := dk_16 24 (dk_at dksX0_feed_2 9 rfl rfl)
theorem dX0_feed_57 : decode cX0_feed 57 = .ok (.bipush 8, 2) := dk_16 8 (dk_at dksX0_feed_2 11 rfl rfl)
theorem dX0_feed_59 : decode cX0_feed 59 = .ok (.iload 8, 2) := dk_21 8 (dk_at dksX0_feed_2 13 rfl rfl)
theorem dX0_feed_61 : decode cX0_feed 61 = .ok (.iconst 4, 1) := dk_7 (dk_at dksX0_feed_2 15 rfl rfl)
theorem dX0_feed_62 : decode cX0_feed 62 = .ok (.irem, 1) := dk_112 (dk_at dksX0_feed_2 16 rfl rfl)
theorem dX0_feed_63 : decode cX0_feed 63 = .ok (.imul, 1) := dk_104 (dk_at dksX0_feed_2 17 rfl rfl)
theorem dX0_feed_64 : decode cX0_feed 64 = .ok (.isub, 1) := dk_100 (dk_at dksX0_feed_2 18 rfl rfl)
theorem dX0_feed_65 : decode cX0_feed 65 = .ok (.ishr, 1) := dk_122 (dk_at dksX0_feed_2 19 rfl rfl)
theorem dX0_feed_66 : decode cX0_feed 66 = .ok (.i2b, 1) := dk_145 (dk_at dksX0_feed_2 20 rfl rfl)
theorem dX0_feed_67 : decode cX0_feed 67 = .ok (.bastore, 1) := dk_84 (dk_at dksX0_feed_2 21 rfl rfl)
theorem dX0_feed_68 : decode cX0_feed 68 = .ok (.iinc 8 1, 3) := dk_132 8 1 (dk_at dksX0_feed_3 0 rfl rfl)
theorem dX0_feed_71 : decode cX0_feed 71 = .ok (.goto (-35), 3) := dk_167 255 221 (dk_at dksX0_feed_3 3 rfl rfl)
theorem dX0_feed_74 : decode cX0_feed 74 = .ok (.aload 6, 2) := dk_25 6 (dk_at dksX0_feed_3 6 rfl rfl)
theorem dX0_feed_76 : decode cX0_feed 76 = .ok (.iconst 0, 1) := dk_3 (dk_at dksX0_feed_3 8 rfl rfl)
theorem dX0_feed_77 : decode cX0_feed 77 = .ok (.aload_n 0, 1) := dk_42 (dk_at dksX0_feed_3 9 rfl rfl)
theorem dX0_feed_78 : decode cX0_feed 78 = .ok (.getfield 201, 3) := dk_180 0 201 (dk_at dksX0_feed_3 10 rfl rfl)
theorem dX0_feed_81 : decode cX0_feed 81 = .ok (.aload_n 0, 1) := dk_42 (dk_at dksX0_feed_3 13 rfl rfl)
theorem dX0_feed_82 : decode cX0_feed 82 = .ok (.getfield 223, 3) := dk_180 0 223 (dk_at dksX0_feed_3 14 rfl rfl)
theorem dX0_feed_85 : decode cX0_feed 85 = .ok (.aload 6, 2) := dk_25 6 (dk_at dksX0_feed_3 17 rfl rfl)
theorem dX0_feed_87 : decode cX0_feed 87 = .ok (.arraylength, 1) := dk_190 (dk_at dksX0_feed_3 19 rfl rfl)
theorem dX0_feed_88 : decode cX0_feed 88 = .ok (.invokestatic 91, 3) := dk_184 0 91 (dk_at dksX0_feed_3 20 rfl rfl)
theorem dX0_feed_91 : decode cX0_feed 91 = .ok (.aload_n 0, 1) := dk_42 (dk_at dksX0_feed_3 23 rfl rfl)
theorem dX0_feed_92 : decode cX0_feed 92 = .ok (.dup, 1) := dk_89 (dk_at dksX0_feed_4 0 rfl rfl)
theorem dX0_feed_93 : decode cX0_feed 93 = .ok (.getfield 223, 3) := dk_180 0 223 (dk_at dksX0_feed_4 1 rfl rfl)
theorem dX0_feed_96 : decode cX0_feed 96 = .ok (.aload 6, 2) := dk_25 6 (dk_at dksX0_feed_4 4 rfl rfl)
theorem dX0_feed_98 : decode cX0_feed 98 = .ok (.arraylength, 1) := dk_190 (dk_at dksX0_feed_4 6 rfl rfl)
theorem dX0_feed_99 : decode cX0_feed 99 = .ok (.iadd, 1) := dk_96 (dk_at dksX0_feed_4 7 rfl rfl)
theorem dX0_feed_100 : decode cX0_feed 100 = .ok (.putfield 223, 3) := dk_181 0 223 (dk_at dksX0_feed_4 8 rfl rfl)
theorem dX0_feed_103 : decode cX0_feed 103 = .ok (.aload_n 0, 1) := dk_42 (dk_at dksX0_feed_4 11 rfl rfl)
theorem dX0_feed_104 : decode cX0_feed 104 = .ok (.getfield 223, 3) := dk_180 0 223 (dk_at dksX0_feed_4 12 rfl rfl)
theorem dX0_feed_107 : decode cX0_feed 107 = .ok (.ireturn, 1) := dk_172 (dk_at dksX0_feed_4 15 rfl rfl)
theorem dX0_feed_108 : decode cX0_feed 108 = .ok (.astore 8, 2) := dk_58 8 (dk_at dksX0_feed_4 16 rfl rfl)
theorem dX0_feed_110 : decode cX0_feed 110 = .ok (.iconst (-1), 1) := dk_2 (dk_at dksX0_feed_4 18 rfl rfl)
theorem dX0_feed_111 : decode cX0_feed 111 = .ok (.ireturn, 1) := dk_172 (dk_at dksX0_feed_4 19 rfl rfl)
abbrev cX0_end : ByteArray := prog_1_method_21_code
def yX0_end : MethodName := ⟨RX0, "end", "(I)Z"⟩
def dkwX0_end_0 : List UInt8 := [27, 133, 9, 42, 180, 0, 223, 133, 184, 0, 21, 154, 0, 5, 3, 172, 42, 27, 181, 0, 223, 4, 172]
abbrev dktX0_end_0 : List UInt8 := dkwX0_end_0 ++ []
theorem dksX0_end_0 : cX0_end.data.toList.drop 0 = dktX0_end_0 := by decide +kernel
theorem dX0_end_0 : decode cX0_end 0 = .ok (.iload_n 1, 1) := dk_27 (dk_at dksX0_end_0 0 rfl rfl)
theorem dX0_end_1 : decode cX0_end 1 = .ok (.i2l, 1) := dk_133 (dk_at dksX0_end_0 1 rfl rfl)
theorem dX0_end_2 : decode cX0_end 2 = .ok (.lconst 0, 1) := dk_9 (dk_at dksX0_end_0 2 rfl rfl)
theorem dX0_end_3 : decode cX0_end 3 = .ok (.aload_n 0, 1) := dk_42 (dk_at dksX0_end_0 3 rfl rfl)
theorem dX0_end_4 : decode cX0_end 4 = .ok (.getfield 223, 3) := dk_180 0 223 (dk_at dksX0_end_0 4 rfl rfl)
theorem dX0_end_7 : decode cX0_end 7 = .ok (.i2l, 1) := dk_133 (dk_at dksX0_end_0 7 rfl rfl)
theorem dX0_end_8 : decode cX0_end 8 = .ok (.invokestatic 21, 3) := dk_184 0 21 (dk_at dksX0_end_0 8 rfl rfl)
theorem dX0_end_11 : decode cX0_end 11 = .ok (.ifCond .ne 5, 3) := dk_154 0 5 (dk_at dksX0_end_0 11 rfl rfl)
theorem dX0_end_14 : decode cX0_end 14 = .ok (.iconst 0, 1) := dk_3 (dk_at dksX0_end_0 14 rfl rfl)
theorem dX0_end_15 : decode cX0_end 15 = .ok (.ireturn, 1) := dk_172 (dk_at dksX0_end_0 15 rfl rfl)
theorem dX0_end_16 : decode cX0_end 16 = .ok (.aload_n 0, 1) := dk_42 (dk_at dksX0_end_0 16 rfl rfl)
theorem dX0_end_17 : decode cX0_end 17 = .ok (.iload_n 1, 1) := dk_27 (dk_at dksX0_end_0 17 rfl rfl)
theorem dX0_end_18 : decode cX0_end 18 = .ok (.putfield 223, 3) := dk_181 0 223 (dk_at dksX0_end_0 18 rfl rfl)
theorem dX0_end_21 : decode cX0_end 21 = .ok (.iconst 1, 1) := dk_4 (dk_at dksX0_end_0 21 rfl rfl)
theorem dX0_end_22 : decode cX0_end 22 = .ok (.ireturn, 1) := dk_172 (dk_at dksX0_end_0 22 rfl rfl)
abbrev cX0_isIn : ByteArray := prog_1_method_1_code
def yX0_isIn : MethodName := ⟨RX0, "isIn", "(JJJ)Z"⟩
def dkwX0_isIn_0 : List UInt8 := [30, 32, 148, 155, 0, 14, 30, 22, 4, 148, 157, 0, 7, 4, 167, 0, 4, 3, 172]
abbrev dktX0_isIn_0 : List UInt8 := dkwX0_isIn_0 ++ []
theorem dksX0_isIn_0 : cX0_isIn.data.toList.drop 0 = dktX0_isIn_0 := by decide +kernel
theorem dX0_isIn_0 : decode cX0_isIn 0 = .ok (.lload_n 0, 1) := dk_30 (dk_at dksX0_isIn_0 0 rfl rfl)
theorem dX0_isIn_1 : decode cX0_isIn 1 = .ok (.lload_n 2, 1) := dk_32 (dk_at dksX0_isIn_0 1 rfl rfl)
theorem dX0_isIn_2 : decode cX0_isIn 2 = .ok (.lcmp, 1) := dk_148 (dk_at dksX0_isIn_0 2 rfl rfl)
theorem dX0_isIn_3 : decode cX0_isIn 3 = .ok (.ifCond .lt 14, 3) := dk_155 0 14 (dk_at dksX0_isIn_0 3 rfl rfl)
theorem dX0_isIn_6 : decode cX0_isIn 6 = .ok (.lload_n 0, 1) := dk_30 (dk_at dksX0_isIn_0 6 rfl rfl)
theorem dX0_isIn_7 : decode cX0_isIn 7 = .ok (.lload 4, 2) := dk_22 4 (dk_at dksX0_isIn_0 7 rfl rfl)
theorem dX0_isIn_9 : decode cX0_isIn 9 = .ok (.lcmp, 1) := dk_148 (dk_at dksX0_isIn_0 9 rfl rfl)
theorem dX0_isIn_10 : decode cX0_isIn 10 = .ok (.ifCond .gt 7, 3) := dk_157 0 7 (dk_at dksX0_isIn_0 10 rfl rfl)
theorem dX0_isIn_13 : decode cX0_isIn 13 = .ok (.iconst 1, 1) := dk_4 (dk_at dksX0_isIn_0 13 rfl rfl)
theorem dX0_isIn_14 : decode cX0_isIn 14 = .ok (.goto 4, 3) := dk_167 0 4 (dk_at dksX0_isIn_0 14 rfl rfl)
theorem dX0_isIn_17 : decode cX0_isIn 17 = .ok (.iconst 0, 1) := dk_3 (dk_at dksX0_isIn_0 17 rfl rfl)
theorem dX0_isIn_18 : decode cX0_isIn 18 = .ok (.ireturn, 1) := dk_172 (dk_at dksX0_isIn_0 18 rfl rfl)
abbrev cX0_form : ByteArray := prog_1_method_22_code
def yX0_form : MethodName := ⟨RX0, "form", "(I)I"⟩
def dkwX0_form_3 : List UInt8 := [29, 172, 58, 4, 42, 3, 181, 0, 223, 25, 4, 191]
abbrev dktX0_form_3 : List UInt8 := dkwX0_form_3 ++ []
def dkwX0_form_2 : List UInt8 := [182, 0, 9, 61, 42, 3, 181, 0, 223, 28, 172, 77, 42, 44, 181, 0, 126, 2, 62, 42, 3, 181, 0, 223]
abbrev dktX0_form_2 : List UInt8 := dkwX0_form_2 ++ dktX0_form_3
def dkwX0_form_1 : List UInt8 := [180, 0, 5, 27, 187, 0, 229, 89, 42, 183, 0, 231, 182, 0, 234, 83, 42, 180, 0, 5, 27, 50]
abbrev dktX0_form_1 : List UInt8 := dkwX0_form_1 ++ dktX0_form_2
def dkwX0_form_0 : List UInt8 := [42, 1, 181, 0, 126, 27, 184, 0, 226, 154, 0, 13, 16, 254, 61, 42, 3, 181, 0, 223, 28, 172, 42]
abbrev dktX0_form_0 : List UInt8 := dkwX0_form_0 ++ dktX0_form_1
theorem dksX0_form_0 : cX0_form.data.toList.drop 0 = dktX0_form_0 := by decide +kernel
theorem dksX0_form_1 : cX0_form.data.toList.drop 23 = dktX0_form_1 := dk_seg dksX0_form_0 23 rfl rfl
theorem dksX0_form_2 : cX0_form.data.toList.drop 45 = dktX0_form_2 := dk_seg dksX0_form_1 22 rfl rfl
theorem dksX0_form_3 : cX0_form.data.toList.drop 69 = dktX0_form_3 := dk_seg dksX0_form_2 24 rfl rfl
theorem dX0_form_0 : decode cX0_form 0 = .ok (.aload_n 0, 1) := dk_42 (dk_at dksX0_form_0 0 rfl rfl)
theorem dX0_form_1 : decode cX0_form 1 = .ok (.aconst_null, 1) := dk_1 (dk_at dksX0_form_0 1 rfl rfl)
theorem dX0_form_2 : decode cX0_form 2 = .ok (.putfield 126, 3) := dk_181 0 126 (dk_at dksX0_form_0 2 rfl rfl)
theorem dX0_form_5 : decode cX0_form 5 = .ok (.iload_n 1, 1) := dk_27 (dk_at dksX0_form_0 5 rfl rfl)
theorem dX0_form_6 : decode cX0_form 6 = .ok (.invokestatic 226, 3) := dk_184 0 226 (dk_at dksX0_form_0 6 rfl rfl)
theorem dX0_form_9 : decode cX0_form 9 = .ok (.ifCond .ne 13, 3) := dk_154 0 13 (dk_at dksX0_form_0 9 rfl rfl)
theorem dX0_form_12 : decode cX0_form 12 = .ok (.bipush (-2), 2) := dk_16 254 (dk_at dksX0_form_0 12 rfl rfl)
theorem dX0_form_14 : decode cX0_form 14 = .ok (.istore_n 2, 1) := dk_61 (dk_at dksX0_form_0 14 rfl rfl)
theorem dX0_form_15 : decode cX0_form 15 = .ok (.aload_n 0, 1) := dk_42 (dk_at dksX0_form_0 15 rfl rfl)
theorem dX0_form_16 : decode cX0_form 16 = .ok (.iconst 0, 1) := dk_3 (dk_at dksX0_form_0 16 rfl rfl)
theorem dX0_form_17 : decode cX0_form 17 = .ok (.putfield 223, 3) := dk_181 0 223 (dk_at dksX0_form_0 17 rfl rfl)
theorem dX0_form_20 : decode cX0_form 20 = .ok (.iload_n 2, 1) := dk_28 (dk_at dksX0_form_0 20 rfl rfl)
theorem dX0_form_21 : decode cX0_form 21 = .ok (.ireturn, 1) := dk_172 (dk_at dksX0_form_0 21 rfl rfl)
theorem dX0_form_22 : decode cX0_form 22 = .ok (.aload_n 0, 1) := dk_42 (dk_at dksX0_form_0 22 rfl rfl)
theorem dX0_form_23 : decode cX0_form 23 = .ok (.getfield 5, 3) := dk_180 0 5 (dk_at dksX0_form_1 0 rfl rfl)
theorem dX0_form_26 : decode cX0_form 26 = .ok (.iload_n 1, 1) := dk_27 (dk_at dksX0_form_1 3 rfl rfl)
theorem dX0_form_27 : decode cX0_form 27 = .ok (.new 229, 3) := dk_187 0 229 (dk_at dksX0_form_1 4 rfl rfl)
theorem dX0_form_30 : decode cX0_form 30 = .ok (.dup, 1) := dk_89 (dk_at dksX0_form_1 7 rfl rfl)
theorem dX0_form_31 : decode cX0_form 31 = .ok (.aload_n 0, 1) := dk_42 (dk_at dksX0_form_1 8 rfl rfl)
theorem dX0_form_32 : decode cX0_form 32 = .ok (.invokespecial 231, 3) := dk_183 0 231 (dk_at dksX0_form_1 9 rfl rfl)
theorem dX0_form_35 : decode cX0_form 35 = .ok (.invokevirtual 234, 3) := dk_182 0 234 (dk_at dksX0_form_1 12 rfl rfl)
theorem dX0_form_38 : decode cX0_form 38 = .ok (.aastore, 1) := dk_83 (dk_at dksX0_form_1 15 rfl rfl)
theorem dX0_form_39 : decode cX0_form 39 = .ok (.aload_n 0, 1) := dk_42 (dk_at dksX0_form_1 16 rfl rfl)
theorem dX0_form_40 : decode cX0_form 40 = .ok (.getfield 5, 3) := dk_180 0 5 (dk_at dksX0_form_1 17 rfl rfl)
theorem dX0_form_43 : decode cX0_form 43 = .ok (.iload_n 1, 1) := dk_27 (dk_at dksX0_form_1 20 rfl rfl)
theorem dX0_form_44 : decode cX0_form 44 = .ok (.aaload, 1) := dk_50 (dk_at dksX0_form_1 21 rfl rfl)
theorem dX0_form_45 : decode cX0_form 45 = .ok (.invokevirtual 9, 3) := dk_182 0 9 (dk_at dksX0_form_2 0 rfl rfl)
theorem dX0_form_48 : decode cX0_form 48 = .ok (.istore_n 2, 1) := dk_61 (dk_at dksX0_form_2 3 rfl rfl)
theorem dX0_form_49 : decode cX0_form 49 = .ok (.aload_n 0, 1) := dk_42 (dk_at dksX0_form_2 4 rfl rfl)
theorem dX0_form_50 : decode cX0_form 50 = .ok (.iconst 0, 1) := dk_3 (dk_at dksX0_form_2 5 rfl rfl)
theorem dX0_form_51 : decode cX0_form 51 = .ok (.putfield 223, 3) := dk_181 0 223 (dk_at dksX0_form_2 6 rfl rfl)
theorem dX0_form_54 : decode cX0_form 54 = .ok (.iload_n 2, 1) := dk_28 (dk_at dksX0_form_2 9 rfl rfl)
theorem dX0_form_55 : decode cX0_form 55 = .ok (.ireturn, 1) := dk_172 (dk_at dksX0_form_2 10 rfl rfl)
theorem dX0_form_56 : decode cX0_form 56 = .ok (.astore_n 2, 1) := dk_77 (dk_at dksX0_form_2 11 rfl rfl)
theorem dX0_form_57 : decode cX0_form 57 = .ok (.aload_n 0, 1) := dk_42 (dk_at dksX0_form_2 12 rfl rfl)
theorem dX0_form_58 : decode cX0_form 58 = .ok (.aload_n 2, 1) := dk_44 (dk_at dksX0_form_2 13 rfl rfl)
theorem dX0_form_59 : decode cX0_form 59 = .ok (.putfield 126, 3) := dk_181 0 126 (dk_at dksX0_form_2 14 rfl rfl)
theorem dX0_form_62 : decode cX0_form 62 = .ok (.iconst (-1), 1) := dk_2 (dk_at dksX0_form_2 17 rfl rfl)
theorem dX0_form_63 : decode cX0_form 63 = .ok (.istore_n 3, 1) := dk_62 (dk_at dksX0_form_2 18 rfl rfl)
theorem dX0_form_64 : decode cX0_form 64 = .ok (.aload_n 0, 1) := dk_42 (dk_at dksX0_form_2 19 rfl rfl)
theorem dX0_form_65 : decode cX0_form 65 = .ok (.iconst 0, 1) := dk_3 (dk_at dksX0_form_2 20 rfl rfl)
theorem dX0_form_66 : decode cX0_form 66 = .ok (.putfield 223, 3) := dk_181 0 223 (dk_at dksX0_form_2 21 rfl rfl)
theorem dX0_form_69 : decode cX0_form 69 = .ok (.iload_n 3, 1) := dk_29 (dk_at dksX0_form_3 0 rfl rfl)
theorem dX0_form_70 : decode cX0_form 70 = .ok (.ireturn, 1) := dk_172 (dk_at dksX0_form_3 1 rfl rfl)
theorem dX0_form_71 : decode cX0_form 71 = .ok (.astore 4, 2) := dk_58 4 (dk_at dksX0_form_3 2 rfl rfl)
theorem dX0_form_73 : decode cX0_form 73 = .ok (.aload_n 0, 1) := dk_42 (dk_at dksX0_form_3 4 rfl rfl)
theorem dX0_form_74 : decode cX0_form 74 = .ok (.iconst 0, 1) := dk_3 (dk_at dksX0_form_3 5 rfl rfl)
theorem dX0_form_75 : decode cX0_form 75 = .ok (.putfield 223, 3) := dk_181 0 223 (dk_at dksX0_form_3 6 rfl rfl)
theorem dX0_form_78 : decode cX0_form 78 = .ok (.aload 4, 2) := dk_25 4 (dk_at dksX0_form_3 9 rfl rfl)
theorem dX0_form_80 : decode cX0_form 80 = .ok (.athrow, 1) := dk_191 (dk_at dksX0_form_3 11 rfl rfl)
abbrev cX0_isSlot : ByteArray := prog_1_method_3_code
def yX0_isSlot : MethodName := ⟨RX0, "isSlot", "(I)Z"⟩
def dkwX0_isSlot_0 : List UInt8 := [26, 133, 9, 20, 0, 19, 184, 0, 21, 172]
abbrev dktX0_isSlot_0 : List UInt8 := dkwX0_isSlot_0 ++ []
theorem dksX0_isSlot_0 : cX0_isSlot.data.toList.drop 0 = dktX0_isSlot_0 := by decide +kernel
theorem dX0_isSlot_0 : decode cX0_isSlot 0 = .ok (.iload_n 0, 1) := dk_26 (dk_at dksX0_isSlot_0 0 rfl rfl)
theorem dX0_isSlot_1 : decode cX0_isSlot 1 = .ok (.i2l, 1) := dk_133 (dk_at dksX0_isSlot_0 1 rfl rfl)
theorem dX0_isSlot_2 : decode cX0_isSlot 2 = .ok (.lconst 0, 1) := dk_9 (dk_at dksX0_isSlot_0 2 rfl rfl)
theorem dX0_isSlot_3 : decode cX0_isSlot 3 = .ok (.ldc2_w 19, 3) := dk_20 0 19 (dk_at dksX0_isSlot_0 3 rfl rfl)
theorem dX0_isSlot_6 : decode cX0_isSlot 6 = .ok (.invokestatic 21, 3) := dk_184 0 21 (dk_at dksX0_isSlot_0 6 rfl rfl)
theorem dX0_isSlot_9 : decode cX0_isSlot 9 = .ok (.ireturn, 1) := dk_172 (dk_at dksX0_isSlot_0 9 rfl rfl)
abbrev cX0_prove : ByteArray := prog_1_method_23_code
def yX0_prove : MethodName := ⟨RX0, "prove", "(I)I"⟩
def dkwX0_prove_2 : List UInt8 := [42, 3, 181, 0, 223, 29, 172, 58, 4, 42, 3, 181, 0, 223, 25, 4, 191]
abbrev dktX0_prove_2 : List UInt8 := dkwX0_prove_2 ++ []
def dkwX0_prove_1 : List UInt8 := [42, 183, 0, 231, 44, 182, 0, 242, 62, 42, 3, 181, 0, 223, 29, 172, 77, 42, 44, 181, 0, 126, 2, 62]
abbrev dktX0_prove_1 : List UInt8 := dkwX0_prove_1 ++ dktX0_prove_2
def dkwX0_prove_0 : List UInt8 := [42, 1, 181, 0, 126, 42, 27, 182, 0, 238, 77, 44, 199, 0, 8, 16, 254, 167, 0, 15, 187, 0, 229, 89]
abbrev dktX0_prove_0 : List UInt8 := dkwX0_prove_0 ++ dktX0_prove_1
theorem dksX0_prove_0 : cX0_prove.data.toList.drop 0 = dktX0_prove_0 := by decide +kernel
theorem dksX0_prove_1 : cX0_prove.data.toList.drop 24 = dktX0_prove_1 := dk_seg dksX0_prove_0 24 rfl rfl
theorem dksX0_prove_2 : cX0_prove.data.toList.drop 48 = dktX0_prove_2 := dk_seg dksX0_prove_1 24 rfl rfl
theorem dX0_prove_0 : decode cX0_prove 0 = .ok (.aload_n 0, 1) := dk_42 (dk_at dksX0_prove_0 0 rfl rfl)
theorem dX0_prove_1 : decode cX0_prove 1 = .ok (.aconst_null, 1) := dk_1 (dk_at dksX0_prove_0 1 rfl rfl)
theorem dX0_prove_2 : decode cX0_prove 2 = .ok (.putfield 126, 3) := dk_181 0 126 (dk_at dksX0_prove_0 2 rfl rfl)
theorem dX0_prove_5 : decode cX0_prove 5 = .ok (.aload_n 0, 1) := dk_42 (dk_at dksX0_prove_0 5 rfl rfl)
theorem dX0_prove_6 : decode cX0_prove 6 = .ok (.iload_n 1, 1) := dk_27 (dk_at dksX0_prove_0 6 rfl rfl)
theorem dX0_prove_7 : decode cX0_prove 7 = .ok (.invokevirtual 238, 3) := dk_182 0 238 (dk_at dksX0_prove_0 7 rfl rfl)
theorem dX0_prove_10 : decode cX0_prove 10 = .ok (.astore_n 2, 1) := dk_77 (dk_at dksX0_prove_0 10 rfl rfl)
theorem dX0_prove_11 : decode cX0_prove 11 = .ok (.aload_n 2, 1) := dk_44 (dk_at dksX0_prove_0 11 rfl rfl)
theorem dX0_prove_12 : decode cX0_prove 12 = .ok (.ifnonnull 8, 3) := dk_199 0 8 (dk_at dksX0_prove_0 12 rfl rfl)
theorem dX0_prove_15 : decode cX0_prove 15 = .ok (.bipush (-2), 2) := dk_16 254 (dk_at dksX0_prove_0 15 rfl rfl)
theorem dX0_prove_17 : decode cX0_prove 17 = .ok (.goto 15, 3) := dk_167 0 15 (dk_at dksX0_prove_0 17 rfl rfl)
theorem dX0_prove_20 : decode cX0_prove 20 = .ok (.new 229, 3) := dk_187 0 229 (dk_at dksX0_prove_0 20 rfl rfl)
theorem dX0_prove_23 : decode cX0_prove 23 = .ok (.dup, 1) := dk_89 (dk_at dksX0_prove_0 23 rfl rfl)
theorem dX0_prove_24 : decode cX0_prove 24 = .ok (.aload_n 0, 1) := dk_42 (dk_at dksX0_prove_1 0 rfl rfl)
theorem dX0_prove_25 : decode cX0_prove 25 = .ok (.invokespecial 231, 3) := dk_183 0 231 (dk_at dksX0_prove_1 1 rfl rfl)
theorem dX0_prove_28 : decode cX0_prove 28 = .ok (.aload_n 2, 1) := dk_44 (dk_at dksX0_prove_1 4 rfl rfl)
theorem dX0_prove_29 : decode cX0_prove 29 = .ok (.invokevirtual 242, 3) := dk_182 0 242 (dk_at dksX0_prove_1 5 rfl rfl)
theorem dX0_prove_32 : decode cX0_prove 32 = .ok (.istore_n 3, 1) := dk_62 (dk_at dksX0_prove_1 8 rfl rfl)
theorem dX0_prove_33 : decode cX0_prove 33 = .ok (.aload_n 0, 1) := dk_42 (dk_at dksX0_prove_1 9 rfl rfl)
theorem dX0_prove_34 : decode cX0_prove 34 = .ok (.iconst 0, 1) := dk_3 (dk_at dksX0_prove_1 10 rfl rfl)
theorem dX0_prove_35 : decode cX0_prove 35 = .ok (.putfield 223, 3) := dk_181 0 223 (dk_at dksX0_prove_1 11 rfl rfl)
theorem dX0_prove_38 : decode cX0_prove 38 = .ok (.iload_n 3, 1) := dk_29 (dk_at dksX0_prove_1 14 rfl rfl)
theorem dX0_prove_39 : decode cX0_prove 39 = .ok (.ireturn, 1) := dk_172 (dk_at dksX0_prove_1 15 rfl rfl)
theorem dX0_prove_40 : decode cX0_prove 40 = .ok (.astore_n 2, 1) := dk_77 (dk_at dksX0_prove_1 16 rfl rfl)
theorem dX0_prove_41 : decode cX0_prove 41 = .ok (.aload_n 0, 1) := dk_42 (dk_at dksX0_prove_1 17 rfl rfl)
theorem dX0_prove_42 : decode cX0_prove 42 = .ok (.aload_n 2, 1) := dk_44 (dk_at dksX0_prove_1 18 rfl rfl)
theorem dX0_prove_43 : decode cX0_prove 43 = .ok (.putfield 126, 3) := dk_181 0 126 (dk_at dksX0_prove_1 19 rfl rfl)
theorem dX0_prove_46 : decode cX0_prove 46 = .ok (.iconst (-1), 1) := dk_2 (dk_at dksX0_prove_1 22 rfl rfl)
theorem dX0_prove_47 : decode cX0_prove 47 = .ok (.istore_n 3, 1) := dk_62 (dk_at dksX0_prove_1 23 rfl rfl)
theorem dX0_prove_48 : decode cX0_prove 48 = .ok (.aload_n 0, 1) := dk_42 (dk_at dksX0_prove_2 0 rfl rfl)
theorem dX0_prove_49 : decode cX0_prove 49 = .ok (.iconst 0, 1) := dk_3 (dk_at dksX0_prove_2 1 rfl rfl)
theorem dX0_prove_50 : decode cX0_prove 50 = .ok (.putfield 223, 3) := dk_181 0 223 (dk_at dksX0_prove_2 2 rfl rfl)
theorem dX0_prove_53 : decode cX0_prove 53 = .ok (.iload_n 3, 1) := dk_29 (dk_at dksX0_prove_2 5 rfl rfl)
theorem dX0_prove_54 : decode cX0_prove 54 = .ok (.ireturn, 1) := dk_172 (dk_at dksX0_prove_2 6 rfl rfl)
theorem dX0_prove_55 : decode cX0_prove 55 = .ok (.astore 4, 2) := dk_58 4 (dk_at dksX0_prove_2 7 rfl rfl)
theorem dX0_prove_57 : decode cX0_prove 57 = .ok (.aload_n 0, 1) := dk_42 (dk_at dksX0_prove_2 9 rfl rfl)
theorem dX0_prove_58 : decode cX0_prove 58 = .ok (.iconst 0, 1) := dk_3 (dk_at dksX0_prove_2 10 rfl rfl)
theorem dX0_prove_59 : decode cX0_prove 59 = .ok (.putfield 223, 3) := dk_181 0 223 (dk_at dksX0_prove_2 11 rfl rfl)
theorem dX0_prove_62 : decode cX0_prove 62 = .ok (.aload 4, 2) := dk_25 4 (dk_at dksX0_prove_2 14 rfl rfl)
theorem dX0_prove_64 : decode cX0_prove 64 = .ok (.athrow, 1) := dk_191 (dk_at dksX0_prove_2 16 rfl rfl)
abbrev cX0_at : ByteArray := prog_1_method_2_code
def yX0_at : MethodName := ⟨RX0, "at", "(I)LToldPowers$Form;"⟩
def dkwX0_at_1 : List UInt8 := [1, 176]
abbrev dktX0_at_1 : List UInt8 := dkwX0_at_1 ++ []
def dkwX0_at_0 : List UInt8 := [42, 180, 0, 5, 27, 50, 182, 0, 9, 158, 0, 12, 42, 180, 0, 5, 27, 50, 167, 0, 4, 1, 176, 77]
abbrev dktX0_at_0 : List UInt8 := dkwX0_at_0 ++ dktX0_at_1
theorem dksX0_at_0 : cX0_at.data.toList.drop 0 = dktX0_at_0 := by decide +kernel
theorem dksX0_at_1 : cX0_at.data.toList.drop 24 = dktX0_at_1 := dk_seg dksX0_at_0 24 rfl rfl
theorem dX0_at_0 : decode cX0_at 0 = .ok (.aload_n 0, 1) := dk_42 (dk_at dksX0_at_0 0 rfl rfl)
theorem dX0_at_1 : decode cX0_at 1 = .ok (.getfield 5, 3) := dk_180 0 5 (dk_at dksX0_at_0 1 rfl rfl)
theorem dX0_at_4 : decode cX0_at 4 = .ok (.iload_n 1, 1) := dk_27 (dk_at dksX0_at_0 4 rfl rfl)
theorem dX0_at_5 : decode cX0_at 5 = .ok (.aaload, 1) := dk_50 (dk_at dksX0_at_0 5 rfl rfl)
theorem dX0_at_6 : decode cX0_at 6 = .ok (.invokevirtual 9, 3) := dk_182 0 9 (dk_at dksX0_at_0 6 rfl rfl)
theorem dX0_at_9 : decode cX0_at 9 = .ok (.ifCond .le 12, 3) := dk_158 0 12 (dk_at dksX0_at_0 9 rfl rfl)
theorem dX0_at_12 : decode cX0_at 12 = .ok (.aload_n 0, 1) := dk_42 (dk_at dksX0_at_0 12 rfl rfl)
theorem dX0_at_13 : decode cX0_at 13 = .ok (.getfield 5, 3) := dk_180 0 5 (dk_at dksX0_at_0 13 rfl rfl)
theorem dX0_at_16 : decode cX0_at 16 = .ok (.iload_n 1, 1) := dk_27 (dk_at dksX0_at_0 16 rfl rfl)
theorem dX0_at_17 : decode cX0_at 17 = .ok (.aaload, 1) := dk_50 (dk_at dksX0_at_0 17 rfl rfl)
theorem dX0_at_18 : decode cX0_at 18 = .ok (.goto 4, 3) := dk_167 0 4 (dk_at dksX0_at_0 18 rfl rfl)
theorem dX0_at_21 : decode cX0_at 21 = .ok (.aconst_null, 1) := dk_1 (dk_at dksX0_at_0 21 rfl rfl)
theorem dX0_at_22 : decode cX0_at 22 = .ok (.areturn, 1) := dk_176 (dk_at dksX0_at_0 22 rfl rfl)
theorem dX0_at_23 : decode cX0_at 23 = .ok (.astore_n 2, 1) := dk_77 (dk_at dksX0_at_0 23 rfl rfl)
theorem dX0_at_24 : decode cX0_at 24 = .ok (.aconst_null, 1) := dk_1 (dk_at dksX0_at_1 0 rfl rfl)
theorem dX0_at_25 : decode cX0_at 25 = .ok (.areturn, 1) := dk_176 (dk_at dksX0_at_1 1 rfl rfl)
abbrev cX0_isNumber : ByteArray := prog_1_method_4_code
def yX0_isNumber : MethodName := ⟨RX0, "isNumber", "(I)Z"⟩
def dkwX0_isNumber_0 : List UInt8 := [26, 133, 20, 0, 25, 20, 0, 27, 184, 0, 21, 172]
abbrev dktX0_isNumber_0 : List UInt8 := dkwX0_isNumber_0 ++ []
theorem dksX0_isNumber_0 : cX0_isNumber.data.toList.drop 0 = dktX0_isNumber_0 := by decide +kernel
theorem dX0_isNumber_0 : decode cX0_isNumber 0 = .ok (.iload_n 0, 1) := dk_26 (dk_at dksX0_isNumber_0 0 rfl rfl)
theorem dX0_isNumber_1 : decode cX0_isNumber 1 = .ok (.i2l, 1) := dk_133 (dk_at dksX0_isNumber_0 1 rfl rfl)
theorem dX0_isNumber_2 : decode cX0_isNumber 2 = .ok (.ldc2_w 25, 3) := dk_20 0 25 (dk_at dksX0_isNumber_0 2 rfl rfl)
theorem dX0_isNumber_5 : decode cX0_isNumber 5 = .ok (.ldc2_w 27, 3) := dk_20 0 27 (dk_at dksX0_isNumber_0 5 rfl rfl)
theorem dX0_isNumber_8 : decode cX0_isNumber 8 = .ok (.invokestatic 21, 3) := dk_184 0 21 (dk_at dksX0_isNumber_0 8 rfl rfl)
theorem dX0_isNumber_11 : decode cX0_isNumber 11 = .ok (.ireturn, 1) := dk_172 (dk_at dksX0_isNumber_0 11 rfl rfl)
abbrev cX0_waysOf : ByteArray := prog_1_method_8_code
def yX0_waysOf : MethodName := ⟨RX0, "waysOf", "(LToldPowers$Form;I)J"⟩
def dkwX0_waysOf_0 : List UInt8 := [42, 43, 182, 0, 74, 42, 180, 0, 37, 3, 50, 17, 58, 152, 28, 96, 47, 173]
abbrev dktX0_waysOf_0 : List UInt8 := dkwX0_waysOf_0 ++ []
theorem dksX0_waysOf_0 : cX0_waysOf.data.toList.drop 0 = dktX0_waysOf_0 := by decide +kernel
theorem dX0_waysOf_0 : decode cX0_waysOf 0 = .ok (.aload_n 0, 1) := dk_42 (dk_at dksX0_waysOf_0 0 rfl rfl)
theorem dX0_waysOf_1 : decode cX0_waysOf 1 = .ok (.aload_n 1, 1) := dk_43 (dk_at dksX0_waysOf_0 1 rfl rfl)
theorem dX0_waysOf_2 : decode cX0_waysOf 2 = .ok (.invokevirtual 74, 3) := dk_182 0 74 (dk_at dksX0_waysOf_0 2 rfl rfl)
theorem dX0_waysOf_5 : decode cX0_waysOf 5 = .ok (.aload_n 0, 1) := dk_42 (dk_at dksX0_waysOf_0 5 rfl rfl)
theorem dX0_waysOf_6 : decode cX0_waysOf 6 = .ok (.getfield 37, 3) := dk_180 0 37 (dk_at dksX0_waysOf_0 6 rfl rfl)
theorem dX0_waysOf_9 : decode cX0_waysOf 9 = .ok (.iconst 0, 1) := dk_3 (dk_at dksX0_waysOf_0 9 rfl rfl)
theorem dX0_waysOf_10 : decode cX0_waysOf 10 = .ok (.aaload, 1) := dk_50 (dk_at dksX0_waysOf_0 10 rfl rfl)
theorem dX0_waysOf_11 : decode cX0_waysOf 11 = .ok (.sipush 15000, 3) := dk_17 58 152 (dk_at dksX0_waysOf_0 11 rfl rfl)
theorem dX0_waysOf_14 : decode cX0_waysOf 14 = .ok (.iload_n 2, 1) := dk_28 (dk_at dksX0_waysOf_0 14 rfl rfl)
theorem dX0_waysOf_15 : decode cX0_waysOf 15 = .ok (.iadd, 1) := dk_96 (dk_at dksX0_waysOf_0 15 rfl rfl)
theorem dX0_waysOf_16 : decode cX0_waysOf 16 = .ok (.laload, 1) := dk_47 (dk_at dksX0_waysOf_0 16 rfl rfl)
theorem dX0_waysOf_17 : decode cX0_waysOf 17 = .ok (.lreturn, 1) := dk_173 (dk_at dksX0_waysOf_0 17 rfl rfl)
abbrev cX0_laysWays : ByteArray := prog_1_method_6_code
def yX0_laysWays : MethodName := ⟨RX0, "laysWays", "(LToldPowers$Form;)V"⟩
def dkwX0_laysWays_5 : List UInt8 := [132, 2, 255, 167, 255, 181, 177]
abbrev dktX0_laysWays_5 : List UInt8 := dkwX0_laysWays_5 ++ []
def dkwX0_laysWays_4 : List UInt8 := [4, 96, 50, 43, 180, 0, 47, 28, 50, 29, 133, 182, 0, 60, 136, 184, 0, 64, 132, 3, 1, 167, 255, 211]
abbrev dktX0_laysWays_4 : List UInt8 := dkwX0_laysWays_4 ++ dktX0_laysWays_5
def dkwX0_laysWays_3 : List UInt8 := [29, 43, 180, 0, 47, 28, 50, 180, 0, 57, 163, 0, 38, 42, 180, 0, 37, 28, 50, 42, 180, 0, 37, 28]
abbrev dktX0_laysWays_3 : List UInt8 := dkwX0_laysWays_3 ++ dktX0_laysWays_4
def dkwX0_laysWays_2 : List UInt8 := [28, 155, 0, 77, 42, 180, 0, 37, 28, 50, 9, 184, 0, 41, 43, 180, 0, 47, 28, 50, 180, 0, 51, 62]
abbrev dktX0_laysWays_2 : List UInt8 := dkwX0_laysWays_2 ++ dktX0_laysWays_3
def dkwX0_laysWays_1 : List UInt8 := [184, 0, 41, 42, 180, 0, 37, 43, 182, 0, 9, 50, 17, 58, 152, 10, 80, 43, 182, 0, 9, 4, 100, 61]
abbrev dktX0_laysWays_1 : List UInt8 := dkwX0_laysWays_1 ++ dktX0_laysWays_2
def dkwX0_laysWays_0 : List UInt8 := [42, 180, 0, 33, 43, 166, 0, 4, 177, 42, 43, 181, 0, 33, 42, 180, 0, 37, 43, 182, 0, 9, 50, 9]
abbrev dktX0_laysWays_0 : List UInt8 := dkwX0_laysWays_0 ++ dktX0_laysWays_1
theorem dksX0_laysWays_0 : cX0_laysWays.data.toList.drop 0 = dktX0_laysWays_0 := by decide +kernel
theorem dksX0_laysWays_1 : cX0_laysWays.data.toList.drop 24 = dktX0_laysWays_1 := dk_seg dksX0_laysWays_0 24 rfl rfl
theorem dksX0_laysWays_2 : cX0_laysWays.data.toList.drop 48 = dktX0_laysWays_2 := dk_seg dksX0_laysWays_1 24 rfl rfl
theorem dksX0_laysWays_3 : cX0_laysWays.data.toList.drop 72 = dktX0_laysWays_3 := dk_seg dksX0_laysWays_2 24 rfl rfl
theorem dksX0_laysWays_4 : cX0_laysWays.data.toList.drop 96 = dktX0_laysWays_4 := dk_seg dksX0_laysWays_3 24 rfl rfl
theorem dksX0_laysWays_5 : cX0_laysWays.data.toList.drop 120 = dktX0_laysWays_5 := dk_seg dksX0_laysWays_4 24 rfl rfl
theorem dX0_laysWays_0 : decode cX0_laysWays 0 = .ok (.aload_n 0, 1) := dk_42 (dk_at dksX0_laysWays_0 0 rfl rfl)
theorem dX0_laysWays_1 : decode cX0_laysWays 1 = .ok (.getfield 33, 3) := dk_180 0 33 (dk_at dksX0_laysWays_0 1 rfl rfl)
theorem dX0_laysWays_4 : decode cX0_laysWays 4 = .ok (.aload_n 1, 1) := dk_43 (dk_at dksX0_laysWays_0 4 rfl rfl)
theorem dX0_laysWays_5 : decode cX0_laysWays 5 = .ok (.if_acmp .ne 4, 3) := dk_166 0 4 (dk_at dksX0_laysWays_0 5 rfl rfl)
theorem dX0_laysWays_8 : decode cX0_laysWays 8 = .ok (.return_, 1) := dk_177 (dk_at dksX0_laysWays_0 8 rfl rfl)
theorem dX0_laysWays_9 : decode cX0_laysWays 9 = .ok (.aload_n 0, 1) := dk_42 (dk_at dksX0_laysWays_0 9 rfl rfl)
theorem dX0_laysWays_10 : decode cX0_laysWays 10 = .ok (.aload_n 1, 1) := dk_43 (dk_at dksX0_laysWays_0 10 rfl rfl)
theorem dX0_laysWays_11 : decode cX0_laysWays 11 = .ok (.putfield 33, 3) := dk_181 0 33 (dk_at dksX0_laysWays_0 11 rfl rfl)
theorem dX0_laysWays_14 : decode cX0_laysWays 14 = .ok (.aload_n 0, 1) := dk_42 (dk_at dksX0_laysWays_0 14 rfl rfl)
theorem dX0_laysWays_15 : decode cX0_laysWays 15 = .ok (.getfield 37, 3) := dk_180 0 37 (dk_at dksX0_laysWays_0 15 rfl rfl)
theorem dX0_laysWays_18 : decode cX0_laysWays 18 = .ok (.aload_n 1, 1) := dk_43 (dk_at dksX0_laysWays_0 18 rfl rfl)
theorem dX0_laysWays_19 : decode cX0_laysWays 19 = .ok (.invokevirtual 9, 3) := dk_182 0 9 (dk_at dksX0_laysWays_0 19 rfl rfl)
theorem dX0_laysWays_22 : decode cX0_laysWays 22 = .ok (.aaload, 1) := dk_50 (dk_at dksX0_laysWays_0 22 rfl rfl)
theorem dX0_laysWays_23 : decode cX0_laysWays 23 = .ok (.lconst 0, 1) := dk_9 (dk_at dksX0_laysWays_0 23 rfl rfl)
theorem dX0_laysWays_24 : decode cX0_laysWays 24 = .ok (.invokestatic 41, 3) := dk_184 0 41 (dk_at dksX0_laysWays_1 0 rfl rfl)
theorem dX0_laysWays_27 : decode cX0_laysWays 27 = .ok (.aload_n 0, 1) := dk_42 (dk_at dksX0_laysWays_1 3 rfl rfl)
theorem dX0_laysWays_28 : decode cX0_laysWays 28 = .ok (.getfield 37, 3) := dk_180 0 37 (dk_at dksX0_laysWays_1 4 rfl rfl)
theorem dX0_laysWays_31 : decode cX0_laysWays 31 = .ok (.aload_n 1, 1) := dk_43 (dk_at dksX0_laysWays_1 7 rfl rfl)
theorem dX0_laysWays_32 : decode cX0_laysWays 32 = .ok (.invokevirtual 9, 3) := dk_182 0 9 (dk_at dksX0_laysWays_1 8 rfl rfl)
theorem dX0_laysWays_35 : decode cX0_laysWays 35 = .ok (.aaload, 1) := dk_50 (dk_at dksX0_laysWays_1 11 rfl rfl)
theorem dX0_laysWays_36 : decode cX0_laysWays 36 = .ok (.sipush 15000, 3) := dk_17 58 152 (dk_at dksX0_laysWays_1 12 rfl rfl)
theorem dX0_laysWays_39 : decode cX0_laysWays 39 = .ok (.lconst 1, 1) := dk_10 (dk_at dksX0_laysWays_1 15 rfl rfl)
theorem dX0_laysWays_40 : decode cX0_laysWays 40 = .ok (.lastore, 1) := dk_80 (dk_at dksX0_laysWays_1 16 rfl rfl)
theorem dX0_laysWays_41 : decode cX0_laysWays 41 = .ok (.aload_n 1, 1) := dk_43 (dk_at dksX0_laysWays_1 17 rfl rfl)
theorem dX0_laysWays_42 : decode cX0_laysWays 42 = .ok (.invokevirtual 9, 3) := dk_182 0 9 (dk_at dksX0_laysWays_1 18 rfl rfl)
theorem dX0_laysWays_45 : decode cX0_laysWays 45 = .ok (.iconst 1, 1) := dk_4 (dk_at dksX0_laysWays_1 21 rfl rfl)
theorem dX0_laysWays_46 : decode cX0_laysWays 46 = .ok (.isub, 1) := dk_100 (dk_at dksX0_laysWays_1 22 rfl rfl)
theorem dX0_laysWays_47 : decode cX0_laysWays 47 = .ok (.istore_n 2, 1) := dk_61 (dk_at dksX0_laysWays_1 23 rfl rfl)
theorem dX0_laysWays_48 : decode cX0_laysWays 48 = .ok (.iload_n 2, 1) := dk_28 (dk_at dksX0_laysWays_2 0 rfl rfl)
theorem dX0_laysWays_49 : decode cX0_laysWays 49 = .ok (.ifCond .lt 77, 3) := dk_155 0 77 (dk_at dksX0_laysWays_2 1 rfl rfl)
theorem dX0_laysWays_52 : decode cX0_laysWays 52 = .ok (.aload_n 0, 1) := dk_42 (dk_at dksX0_laysWays_2 4 rfl rfl)
theorem dX0_laysWays_53 : decode cX0_laysWays 53 = .ok (.getfield 37, 3) := dk_180 0 37 (dk_at dksX0_laysWays_2 5 rfl rfl)
theorem dX0_laysWays_56 : decode cX0_laysWays 56 = .ok (.iload_n 2, 1) := dk_28 (dk_at dksX0_laysWays_2 8 rfl rfl)
theorem dX0_laysWays_57 : decode cX0_laysWays 57 = .ok (.aaload, 1) := dk_50 (dk_at dksX0_laysWays_2 9 rfl rfl)
theorem dX0_laysWays_58 : decode cX0_laysWays 58 = .ok (.lconst 0, 1) := dk_9 (dk_at dksX0_laysWays_2 10 rfl rfl)
theorem dX0_laysWays_59 : decode cX0_laysWays 59 = .ok (.invokestatic 41, 3) := dk_184 0 41 (dk_at dksX0_laysWays_2 11 rfl rfl)
theorem dX0_laysWays_62 : decode cX0_laysWays 62 = .ok (.aload_n 1, 1) := dk_43 (dk_at dksX0_laysWays_2 14 rfl rfl)
theorem dX0_laysWays_63 : decode cX0_laysWays 63 = .ok (.getfield 47, 3) := dk_180 0 47 (dk_at dksX0_laysWays_2 15 rfl rfl)
theorem dX0_laysWays_66 : decode cX0_laysWays 66 = .ok (.iload_n 2, 1) := dk_28 (dk_at dksX0_laysWays_2 18 rfl rfl)
theorem dX0_laysWays_67 : decode cX0_laysWays 67 = .ok (.aaload, 1) := dk_50 (dk_at dksX0_laysWays_2 19 rfl rfl)
theorem dX0_laysWays_68 : decode cX0_laysWays 68 = .ok (.getfield 51, 3) := dk_180 0 51 (dk_at dksX0_laysWays_2 20 rfl rfl)
theorem dX0_laysWays_71 : decode cX0_laysWays 71 = .ok (.istore_n 3, 1) := dk_62 (dk_at dksX0_laysWays_2 23 rfl rfl)
theorem dX0_laysWays_72 : decode cX0_laysWays 72 = .ok (.iload_n 3, 1) := dk_29 (dk_at dksX0_laysWays_3 0 rfl rfl)
theorem dX0_laysWays_73 : decode cX0_laysWays 73 = .ok (.aload_n 1, 1) := dk_43 (dk_at dksX0_laysWays_3 1 rfl rfl)
theorem dX0_laysWays_74 : decode cX0_laysWays 74 = .ok (.getfield 47, 3) := dk_180 0 47 (dk_at dksX0_laysWays_3 2 rfl rfl)
theorem dX0_laysWays_77 : decode cX0_laysWays 77 = .ok (.iload_n 2, 1) := dk_28 (dk_at dksX0_laysWays_3 5 rfl rfl)
theorem dX0_laysWays_78 : decode cX0_laysWays 78 = .ok (.aaload, 1) := dk_50 (dk_at dksX0_laysWays_3 6 rfl rfl)
theorem dX0_laysWays_79 : decode cX0_laysWays 79 = .ok (.getfield 57, 3) := dk_180 0 57 (dk_at dksX0_laysWays_3 7 rfl rfl)
theorem dX0_laysWays_82 : decode cX0_laysWays 82 = .ok (.if_icmp .gt 38, 3) := dk_163 0 38 (dk_at dksX0_laysWays_3 10 rfl rfl)
theorem dX0_laysWays_85 : decode cX0_laysWays 85 = .ok (.aload_n 0, 1) := dk_42 (dk_at dksX0_laysWays_3 13 rfl rfl)
theorem dX0_laysWays_86 : decode cX0_laysWays 86 = .ok (.getfield 37, 3) := dk_180 0 37 (dk_at dksX0_laysWays_3 14 rfl rfl)
theorem dX0_laysWays_89 : decode cX0_laysWays 89 = .ok (.iload_n 2, 1) := dk_28 (dk_at dksX0_laysWays_3 17 rfl rfl)
theorem dX0_laysWays_90 : decode cX0_laysWays 90 = .ok (.aaload, 1) := dk_50 (dk_at dksX0_laysWays_3 18 rfl rfl)
theorem dX0_laysWays_91 : decode cX0_laysWays 91 = .ok (.aload_n 0, 1) := dk_42 (dk_at dksX0_laysWays_3 19 rfl rfl)
theorem dX0_laysWays_92 : decode cX0_laysWays 92 = .ok (.getfield 37, 3) := dk_180 0 37 (dk_at dksX0_laysWays_3 20 rfl rfl)
theorem dX0_laysWays_95 : decode cX0_laysWays 95 = .ok (.iload_n 2, 1) := dk_28 (dk_at dksX0_laysWays_3 23 rfl rfl)
theorem dX0_laysWays_96 : decode cX0_laysWays 96 = .ok (.iconst 1, 1) := dk_4 (dk_at dksX0_laysWays_4 0 rfl rfl)
theorem dX0_laysWays_97 : decode cX0_laysWays 97 = .ok (.iadd, 1) := dk_96 (dk_at dksX0_laysWays_4 1 rfl rfl)
theorem dX0_laysWays_98 : decode cX0_laysWays 98 = .ok (.aaload, 1) := dk_50 (dk_at dksX0_laysWays_4 2 rfl rfl)
theorem dX0_laysWays_99 : decode cX0_laysWays 99 = .ok (.aload_n 1, 1) := dk_43 (dk_at dksX0_laysWays_4 3 rfl rfl)
theorem dX0_laysWays_100 : decode cX0_laysWays 100 = .ok (.getfield 47, 3) := dk_180 0 47 (dk_at dksX0_laysWays_4 4 rfl rfl)
theorem dX0_laysWays_103 : decode cX0_laysWays 103 = .ok (.iload_n 2, 1) := dk_28 (dk_at dksX0_laysWays_4 7 rfl rfl)
theorem dX0_laysWays_104 : decode cX0_laysWays 104 = .ok (.aaload, 1) := dk_50 (dk_at dksX0_laysWays_4 8 rfl rfl)
theorem dX0_laysWays_105 : decode cX0_laysWays 105 = .ok (.iload_n 3, 1) := dk_29 (dk_at dksX0_laysWays_4 9 rfl rfl)
theorem dX0_laysWays_106 : decode cX0_laysWays 106 = .ok (.i2l, 1) := dk_133 (dk_at dksX0_laysWays_4 10 rfl rfl)
theorem dX0_laysWays_107 : decode cX0_laysWays 107 = .ok (.invokevirtual 60, 3) := dk_182 0 60 (dk_at dksX0_laysWays_4 11 rfl rfl)
theorem dX0_laysWays_110 : decode cX0_laysWays 110 = .ok (.l2i, 1) := dk_136 (dk_at dksX0_laysWays_4 14 rfl rfl)
theorem dX0_laysWays_111 : decode cX0_laysWays 111 = .ok (.invokestatic 64, 3) := dk_184 0 64 (dk_at dksX0_laysWays_4 15 rfl rfl)
theorem dX0_laysWays_114 : decode cX0_laysWays 114 = .ok (.iinc 3 1, 3) := dk_132 3 1 (dk_at dksX0_laysWays_4 18 rfl rfl)
theorem dX0_laysWays_117 : decode cX0_laysWays 117 = .ok (.goto (-45), 3) := dk_167 255 211 (dk_at dksX0_laysWays_4 21 rfl rfl)
theorem dX0_laysWays_120 : decode cX0_laysWays 120 = .ok (.iinc 2 (-1), 3) := dk_132 2 255 (dk_at dksX0_laysWays_5 0 rfl rfl)
theorem dX0_laysWays_123 : decode cX0_laysWays 123 = .ok (.goto (-75), 3) := dk_167 255 181 (dk_at dksX0_laysWays_5 3 rfl rfl)
theorem dX0_laysWays_126 : decode cX0_laysWays 126 = .ok (.return_, 1) := dk_177 (dk_at dksX0_laysWays_5 6 rfl rfl)
abbrev cX0_adds : ByteArray := prog_1_method_7_code
def yX0_adds : MethodName := ⟨RX0, "adds", "([J[JI)V"⟩
def dkwX0_adds_1 : List UInt8 := [92, 47, 43, 29, 28, 100, 47, 97, 80, 132, 3, 1, 167, 255, 226, 177]
abbrev dktX0_adds_1 : List UInt8 := dkwX0_adds_1 ++ []
def dkwX0_adds_0 : List UInt8 := [3, 28, 184, 0, 68, 62, 29, 17, 117, 49, 162, 0, 29, 29, 28, 100, 17, 117, 49, 162, 0, 20, 42, 29]
abbrev dktX0_adds_0 : List UInt8 := dkwX0_adds_0 ++ dktX0_adds_1
theorem dksX0_adds_0 : cX0_adds.data.toList.drop 0 = dktX0_adds_0 := by decide +kernel
theorem dksX0_adds_1 : cX0_adds.data.toList.drop 24 = dktX0_adds_1 := dk_seg dksX0_adds_0 24 rfl rfl
theorem dX0_adds_0 : decode cX0_adds 0 = .ok (.iconst 0, 1) := dk_3 (dk_at dksX0_adds_0 0 rfl rfl)
theorem dX0_adds_1 : decode cX0_adds 1 = .ok (.iload_n 2, 1) := dk_28 (dk_at dksX0_adds_0 1 rfl rfl)
theorem dX0_adds_2 : decode cX0_adds 2 = .ok (.invokestatic 68, 3) := dk_184 0 68 (dk_at dksX0_adds_0 2 rfl rfl)
theorem dX0_adds_5 : decode cX0_adds 5 = .ok (.istore_n 3, 1) := dk_62 (dk_at dksX0_adds_0 5 rfl rfl)
theorem dX0_adds_6 : decode cX0_adds 6 = .ok (.iload_n 3, 1) := dk_29 (dk_at dksX0_adds_0 6 rfl rfl)
theorem dX0_adds_7 : decode cX0_adds 7 = .ok (.sipush 30001, 3) := dk_17 117 49 (dk_at dksX0_adds_0 7 rfl rfl)
theorem dX0_adds_10 : decode cX0_adds 10 = .ok (.if_icmp .ge 29, 3) := dk_162 0 29 (dk_at dksX0_adds_0 10 rfl rfl)
theorem dX0_adds_13 : decode cX0_adds 13 = .ok (.iload_n 3, 1) := dk_29 (dk_at dksX0_adds_0 13 rfl rfl)
theorem dX0_adds_14 : decode cX0_adds 14 = .ok (.iload_n 2, 1) := dk_28 (dk_at dksX0_adds_0 14 rfl rfl)
theorem dX0_adds_15 : decode cX0_adds 15 = .ok (.isub, 1) := dk_100 (dk_at dksX0_adds_0 15 rfl rfl)
theorem dX0_adds_16 : decode cX0_adds 16 = .ok (.sipush 30001, 3) := dk_17 117 49 (dk_at dksX0_adds_0 16 rfl rfl)
theorem dX0_adds_19 : decode cX0_adds 19 = .ok (.if_icmp .ge 20, 3) := dk_162 0 20 (dk_at dksX0_adds_0 19 rfl rfl)
theorem dX0_adds_22 : decode cX0_adds 22 = .ok (.aload_n 0, 1) := dk_42 (dk_at dksX0_adds_0 22 rfl rfl)
theorem dX0_adds_23 : decode cX0_adds 23 = .ok (.iload_n 3, 1) := dk_29 (dk_at dksX0_adds_0 23 rfl rfl)
theorem dX0_adds_24 : decode cX0_adds 24 = .ok (.dup2, 1) := dk_92 (dk_at dksX0_adds_1 0 rfl rfl)
theorem dX0_adds_25 : decode cX0_adds 25 = .ok (.laload, 1) := dk_47 (dk_at dksX0_adds_1 1 rfl rfl)
theorem dX0_adds_26 : decode cX0_adds 26 = .ok (.aload_n 1, 1) := dk_43 (dk_at dksX0_adds_1 2 rfl rfl)
theorem dX0_adds_27 : decode cX0_adds 27 = .ok (.iload_n 3, 1) := dk_29 (dk_at dksX0_adds_1 3 rfl rfl)
theorem dX0_adds_28 : decode cX0_adds 28 = .ok (.iload_n 2, 1) := dk_28 (dk_at dksX0_adds_1 4 rfl rfl)
theorem dX0_adds_29 : decode cX0_adds 29 = .ok (.isub, 1) := dk_100 (dk_at dksX0_adds_1 5 rfl rfl)
theorem dX0_adds_30 : decode cX0_adds 30 = .ok (.laload, 1) := dk_47 (dk_at dksX0_adds_1 6 rfl rfl)
theorem dX0_adds_31 : decode cX0_adds 31 = .ok (.ladd, 1) := dk_97 (dk_at dksX0_adds_1 7 rfl rfl)
theorem dX0_adds_32 : decode cX0_adds 32 = .ok (.lastore, 1) := dk_80 (dk_at dksX0_adds_1 8 rfl rfl)
theorem dX0_adds_33 : decode cX0_adds 33 = .ok (.iinc 3 1, 3) := dk_132 3 1 (dk_at dksX0_adds_1 9 rfl rfl)
theorem dX0_adds_36 : decode cX0_adds 36 = .ok (.goto (-30), 3) := dk_167 255 226 (dk_at dksX0_adds_1 12 rfl rfl)
theorem dX0_adds_39 : decode cX0_adds 39 = .ok (.return_, 1) := dk_177 (dk_at dksX0_adds_1 15 rfl rfl)
abbrev cX0_identity : ByteArray := prog_1_method_24_code
def yX0_identity : MethodName := ⟨RX0, "identity", "()I"⟩
def dkwX0_identity_2 : List UInt8 := [3, 181, 0, 223, 45, 191]
abbrev dktX0_identity_2 : List UInt8 := dkwX0_identity_2 ++ []
def dkwX0_identity_1 : List UInt8 := [42, 3, 181, 0, 223, 27, 172, 76, 42, 43, 181, 0, 126, 2, 61, 42, 3, 181, 0, 223, 28, 172, 78, 42]
abbrev dktX0_identity_1 : List UInt8 := dkwX0_identity_1 ++ dktX0_identity_2
def dkwX0_identity_0 : List UInt8 := [42, 1, 181, 0, 126, 187, 0, 229, 89, 42, 183, 0, 231, 182, 0, 246, 42, 180, 0, 249, 184, 0, 252, 60]
abbrev dktX0_identity_0 : List UInt8 := dkwX0_identity_0 ++ dktX0_identity_1
theorem dksX0_identity_0 : cX0_identity.data.toList.drop 0 = dktX0_identity_0 := by decide +kernel
theorem dksX0_identity_1 : cX0_identity.data.toList.drop 24 = dktX0_identity_1 := dk_seg dksX0_identity_0 24 rfl rfl
theorem dksX0_identity_2 : cX0_identity.data.toList.drop 48 = dktX0_identity_2 := dk_seg dksX0_identity_1 24 rfl rfl
theorem dX0_identity_0 : decode cX0_identity 0 = .ok (.aload_n 0, 1) := dk_42 (dk_at dksX0_identity_0 0 rfl rfl)
theorem dX0_identity_1 : decode cX0_identity 1 = .ok (.aconst_null, 1) := dk_1 (dk_at dksX0_identity_0 1 rfl rfl)
theorem dX0_identity_2 : decode cX0_identity 2 = .ok (.putfield 126, 3) := dk_181 0 126 (dk_at dksX0_identity_0 2 rfl rfl)
theorem dX0_identity_5 : decode cX0_identity 5 = .ok (.new 229, 3) := dk_187 0 229 (dk_at dksX0_identity_0 5 rfl rfl)
theorem dX0_identity_8 : decode cX0_identity 8 = .ok (.dup, 1) := dk_89 (dk_at dksX0_identity_0 8 rfl rfl)
theorem dX0_identity_9 : decode cX0_identity 9 = .ok (.aload_n 0, 1) := dk_42 (dk_at dksX0_identity_0 9 rfl rfl)
theorem dX0_identity_10 : decode cX0_identity 10 = .ok (.invokespecial 231, 3) := dk_183 0 231 (dk_at dksX0_identity_0 10 rfl rfl)
theorem dX0_identity_13 : decode cX0_identity 13 = .ok (.invokevirtual 246, 3) := dk_182 0 246 (dk_at dksX0_identity_0 13 rfl rfl)
theorem dX0_identity_16 : decode cX0_identity 16 = .ok (.aload_n 0, 1) := dk_42 (dk_at dksX0_identity_0 16 rfl rfl)
theorem dX0_identity_17 : decode cX0_identity 17 = .ok (.getfield 249, 3) := dk_180 0 249 (dk_at dksX0_identity_0 17 rfl rfl)
theorem dX0_identity_20 : decode cX0_identity 20 = .ok (.invokestatic 252, 3) := dk_184 0 252 (dk_at dksX0_identity_0 20 rfl rfl)
theorem dX0_identity_23 : decode cX0_identity 23 = .ok (.istore_n 1, 1) := dk_60 (dk_at dksX0_identity_0 23 rfl rfl)
theorem dX0_identity_24 : decode cX0_identity 24 = .ok (.aload_n 0, 1) := dk_42 (dk_at dksX0_identity_1 0 rfl rfl)
theorem dX0_identity_25 : decode cX0_identity 25 = .ok (.iconst 0, 1) := dk_3 (dk_at dksX0_identity_1 1 rfl rfl)
theorem dX0_identity_26 : decode cX0_identity 26 = .ok (.putfield 223, 3) := dk_181 0 223 (dk_at dksX0_identity_1 2 rfl rfl)
theorem dX0_identity_29 : decode cX0_identity 29 = .ok (.iload_n 1, 1) := dk_27 (dk_at dksX0_identity_1 5 rfl rfl)
theorem dX0_identity_30 : decode cX0_identity 30 = .ok (.ireturn, 1) := dk_172 (dk_at dksX0_identity_1 6 rfl rfl)
theorem dX0_identity_31 : decode cX0_identity 31 = .ok (.astore_n 1, 1) := dk_76 (dk_at dksX0_identity_1 7 rfl rfl)
theorem dX0_identity_32 : decode cX0_identity 32 = .ok (.aload_n 0, 1) := dk_42 (dk_at dksX0_identity_1 8 rfl rfl)
theorem dX0_identity_33 : decode cX0_identity 33 = .ok (.aload_n 1, 1) := dk_43 (dk_at dksX0_identity_1 9 rfl rfl)
theorem dX0_identity_34 : decode cX0_identity 34 = .ok (.putfield 126, 3) := dk_181 0 126 (dk_at dksX0_identity_1 10 rfl rfl)
theorem dX0_identity_37 : decode cX0_identity 37 = .ok (.iconst (-1), 1) := dk_2 (dk_at dksX0_identity_1 13 rfl rfl)
theorem dX0_identity_38 : decode cX0_identity 38 = .ok (.istore_n 2, 1) := dk_61 (dk_at dksX0_identity_1 14 rfl rfl)
theorem dX0_identity_39 : decode cX0_identity 39 = .ok (.aload_n 0, 1) := dk_42 (dk_at dksX0_identity_1 15 rfl rfl)
theorem dX0_identity_40 : decode cX0_identity 40 = .ok (.iconst 0, 1) := dk_3 (dk_at dksX0_identity_1 16 rfl rfl)
theorem dX0_identity_41 : decode cX0_identity 41 = .ok (.putfield 223, 3) := dk_181 0 223 (dk_at dksX0_identity_1 17 rfl rfl)
theorem dX0_identity_44 : decode cX0_identity 44 = .ok (.iload_n 2, 1) := dk_28 (dk_at dksX0_identity_1 20 rfl rfl)
theorem dX0_identity_45 : decode cX0_identity 45 = .ok (.ireturn, 1) := dk_172 (dk_at dksX0_identity_1 21 rfl rfl)
theorem dX0_identity_46 : decode cX0_identity 46 = .ok (.astore_n 3, 1) := dk_78 (dk_at dksX0_identity_1 22 rfl rfl)
theorem dX0_identity_47 : decode cX0_identity 47 = .ok (.aload_n 0, 1) := dk_42 (dk_at dksX0_identity_1 23 rfl rfl)
theorem dX0_identity_48 : decode cX0_identity 48 = .ok (.iconst 0, 1) := dk_3 (dk_at dksX0_identity_2 0 rfl rfl)
theorem dX0_identity_49 : decode cX0_identity 49 = .ok (.putfield 223, 3) := dk_181 0 223 (dk_at dksX0_identity_2 1 rfl rfl)
theorem dX0_identity_52 : decode cX0_identity 52 = .ok (.aload_n 3, 1) := dk_45 (dk_at dksX0_identity_2 4 rfl rfl)
theorem dX0_identity_53 : decode cX0_identity 53 = .ok (.athrow, 1) := dk_191 (dk_at dksX0_identity_2 5 rfl rfl)
abbrev cX0_plain : ByteArray := prog_1_method_13_code
def yX0_plain : MethodName := ⟨RX0, "plain", "(J)LToldPowers$Sum;"⟩
def dkwX0_plain_0 : List UInt8 := [187, 0, 105, 89, 30, 183, 0, 107, 176]
abbrev dktX0_plain_0 : List UInt8 := dkwX0_plain_0 ++ []
theorem dksX0_plain_0 : cX0_plain.data.toList.drop 0 = dktX0_plain_0 := by decide +kernel
theorem dX0_plain_0 : decode cX0_plain 0 = .ok (.new 105, 3) := dk_187 0 105 (dk_at dksX0_plain_0 0 rfl rfl)
theorem dX0_plain_3 : decode cX0_plain 3 = .ok (.dup, 1) := dk_89 (dk_at dksX0_plain_0 3 rfl rfl)
theorem dX0_plain_4 : decode cX0_plain 4 = .ok (.lload_n 0, 1) := dk_30 (dk_at dksX0_plain_0 4 rfl rfl)
theorem dX0_plain_5 : decode cX0_plain 5 = .ok (.invokespecial 107, 3) := dk_183 0 107 (dk_at dksX0_plain_0 5 rfl rfl)
theorem dX0_plain_8 : decode cX0_plain 8 = .ok (.areturn, 1) := dk_176 (dk_at dksX0_plain_0 8 rfl rfl)
abbrev cX0_letter : ByteArray := prog_1_method_14_code
def yX0_letter : MethodName := ⟨RX0, "letter", "(I)LToldPowers$Sum;"⟩
def dkwX0_letter_0 : List UInt8 := [187, 0, 111, 89, 26, 183, 0, 113, 176]
abbrev dktX0_letter_0 : List UInt8 := dkwX0_letter_0 ++ []
theorem dksX0_letter_0 : cX0_letter.data.toList.drop 0 = dktX0_letter_0 := by decide +kernel
theorem dX0_letter_0 : decode cX0_letter 0 = .ok (.new 111, 3) := dk_187 0 111 (dk_at dksX0_letter_0 0 rfl rfl)
theorem dX0_letter_3 : decode cX0_letter 3 = .ok (.dup, 1) := dk_89 (dk_at dksX0_letter_0 3 rfl rfl)
theorem dX0_letter_4 : decode cX0_letter 4 = .ok (.iload_n 0, 1) := dk_26 (dk_at dksX0_letter_0 4 rfl rfl)
theorem dX0_letter_5 : decode cX0_letter 5 = .ok (.invokespecial 113, 3) := dk_183 0 113 (dk_at dksX0_letter_0 5 rfl rfl)
theorem dX0_letter_8 : decode cX0_letter 8 = .ok (.areturn, 1) := dk_176 (dk_at dksX0_letter_0 8 rfl rfl)
abbrev cX0_power : ByteArray := prog_1_method_16_code
def yX0_power : MethodName := ⟨RX0, "power", "(LToldPowers$Sum;I)LToldPowers$Sum;"⟩
def dkwX0_power_0 : List UInt8 := [187, 0, 121, 89, 42, 27, 183, 0, 123, 176]
abbrev dktX0_power_0 : List UInt8 := dkwX0_power_0 ++ []
theorem dksX0_power_0 : cX0_power.data.toList.drop 0 = dktX0_power_0 := by decide +kernel
theorem dX0_power_0 : decode cX0_power 0 = .ok (.new 121, 3) := dk_187 0 121 (dk_at dksX0_power_0 0 rfl rfl)
theorem dX0_power_3 : decode cX0_power 3 = .ok (.dup, 1) := dk_89 (dk_at dksX0_power_0 3 rfl rfl)
theorem dX0_power_4 : decode cX0_power 4 = .ok (.aload_n 0, 1) := dk_42 (dk_at dksX0_power_0 4 rfl rfl)
theorem dX0_power_5 : decode cX0_power 5 = .ok (.iload_n 1, 1) := dk_27 (dk_at dksX0_power_0 5 rfl rfl)
theorem dX0_power_6 : decode cX0_power 6 = .ok (.invokespecial 123, 3) := dk_183 0 123 (dk_at dksX0_power_0 6 rfl rfl)
theorem dX0_power_9 : decode cX0_power 9 = .ok (.areturn, 1) := dk_176 (dk_at dksX0_power_0 9 rfl rfl)
abbrev cX0_both : ByteArray := prog_1_method_15_code
def yX0_both : MethodName := ⟨RX0, "both", "(ILToldPowers$Sum;LToldPowers$Sum;)LToldPowers$Sum;"⟩
def dkwX0_both_0 : List UInt8 := [187, 0, 116, 89, 43, 44, 26, 183, 0, 118, 176]
abbrev dktX0_both_0 : List UInt8 := dkwX0_both_0 ++ []
theorem dksX0_both_0 : cX0_both.data.toList.drop 0 = dktX0_both_0 := by decide +kernel
theorem dX0_both_0 : decode cX0_both 0 = .ok (.new 116, 3) := dk_187 0 116 (dk_at dksX0_both_0 0 rfl rfl)
theorem dX0_both_3 : decode cX0_both 3 = .ok (.dup, 1) := dk_89 (dk_at dksX0_both_0 3 rfl rfl)
theorem dX0_both_4 : decode cX0_both 4 = .ok (.aload_n 1, 1) := dk_43 (dk_at dksX0_both_0 4 rfl rfl)
theorem dX0_both_5 : decode cX0_both 5 = .ok (.aload_n 2, 1) := dk_44 (dk_at dksX0_both_0 5 rfl rfl)
theorem dX0_both_6 : decode cX0_both 6 = .ok (.iload_n 0, 1) := dk_26 (dk_at dksX0_both_0 6 rfl rfl)
theorem dX0_both_7 : decode cX0_both 7 = .ok (.invokespecial 118, 3) := dk_183 0 118 (dk_at dksX0_both_0 7 rfl rfl)
theorem dX0_both_10 : decode cX0_both 10 = .ok (.areturn, 1) := dk_176 (dk_at dksX0_both_0 10 rfl rfl)
abbrev cX0_term : ByteArray := prog_1_method_25_code
def yX0_term : MethodName := ⟨RX0, "term", "(III)I"⟩
def dkwX0_term_4 : List UInt8 := [160, 0, 11, 25, 5, 180, 0, 57, 167, 0, 6, 19, 1, 2, 172]
abbrev dktX0_term_4 : List UInt8 := dkwX0_term_4 ++ []
def dkwX0_term_3 : List UInt8 := [25, 5, 180, 1, 3, 172, 25, 5, 180, 1, 6, 182, 1, 8, 172, 25, 5, 180, 0, 51, 172, 29, 6]
abbrev dktX0_term_3 : List UInt8 := dkwX0_term_3 ++ dktX0_term_4
def dkwX0_term_2 : List UInt8 := [170, 0, 0, 0, 46, 0, 0, 0, 0, 0, 0, 0, 2, 0, 0, 0, 25, 0, 0, 0, 31, 0, 0, 0, 40]
abbrev dktX0_term_2 : List UInt8 := dkwX0_term_2 ++ dktX0_term_3
def dkwX0_term_1 : List UInt8 := [184, 0, 21, 154, 0, 7, 19, 1, 2, 172, 25, 4, 180, 0, 47, 28, 50, 58, 5, 29]
abbrev dktX0_term_1 : List UInt8 := dkwX0_term_1 ++ dktX0_term_2
def dkwX0_term_0 : List UInt8 := [42, 27, 182, 0, 238, 58, 4, 25, 4, 198, 0, 20, 28, 133, 9, 25, 4, 182, 0, 9, 4, 100, 133]
abbrev dktX0_term_0 : List UInt8 := dkwX0_term_0 ++ dktX0_term_1
theorem dksX0_term_0 : cX0_term.data.toList.drop 0 = dktX0_term_0 := by decide +kernel
theorem dksX0_term_1 : cX0_term.data.toList.drop 23 = dktX0_term_1 := dk_seg dksX0_term_0 23 rfl rfl
theorem dksX0_term_2 : cX0_term.data.toList.drop 43 = dktX0_term_2 := dk_seg dksX0_term_1 20 rfl rfl
theorem dksX0_term_3 : cX0_term.data.toList.drop 68 = dktX0_term_3 := dk_seg dksX0_term_2 25 rfl rfl
theorem dksX0_term_4 : cX0_term.data.toList.drop 91 = dktX0_term_4 := dk_seg dksX0_term_3 23 rfl rfl
theorem dX0_term_0 : decode cX0_term 0 = .ok (.aload_n 0, 1) := dk_42 (dk_at dksX0_term_0 0 rfl rfl)
theorem dX0_term_1 : decode cX0_term 1 = .ok (.iload_n 1, 1) := dk_27 (dk_at dksX0_term_0 1 rfl rfl)
theorem dX0_term_2 : decode cX0_term 2 = .ok (.invokevirtual 238, 3) := dk_182 0 238 (dk_at dksX0_term_0 2 rfl rfl)
theorem dX0_term_5 : decode cX0_term 5 = .ok (.astore 4, 2) := dk_58 4 (dk_at dksX0_term_0 5 rfl rfl)
theorem dX0_term_7 : decode cX0_term 7 = .ok (.aload 4, 2) := dk_25 4 (dk_at dksX0_term_0 7 rfl rfl)
theorem dX0_term_9 : decode cX0_term 9 = .ok (.ifnull 20, 3) := dk_198 0 20 (dk_at dksX0_term_0 9 rfl rfl)
theorem dX0_term_12 : decode cX0_term 12 = .ok (.iload_n 2, 1) := dk_28 (dk_at dksX0_term_0 12 rfl rfl)
theorem dX0_term_13 : decode cX0_term 13 = .ok (.i2l, 1) := dk_133 (dk_at dksX0_term_0 13 rfl rfl)
theorem dX0_term_14 : decode cX0_term 14 = .ok (.lconst 0, 1) := dk_9 (dk_at dksX0_term_0 14 rfl rfl)
theorem dX0_term_15 : decode cX0_term 15 = .ok (.aload 4, 2) := dk_25 4 (dk_at dksX0_term_0 15 rfl rfl)
theorem dX0_term_17 : decode cX0_term 17 = .ok (.invokevirtual 9, 3) := dk_182 0 9 (dk_at dksX0_term_0 17 rfl rfl)
theorem dX0_term_20 : decode cX0_term 20 = .ok (.iconst 1, 1) := dk_4 (dk_at dksX0_term_0 20 rfl rfl)
theorem dX0_term_21 : decode cX0_term 21 = .ok (.isub, 1) := dk_100 (dk_at dksX0_term_0 21 rfl rfl)
theorem dX0_term_22 : decode cX0_term 22 = .ok (.i2l, 1) := dk_133 (dk_at dksX0_term_0 22 rfl rfl)
theorem dX0_term_23 : decode cX0_term 23 = .ok (.invokestatic 21, 3) := dk_184 0 21 (dk_at dksX0_term_1 0 rfl rfl)
theorem dX0_term_26 : decode cX0_term 26 = .ok (.ifCond .ne 7, 3) := dk_154 0 7 (dk_at dksX0_term_1 3 rfl rfl)
theorem dX0_term_29 : decode cX0_term 29 = .ok (.ldc_w 258, 3) := dk_19 1 2 (dk_at dksX0_term_1 6 rfl rfl)
theorem dX0_term_32 : decode cX0_term 32 = .ok (.ireturn, 1) := dk_172 (dk_at dksX0_term_1 9 rfl rfl)
theorem dX0_term_33 : decode cX0_term 33 = .ok (.aload 4, 2) := dk_25 4 (dk_at dksX0_term_1 10 rfl rfl)
theorem dX0_term_35 : decode cX0_term 35 = .ok (.getfield 47, 3) := dk_180 0 47 (dk_at dksX0_term_1 12 rfl rfl)
theorem dX0_term_38 : decode cX0_term 38 = .ok (.iload_n 2, 1) := dk_28 (dk_at dksX0_term_1 15 rfl rfl)
theorem dX0_term_39 : decode cX0_term 39 = .ok (.aaload, 1) := dk_50 (dk_at dksX0_term_1 16 rfl rfl)
theorem dX0_term_40 : decode cX0_term 40 = .ok (.astore 5, 2) := dk_58 5 (dk_at dksX0_term_1 17 rfl rfl)
theorem dX0_term_42 : decode cX0_term 42 = .ok (.iload_n 3, 1) := dk_29 (dk_at dksX0_term_1 19 rfl rfl)
theorem dX0_term_43 : decode cX0_term 43 = .ok (.tableswitch 46 0 2 #[25, 31, 40], 25) := by decide +kernel
theorem dX0_term_68 : decode cX0_term 68 = .ok (.aload 5, 2) := dk_25 5 (dk_at dksX0_term_3 0 rfl rfl)
theorem dX0_term_70 : decode cX0_term 70 = .ok (.getfield 259, 3) := dk_180 1 3 (dk_at dksX0_term_3 2 rfl rfl)
theorem dX0_term_73 : decode cX0_term 73 = .ok (.ireturn, 1) := dk_172 (dk_at dksX0_term_3 5 rfl rfl)
theorem dX0_term_74 : decode cX0_term 74 = .ok (.aload 5, 2) := dk_25 5 (dk_at dksX0_term_3 6 rfl rfl)
theorem dX0_term_76 : decode cX0_term 76 = .ok (.getfield 262, 3) := dk_180 1 6 (dk_at dksX0_term_3 8 rfl rfl)
theorem dX0_term_79 : decode cX0_term 79 = .ok (.invokevirtual 264, 3) := dk_182 1 8 (dk_at dksX0_term_3 11 rfl rfl)
theorem dX0_term_82 : decode cX0_term 82 = .ok (.ireturn, 1) := dk_172 (dk_at dksX0_term_3 14 rfl rfl)
theorem dX0_term_83 : decode cX0_term 83 = .ok (.aload 5, 2) := dk_25 5 (dk_at dksX0_term_3 15 rfl rfl)
theorem dX0_term_85 : decode cX0_term 85 = .ok (.getfield 51, 3) := dk_180 0 51 (dk_at dksX0_term_3 17 rfl rfl)
theorem dX0_term_88 : decode cX0_term 88 = .ok (.ireturn, 1) := dk_172 (dk_at dksX0_term_3 20 rfl rfl)
theorem dX0_term_89 : decode cX0_term 89 = .ok (.iload_n 3, 1) := dk_29 (dk_at dksX0_term_3 21 rfl rfl)
theorem dX0_term_90 : decode cX0_term 90 = .ok (.iconst 3, 1) := dk_6 (dk_at dksX0_term_3 22 rfl rfl)
theorem dX0_term_91 : decode cX0_term 91 = .ok (.if_icmp .ne 11, 3) := dk_160 0 11 (dk_at dksX0_term_4 0 rfl rfl)
theorem dX0_term_94 : decode cX0_term 94 = .ok (.aload 5, 2) := dk_25 5 (dk_at dksX0_term_4 3 rfl rfl)
theorem dX0_term_96 : decode cX0_term 96 = .ok (.getfield 57, 3) := dk_180 0 57 (dk_at dksX0_term_4 5 rfl rfl)
theorem dX0_term_99 : decode cX0_term 99 = .ok (.goto 6, 3) := dk_167 0 6 (dk_at dksX0_term_4 8 rfl rfl)
theorem dX0_term_102 : decode cX0_term 102 = .ok (.ldc_w 258, 3) := dk_19 1 2 (dk_at dksX0_term_4 11 rfl rfl)
theorem dX0_term_105 : decode cX0_term 105 = .ok (.ireturn, 1) := dk_172 (dk_at dksX0_term_4 14 rfl rfl)
abbrev cX0_ways : ByteArray := prog_1_method_26_code
def yX0_ways : MethodName := ⟨RX0, "ways", "(II)J"⟩
def dkwX0_ways_1 : List UInt8 := [45, 28, 182, 1, 11, 173]
abbrev dktX0_ways_1 : List UInt8 := dkwX0_ways_1 ++ []
def dkwX0_ways_0 : List UInt8 := [42, 27, 182, 0, 238, 78, 45, 198, 0, 10, 28, 184, 0, 29, 154, 0, 9, 20, 0, 97, 167, 0, 9, 42]
abbrev dktX0_ways_0 : List UInt8 := dkwX0_ways_0 ++ dktX0_ways_1
theorem dksX0_ways_0 : cX0_ways.data.toList.drop 0 = dktX0_ways_0 := by decide +kernel
theorem dksX0_ways_1 : cX0_ways.data.toList.drop 24 = dktX0_ways_1 := dk_seg dksX0_ways_0 24 rfl rfl
theorem dX0_ways_0 : decode cX0_ways 0 = .ok (.aload_n 0, 1) := dk_42 (dk_at dksX0_ways_0 0 rfl rfl)
theorem dX0_ways_1 : decode cX0_ways 1 = .ok (.iload_n 1, 1) := dk_27 (dk_at dksX0_ways_0 1 rfl rfl)
theorem dX0_ways_2 : decode cX0_ways 2 = .ok (.invokevirtual 238, 3) := dk_182 0 238 (dk_at dksX0_ways_0 2 rfl rfl)
theorem dX0_ways_5 : decode cX0_ways 5 = .ok (.astore_n 3, 1) := dk_78 (dk_at dksX0_ways_0 5 rfl rfl)
theorem dX0_ways_6 : decode cX0_ways 6 = .ok (.aload_n 3, 1) := dk_45 (dk_at dksX0_ways_0 6 rfl rfl)
theorem dX0_ways_7 : decode cX0_ways 7 = .ok (.ifnull 10, 3) := dk_198 0 10 (dk_at dksX0_ways_0 7 rfl rfl)
theorem dX0_ways_10 : decode cX0_ways 10 = .ok (.iload_n 2, 1) := dk_28 (dk_at dksX0_ways_0 10 rfl rfl)
theorem dX0_ways_11 : decode cX0_ways 11 = .ok (.invokestatic 29, 3) := dk_184 0 29 (dk_at dksX0_ways_0 11 rfl rfl)
theorem dX0_ways_14 : decode cX0_ways 14 = .ok (.ifCond .ne 9, 3) := dk_154 0 9 (dk_at dksX0_ways_0 14 rfl rfl)
theorem dX0_ways_17 : decode cX0_ways 17 = .ok (.ldc2_w 97, 3) := dk_20 0 97 (dk_at dksX0_ways_0 17 rfl rfl)
theorem dX0_ways_20 : decode cX0_ways 20 = .ok (.goto 9, 3) := dk_167 0 9 (dk_at dksX0_ways_0 20 rfl rfl)
theorem dX0_ways_23 : decode cX0_ways 23 = .ok (.aload_n 0, 1) := dk_42 (dk_at dksX0_ways_0 23 rfl rfl)
theorem dX0_ways_24 : decode cX0_ways 24 = .ok (.aload_n 3, 1) := dk_45 (dk_at dksX0_ways_1 0 rfl rfl)
theorem dX0_ways_25 : decode cX0_ways 25 = .ok (.iload_n 2, 1) := dk_28 (dk_at dksX0_ways_1 1 rfl rfl)
theorem dX0_ways_26 : decode cX0_ways 26 = .ok (.invokevirtual 267, 3) := dk_182 1 11 (dk_at dksX0_ways_1 2 rfl rfl)
theorem dX0_ways_29 : decode cX0_ways 29 = .ok (.lreturn, 1) := dk_173 (dk_at dksX0_ways_1 5 rfl rfl)
abbrev cX0_unlike : ByteArray := prog_1_method_27_code
def yX0_unlike : MethodName := ⟨RX0, "unlike", "(II)J"⟩
def dkwX0_unlike_1 : List UInt8 := [45, 28, 182, 1, 15, 173]
abbrev dktX0_unlike_1 : List UInt8 := dkwX0_unlike_1 ++ []
def dkwX0_unlike_0 : List UInt8 := [42, 27, 182, 0, 238, 78, 45, 198, 0, 10, 28, 184, 0, 29, 154, 0, 9, 20, 0, 97, 167, 0, 9, 42]
abbrev dktX0_unlike_0 : List UInt8 := dkwX0_unlike_0 ++ dktX0_unlike_1
theorem dksX0_unlike_0 : cX0_unlike.data.toList.drop 0 = dktX0_unlike_0 := by decide +kernel
theorem dksX0_unlike_1 : cX0_unlike.data.toList.drop 24 = dktX0_unlike_1 := dk_seg dksX0_unlike_0 24 rfl rfl
theorem dX0_unlike_0 : decode cX0_unlike 0 = .ok (.aload_n 0, 1) := dk_42 (dk_at dksX0_unlike_0 0 rfl rfl)
theorem dX0_unlike_1 : decode cX0_unlike 1 = .ok (.iload_n 1, 1) := dk_27 (dk_at dksX0_unlike_0 1 rfl rfl)
theorem dX0_unlike_2 : decode cX0_unlike 2 = .ok (.invokevirtual 238, 3) := dk_182 0 238 (dk_at dksX0_unlike_0 2 rfl rfl)
theorem dX0_unlike_5 : decode cX0_unlike 5 = .ok (.astore_n 3, 1) := dk_78 (dk_at dksX0_unlike_0 5 rfl rfl)
theorem dX0_unlike_6 : decode cX0_unlike 6 = .ok (.aload_n 3, 1) := dk_45 (dk_at dksX0_unlike_0 6 rfl rfl)
theorem dX0_unlike_7 : decode cX0_unlike 7 = .ok (.ifnull 10, 3) := dk_198 0 10 (dk_at dksX0_unlike_0 7 rfl rfl)
theorem dX0_unlike_10 : decode cX0_unlike 10 = .ok (.iload_n 2, 1) := dk_28 (dk_at dksX0_unlike_0 10 rfl rfl)
theorem dX0_unlike_11 : decode cX0_unlike 11 = .ok (.invokestatic 29, 3) := dk_184 0 29 (dk_at dksX0_unlike_0 11 rfl rfl)
theorem dX0_unlike_14 : decode cX0_unlike 14 = .ok (.ifCond .ne 9, 3) := dk_154 0 9 (dk_at dksX0_unlike_0 14 rfl rfl)
theorem dX0_unlike_17 : decode cX0_unlike 17 = .ok (.ldc2_w 97, 3) := dk_20 0 97 (dk_at dksX0_unlike_0 17 rfl rfl)
theorem dX0_unlike_20 : decode cX0_unlike 20 = .ok (.goto 9, 3) := dk_167 0 9 (dk_at dksX0_unlike_0 20 rfl rfl)
theorem dX0_unlike_23 : decode cX0_unlike 23 = .ok (.aload_n 0, 1) := dk_42 (dk_at dksX0_unlike_0 23 rfl rfl)
theorem dX0_unlike_24 : decode cX0_unlike 24 = .ok (.aload_n 3, 1) := dk_45 (dk_at dksX0_unlike_1 0 rfl rfl)
theorem dX0_unlike_25 : decode cX0_unlike 25 = .ok (.iload_n 2, 1) := dk_28 (dk_at dksX0_unlike_1 1 rfl rfl)
theorem dX0_unlike_26 : decode cX0_unlike 26 = .ok (.invokevirtual 271, 3) := dk_182 1 15 (dk_at dksX0_unlike_1 2 rfl rfl)
theorem dX0_unlike_29 : decode cX0_unlike 29 = .ok (.lreturn, 1) := dk_173 (dk_at dksX0_unlike_1 5 rfl rfl)
abbrev cX0_unlikeOf : ByteArray := prog_1_method_9_code
def yX0_unlikeOf : MethodName := ⟨RX0, "unlikeOf", "(LToldPowers$Form;I)J"⟩
def dkwX0_unlikeOf_1 : List UInt8 := [47, 173]
abbrev dktX0_unlikeOf_1 : List UInt8 := dkwX0_unlikeOf_1 ++ []
def dkwX0_unlikeOf_0 : List UInt8 := [42, 180, 0, 78, 43, 165, 0, 8, 42, 43, 182, 0, 81, 42, 180, 0, 84, 3, 50, 17, 58, 152, 28, 96]
abbrev dktX0_unlikeOf_0 : List UInt8 := dkwX0_unlikeOf_0 ++ dktX0_unlikeOf_1
theorem dksX0_unlikeOf_0 : cX0_unlikeOf.data.toList.drop 0 = dktX0_unlikeOf_0 := by decide +kernel
theorem dksX0_unlikeOf_1 : cX0_unlikeOf.data.toList.drop 24 = dktX0_unlikeOf_1 := dk_seg dksX0_unlikeOf_0 24 rfl rfl
theorem dX0_unlikeOf_0 : decode cX0_unlikeOf 0 = .ok (.aload_n 0, 1) := dk_42 (dk_at dksX0_unlikeOf_0 0 rfl rfl)
theorem dX0_unlikeOf_1 : decode cX0_unlikeOf 1 = .ok (.getfield 78, 3) := dk_180 0 78 (dk_at dksX0_unlikeOf_0 1 rfl rfl)
theorem dX0_unlikeOf_4 : decode cX0_unlikeOf 4 = .ok (.aload_n 1, 1) := dk_43 (dk_at dksX0_unlikeOf_0 4 rfl rfl)
theorem dX0_unlikeOf_5 : decode cX0_unlikeOf 5 = .ok (.if_acmp .eq 8, 3) := dk_165 0 8 (dk_at dksX0_unlikeOf_0 5 rfl rfl)
theorem dX0_unlikeOf_8 : decode cX0_unlikeOf 8 = .ok (.aload_n 0, 1) := dk_42 (dk_at dksX0_unlikeOf_0 8 rfl rfl)
theorem dX0_unlikeOf_9 : decode cX0_unlikeOf 9 = .ok (.aload_n 1, 1) := dk_43 (dk_at dksX0_unlikeOf_0 9 rfl rfl)
theorem dX0_unlikeOf_10 : decode cX0_unlikeOf 10 = .ok (.invokevirtual 81, 3) := dk_182 0 81 (dk_at dksX0_unlikeOf_0 10 rfl rfl)
theorem dX0_unlikeOf_13 : decode cX0_unlikeOf 13 = .ok (.aload_n 0, 1) := dk_42 (dk_at dksX0_unlikeOf_0 13 rfl rfl)
theorem dX0_unlikeOf_14 : decode cX0_unlikeOf 14 = .ok (.getfield 84, 3) := dk_180 0 84 (dk_at dksX0_unlikeOf_0 14 rfl rfl)
theorem dX0_unlikeOf_17 : decode cX0_unlikeOf 17 = .ok (.iconst 0, 1) := dk_3 (dk_at dksX0_unlikeOf_0 17 rfl rfl)
theorem dX0_unlikeOf_18 : decode cX0_unlikeOf 18 = .ok (.aaload, 1) := dk_50 (dk_at dksX0_unlikeOf_0 18 rfl rfl)
theorem dX0_unlikeOf_19 : decode cX0_unlikeOf 19 = .ok (.sipush 15000, 3) := dk_17 58 152 (dk_at dksX0_unlikeOf_0 19 rfl rfl)
theorem dX0_unlikeOf_22 : decode cX0_unlikeOf 22 = .ok (.iload_n 2, 1) := dk_28 (dk_at dksX0_unlikeOf_0 22 rfl rfl)
theorem dX0_unlikeOf_23 : decode cX0_unlikeOf 23 = .ok (.iadd, 1) := dk_96 (dk_at dksX0_unlikeOf_0 23 rfl rfl)
theorem dX0_unlikeOf_24 : decode cX0_unlikeOf 24 = .ok (.laload, 1) := dk_47 (dk_at dksX0_unlikeOf_1 0 rfl rfl)
theorem dX0_unlikeOf_25 : decode cX0_unlikeOf 25 = .ok (.lreturn, 1) := dk_173 (dk_at dksX0_unlikeOf_1 1 rfl rfl)
abbrev cX0_laysUnlike : ByteArray := prog_1_method_10_code
def yX0_laysUnlike : MethodName := ⟨RX0, "laysUnlike", "(LToldPowers$Form;)V"⟩
def dkwX0_laysUnlike_9 : List UInt8 := [180, 0, 84, 3, 50, 3, 17, 117, 49, 184, 0, 91, 132, 2, 1, 167, 255, 59, 177]
abbrev dktX0_laysUnlike_9 : List UInt8 := dkwX0_laysUnlike_9 ++ []
def dkwX0_laysUnlike_8 : List UInt8 := [136, 184, 0, 64, 132, 5, 1, 167, 255, 215, 132, 4, 1, 167, 255, 192, 42, 180, 0, 84, 29, 50, 3, 42]
abbrev dktX0_laysUnlike_8 : List UInt8 := dkwX0_laysUnlike_8 ++ dktX0_laysUnlike_9
def dkwX0_laysUnlike_7 : List UInt8 := [21, 5, 50, 42, 180, 0, 84, 21, 5, 4, 100, 50, 43, 180, 0, 47, 28, 50, 21, 4, 133, 182, 0, 60]
abbrev dktX0_laysUnlike_7 : List UInt8 := dkwX0_laysUnlike_7 ++ dktX0_laysUnlike_8
def dkwX0_laysUnlike_6 : List UInt8 := [180, 0, 47, 28, 50, 180, 0, 57, 163, 0, 56, 4, 54, 5, 21, 5, 29, 163, 0, 41, 42, 180, 0, 84]
abbrev dktX0_laysUnlike_6 : List UInt8 := dkwX0_laysUnlike_6 ++ dktX0_laysUnlike_7
def dkwX0_laysUnlike_5 : List UInt8 := [184, 0, 41, 132, 4, 1, 167, 255, 236, 43, 180, 0, 47, 28, 50, 180, 0, 51, 54, 4, 21, 4, 43]
abbrev dktX0_laysUnlike_5 : List UInt8 := dkwX0_laysUnlike_5 ++ dktX0_laysUnlike_6
def dkwX0_laysUnlike_4 : List UInt8 := [164, 0, 6, 167, 0, 127, 4, 54, 4, 21, 4, 29, 163, 0, 20, 42, 180, 0, 84, 21, 4, 50, 9]
abbrev dktX0_laysUnlike_4 : List UInt8 := dkwX0_laysUnlike_4 ++ dktX0_laysUnlike_5
def dkwX0_laysUnlike_3 : List UInt8 := [21, 4, 28, 162, 0, 8, 16, 6, 167, 0, 4, 4, 96, 62, 132, 4, 1, 167, 255, 210, 29, 8]
abbrev dktX0_laysUnlike_3 : List UInt8 := dkwX0_laysUnlike_3 ++ dktX0_laysUnlike_4
def dkwX0_laysUnlike_2 : List UInt8 := [162, 0, 43, 43, 180, 0, 47, 21, 4, 50, 43, 180, 0, 47, 28, 50, 182, 0, 87, 153, 0, 18, 29]
abbrev dktX0_laysUnlike_2 : List UInt8 := dkwX0_laysUnlike_2 ++ dktX0_laysUnlike_3
def dkwX0_laysUnlike_1 : List UInt8 := [10, 80, 3, 61, 28, 43, 182, 0, 9, 162, 0, 195, 3, 62, 3, 54, 4, 21, 4, 43, 182, 0, 9]
abbrev dktX0_laysUnlike_1 : List UInt8 := dkwX0_laysUnlike_1 ++ dktX0_laysUnlike_2
def dkwX0_laysUnlike_0 : List UInt8 := [42, 43, 181, 0, 78, 42, 180, 0, 84, 3, 50, 9, 184, 0, 41, 42, 180, 0, 84, 3, 50, 17, 58, 152]
abbrev dktX0_laysUnlike_0 : List UInt8 := dkwX0_laysUnlike_0 ++ dktX0_laysUnlike_1
theorem dksX0_laysUnlike_0 : cX0_laysUnlike.data.toList.drop 0 = dktX0_laysUnlike_0 := by decide +kernel
theorem dksX0_laysUnlike_1 : cX0_laysUnlike.data.toList.drop 24 = dktX0_laysUnlike_1 := dk_seg dksX0_laysUnlike_0 24 rfl rfl
theorem dksX0_laysUnlike_2 : cX0_laysUnlike.data.toList.drop 47 = dktX0_laysUnlike_2 := dk_seg dksX0_laysUnlike_1 23 rfl rfl
theorem dksX0_laysUnlike_3 : cX0_laysUnlike.data.toList.drop 70 = dktX0_laysUnlike_3 := dk_seg dksX0_laysUnlike_2 23 rfl rfl
theorem dksX0_laysUnlike_4 : cX0_laysUnlike.data.toList.drop 92 = dktX0_laysUnlike_4 := dk_seg dksX0_laysUnlike_3 22 rfl rfl
theorem dksX0_laysUnlike_5 : cX0_laysUnlike.data.toList.drop 115 = dktX0_laysUnlike_5 := dk_seg dksX0_laysUnlike_4 23 rfl rfl
theorem dksX0_laysUnlike_6 : cX0_laysUnlike.data.toList.drop 138 = dktX0_laysUnlike_6 := dk_seg dksX0_laysUnlike_5 23 rfl rfl
theorem dksX0_laysUnlike_7 : cX0_laysUnlike.data.toList.drop 162 = dktX0_laysUnlike_7 := dk_seg dksX0_laysUnlike_6 24 rfl rfl
theorem dksX0_laysUnlike_8 : cX0_laysUnlike.data.toList.drop 186 = dktX0_laysUnlike_8 := dk_seg dksX0_laysUnlike_7 24 rfl rfl
theorem dksX0_laysUnlike_9 : cX0_laysUnlike.data.toList.drop 210 = dktX0_laysUnlike_9 := dk_seg dksX0_laysUnlike_8 24 rfl rfl
theorem dX0_laysUnlike_0 : decode cX0_laysUnlike 0 = .ok (.aload_n 0, 1) := dk_42 (dk_at dksX0_laysUnlike_0 0 rfl rfl)
theorem dX0_laysUnlike_1 : decode cX0_laysUnlike 1 = .ok (.aload_n 1, 1) := dk_43 (dk_at dksX0_laysUnlike_0 1 rfl rfl)
theorem dX0_laysUnlike_2 : decode cX0_laysUnlike 2 = .ok (.putfield 78, 3) := dk_181 0 78 (dk_at dksX0_laysUnlike_0 2 rfl rfl)
theorem dX0_laysUnlike_5 : decode cX0_laysUnlike 5 = .ok (.aload_n 0, 1) := dk_42 (dk_at dksX0_laysUnlike_0 5 rfl rfl)
theorem dX0_laysUnlike_6 : decode cX0_laysUnlike 6 = .ok (.getfield 84, 3) := dk_180 0 84 (dk_at dksX0_laysUnlike_0 6 rfl rfl)
theorem dX0_laysUnlike_9 : decode cX0_laysUnlike 9 = .ok (.iconst 0, 1) := dk_3 (dk_at dksX0_laysUnlike_0 9 rfl rfl)
theorem dX0_laysUnlike_10 : decode cX0_laysUnlike 10 = .ok (.aaload, 1) := dk_50 (dk_at dksX0_laysUnlike_0 10 rfl rfl)
theorem dX0_laysUnlike_11 : decode cX0_laysUnlike 11 = .ok (.lconst 0, 1) := dk_9 (dk_at dksX0_laysUnlike_0 11 rfl rfl)
theorem dX0_laysUnlike_12 : decode cX0_laysUnlike 12 = .ok (.invokestatic 41, 3) := dk_184 0 41 (dk_at dksX0_laysUnlike_0 12 rfl rfl)
theorem dX0_laysUnlike_15 : decode cX0_laysUnlike 15 = .ok (.aload_n 0, 1) := dk_42 (dk_at dksX0_laysUnlike_0 15 rfl rfl)
theorem dX0_laysUnlike_16 : decode cX0_laysUnlike 16 = .ok (.getfield 84, 3) := dk_180 0 84 (dk_at dksX0_laysUnlike_0 16 rfl rfl)
theorem dX0_laysUnlike_19 : decode cX0_laysUnlike 19 = .ok (.iconst 0, 1) := dk_3 (dk_at dksX0_laysUnlike_0 19 rfl rfl)
theorem dX0_laysUnlike_20 : decode cX0_laysUnlike 20 = .ok (.aaload, 1) := dk_50 (dk_at dksX0_laysUnlike_0 20 rfl rfl)
theorem dX0_laysUnlike_21 : decode cX0_laysUnlike 21 = .ok (.sipush 15000, 3) := dk_17 58 152 (dk_at dksX0_laysUnlike_0 21 rfl rfl)
theorem dX0_laysUnlike_24 : decode cX0_laysUnlike 24 = .ok (.lconst 1, 1) := dk_10 (dk_at dksX0_laysUnlike_1 0 rfl rfl)
theorem dX0_laysUnlike_25 : decode cX0_laysUnlike 25 = .ok (.lastore, 1) := dk_80 (dk_at dksX0_laysUnlike_1 1 rfl rfl)
theorem dX0_laysUnlike_26 : decode cX0_laysUnlike 26 = .ok (.iconst 0, 1) := dk_3 (dk_at dksX0_laysUnlike_1 2 rfl rfl)
theorem dX0_laysUnlike_27 : decode cX0_laysUnlike 27 = .ok (.istore_n 2, 1) := dk_61 (dk_at dksX0_laysUnlike_1 3 rfl rfl)
theorem dX0_laysUnlike_28 : decode cX0_laysUnlike 28 = .ok (.iload_n 2, 1) := dk_28 (dk_at dksX0_laysUnlike_1 4 rfl rfl)
theorem dX0_laysUnlike_29 : decode cX0_laysUnlike 29 = .ok (.aload_n 1, 1) := dk_43 (dk_at dksX0_laysUnlike_1 5 rfl rfl)
theorem dX0_laysUnlike_30 : decode cX0_laysUnlike 30 = .ok (.invokevirtual 9, 3) := dk_182 0 9 (dk_at dksX0_laysUnlike_1 6 rfl rfl)
theorem dX0_laysUnlike_33 : decode cX0_laysUnlike 33 = .ok (.if_icmp .ge 195, 3) := dk_162 0 195 (dk_at dksX0_laysUnlike_1 9 rfl rfl)
theorem dX0_laysUnlike_36 : decode cX0_laysUnlike 36 = .ok (.iconst 0, 1) := dk_3 (dk_at dksX0_laysUnlike_1 12 rfl rfl)
theorem dX0_laysUnlike_37 : decode cX0_laysUnlike 37 = .ok (.istore_n 3, 1) := dk_62 (dk_at dksX0_laysUnlike_1 13 rfl rfl)
theorem dX0_laysUnlike_38 : decode cX0_laysUnlike 38 = .ok (.iconst 0, 1) := dk_3 (dk_at dksX0_laysUnlike_1 14 rfl rfl)
theorem dX0_laysUnlike_39 : decode cX0_laysUnlike 39 = .ok (.istore 4, 2) := dk_54 4 (dk_at dksX0_laysUnlike_1 15 rfl rfl)
theorem dX0_laysUnlike_41 : decode cX0_laysUnlike 41 = .ok (.iload 4, 2) := dk_21 4 (dk_at dksX0_laysUnlike_1 17 rfl rfl)
theorem dX0_laysUnlike_43 : decode cX0_laysUnlike 43 = .ok (.aload_n 1, 1) := dk_43 (dk_at dksX0_laysUnlike_1 19 rfl rfl)
theorem dX0_laysUnlike_44 : decode cX0_laysUnlike 44 = .ok (.invokevirtual 9, 3) := dk_182 0 9 (dk_at dksX0_laysUnlike_1 20 rfl rfl)
theorem dX0_laysUnlike_47 : decode cX0_laysUnlike 47 = .ok (.if_icmp .ge 43, 3) := dk_162 0 43 (dk_at dksX0_laysUnlike_2 0 rfl rfl)
theorem dX0_laysUnlike_50 : decode cX0_laysUnlike 50 = .ok (.aload_n 1, 1) := dk_43 (dk_at dksX0_laysUnlike_2 3 rfl rfl)
theorem dX0_laysUnlike_51 : decode cX0_laysUnlike 51 = .ok (.getfield 47, 3) := dk_180 0 47 (dk_at dksX0_laysUnlike_2 4 rfl rfl)
theorem dX0_laysUnlike_54 : decode cX0_laysUnlike 54 = .ok (.iload 4, 2) := dk_21 4 (dk_at dksX0_laysUnlike_2 7 rfl rfl)
theorem dX0_laysUnlike_56 : decode cX0_laysUnlike 56 = .ok (.aaload, 1) := dk_50 (dk_at dksX0_laysUnlike_2 9 rfl rfl)
theorem dX0_laysUnlike_57 : decode cX0_laysUnlike 57 = .ok (.aload_n 1, 1) := dk_43 (dk_at dksX0_laysUnlike_2 10 rfl rfl)
theorem dX0_laysUnlike_58 : decode cX0_laysUnlike 58 = .ok (.getfield 47, 3) := dk_180 0 47 (dk_at dksX0_laysUnlike_2 11 rfl rfl)
theorem dX0_laysUnlike_61 : decode cX0_laysUnlike 61 = .ok (.iload_n 2, 1) := dk_28 (dk_at dksX0_laysUnlike_2 14 rfl rfl)
theorem dX0_laysUnlike_62 : decode cX0_laysUnlike 62 = .ok (.aaload, 1) := dk_50 (dk_at dksX0_laysUnlike_2 15 rfl rfl)
theorem dX0_laysUnlike_63 : decode cX0_laysUnlike 63 = .ok (.invokevirtual 87, 3) := dk_182 0 87 (dk_at dksX0_laysUnlike_2 16 rfl rfl)
theorem dX0_laysUnlike_66 : decode cX0_laysUnlike 66 = .ok (.ifCond .eq 18, 3) := dk_153 0 18 (dk_at dksX0_laysUnlike_2 19 rfl rfl)
theorem dX0_laysUnlike_69 : decode cX0_laysUnlike 69 = .ok (.iload_n 3, 1) := dk_29 (dk_at dksX0_laysUnlike_2 22 rfl rfl)
theorem dX0_laysUnlike_70 : decode cX0_laysUnlike 70 = .ok (.iload 4, 2) := dk_21 4 (dk_at dksX0_laysUnlike_3 0 rfl rfl)
theorem dX0_laysUnlike_72 : decode cX0_laysUnlike 72 = .ok (.iload_n 2, 1) := dk_28 (dk_at dksX0_laysUnlike_3 2 rfl rfl)
theorem dX0_laysUnlike_73 : decode cX0_laysUnlike 73 = .ok (.if_icmp .ge 8, 3) := dk_162 0 8 (dk_at dksX0_laysUnlike_3 3 rfl rfl)
theorem dX0_laysUnlike_76 : decode cX0_laysUnlike 76 = .ok (.bipush 6, 2) := dk_16 6 (dk_at dksX0_laysUnlike_3 6 rfl rfl)
theorem dX0_laysUnlike_78 : decode cX0_laysUnlike 78 = .ok (.goto 4, 3) := dk_167 0 4 (dk_at dksX0_laysUnlike_3 8 rfl rfl)
theorem dX0_laysUnlike_81 : decode cX0_laysUnlike 81 = .ok (.iconst 1, 1) := dk_4 (dk_at dksX0_laysUnlike_3 11 rfl rfl)
theorem dX0_laysUnlike_82 : decode cX0_laysUnlike 82 = .ok (.iadd, 1) := dk_96 (dk_at dksX0_laysUnlike_3 12 rfl rfl)
theorem dX0_laysUnlike_83 : decode cX0_laysUnlike 83 = .ok (.istore_n 3, 1) := dk_62 (dk_at dksX0_laysUnlike_3 13 rfl rfl)
theorem dX0_laysUnlike_84 : decode cX0_laysUnlike 84 = .ok (.iinc 4 1, 3) := dk_132 4 1 (dk_at dksX0_laysUnlike_3 14 rfl rfl)
theorem dX0_laysUnlike_87 : decode cX0_laysUnlike 87 = .ok (.goto (-46), 3) := dk_167 255 210 (dk_at dksX0_laysUnlike_3 17 rfl rfl)
theorem dX0_laysUnlike_90 : decode cX0_laysUnlike 90 = .ok (.iload_n 3, 1) := dk_29 (dk_at dksX0_laysUnlike_3 20 rfl rfl)
theorem dX0_laysUnlike_91 : decode cX0_laysUnlike 91 = .ok (.iconst 5, 1) := dk_8 (dk_at dksX0_laysUnlike_3 21 rfl rfl)
theorem dX0_laysUnlike_92 : decode cX0_laysUnlike 92 = .ok (.if_icmp .le 6, 3) := dk_164 0 6 (dk_at dksX0_laysUnlike_4 0 rfl rfl)
theorem dX0_laysUnlike_95 : decode cX0_laysUnlike 95 = .ok (.goto 127, 3) := dk_167 0 127 (dk_at dksX0_laysUnlike_4 3 rfl rfl)
theorem dX0_laysUnlike_98 : decode cX0_laysUnlike 98 = .ok (.iconst 1, 1) := dk_4 (dk_at dksX0_laysUnlike_4 6 rfl rfl)
theorem dX0_laysUnlike_99 : decode cX0_laysUnlike 99 = .ok (.istore 4, 2) := dk_54 4 (dk_at dksX0_laysUnlike_4 7 rfl rfl)
theorem dX0_laysUnlike_101 : decode cX0_laysUnlike 101 = .ok (.iload 4, 2) := dk_21 4 (dk_at dksX0_laysUnlike_4 9 rfl rfl)
theorem dX0_laysUnlike_103 : decode cX0_laysUnlike 103 = .ok (.iload_n 3, 1) := dk_29 (dk_at dksX0_laysUnlike_4 11 rfl rfl)
theorem dX0_laysUnlike_104 : decode cX0_laysUnlike 104 = .ok (.if_icmp .gt 20, 3) := dk_163 0 20 (dk_at dksX0_laysUnlike_4 12 rfl rfl)
theorem dX0_laysUnlike_107 : decode cX0_laysUnlike 107 = .ok (.aload_n 0, 1) := dk_42 (dk_at dksX0_laysUnlike_4 15 rfl rfl)
theorem dX0_laysUnlike_108 : decode cX0_laysUnlike 108 = .ok (.getfield 84, 3) := dk_180 0 84 (dk_at dksX0_laysUnlike_4 16 rfl rfl)
theorem dX0_laysUnlike_111 : decode cX0_laysUnlike 111 = .ok (.iload 4, 2) := dk_21 4 (dk_at dksX0_laysUnlike_4 19 rfl rfl)
theorem dX0_laysUnlike_113 : decode cX0_laysUnlike 113 = .ok (.aaload, 1) := dk_50 (dk_at dksX0_laysUnlike_4 21 rfl rfl)
theorem dX0_laysUnlike_114 : decode cX0_laysUnlike 114 = .ok (.lconst 0, 1) := dk_9 (dk_at dksX0_laysUnlike_4 22 rfl rfl)
theorem dX0_laysUnlike_115 : decode cX0_laysUnlike 115 = .ok (.invokestatic 41, 3) := dk_184 0 41 (dk_at dksX0_laysUnlike_5 0 rfl rfl)
theorem dX0_laysUnlike_118 : decode cX0_laysUnlike 118 = .ok (.iinc 4 1, 3) := dk_132 4 1 (dk_at dksX0_laysUnlike_5 3 rfl rfl)
theorem dX0_laysUnlike_121 : decode cX0_laysUnlike 121 = .ok (.goto (-20), 3) := dk_167 255 236 (dk_at dksX0_laysUnlike_5 6 rfl rfl)
theorem dX0_laysUnlike_124 : decode cX0_laysUnlike 124 = .ok (.aload_n 1, 1) := dk_43 (dk_at dksX0_laysUnlike_5 9 rfl rfl)
theorem dX0_laysUnlike_125 : decode cX0_laysUnlike 125 = .ok (.getfield 47, 3) := dk_180 0 47 (dk_at dksX0_laysUnlike_5 10 rfl rfl)
theorem dX0_laysUnlike_128 : decode cX0_laysUnlike 128 = .ok (.iload_n 2, 1) := dk_28 (dk_at dksX0_laysUnlike_5 13 rfl rfl)
theorem dX0_laysUnlike_129 : decode cX0_laysUnlike 129 = .ok (.aaload, 1) := dk_50 (dk_at dksX0_laysUnlike_5 14 rfl rfl)
theorem dX0_laysUnlike_130 : decode cX0_laysUnlike 130 = .ok (.getfield 51, 3) := dk_180 0 51 (dk_at dksX0_laysUnlike_5 15 rfl rfl)
theorem dX0_laysUnlike_133 : decode cX0_laysUnlike 133 = .ok (.istore 4, 2) := dk_54 4 (dk_at dksX0_laysUnlike_5 18 rfl rfl)
theorem dX0_laysUnlike_135 : decode cX0_laysUnlike 135 = .ok (.iload 4, 2) := dk_21 4 (dk_at dksX0_laysUnlike_5 20 rfl rfl)
theorem dX0_laysUnlike_137 : decode cX0_laysUnlike 137 = .ok (.aload_n 1, 1) := dk_43 (dk_at dksX0_laysUnlike_5 22 rfl rfl)
theorem dX0_laysUnlike_138 : decode cX0_laysUnlike 138 = .ok (.getfield 47, 3) := dk_180 0 47 (dk_at dksX0_laysUnlike_6 0 rfl rfl)
theorem dX0_laysUnlike_141 : decode cX0_laysUnlike 141 = .ok (.iload_n 2, 1) := dk_28 (dk_at dksX0_laysUnlike_6 3 rfl rfl)
theorem dX0_laysUnlike_142 : decode cX0_laysUnlike 142 = .ok (.aaload, 1) := dk_50 (dk_at dksX0_laysUnlike_6 4 rfl rfl)
theorem dX0_laysUnlike_143 : decode cX0_laysUnlike 143 = .ok (.getfield 57, 3) := dk_180 0 57 (dk_at dksX0_laysUnlike_6 5 rfl rfl)
theorem dX0_laysUnlike_146 : decode cX0_laysUnlike 146 = .ok (.if_icmp .gt 56, 3) := dk_163 0 56 (dk_at dksX0_laysUnlike_6 8 rfl rfl)
theorem dX0_laysUnlike_149 : decode cX0_laysUnlike 149 = .ok (.iconst 1, 1) := dk_4 (dk_at dksX0_laysUnlike_6 11 rfl rfl)
theorem dX0_laysUnlike_150 : decode cX0_laysUnlike 150 = .ok (.istore 5, 2) := dk_54 5 (dk_at dksX0_laysUnlike_6 12 rfl rfl)
theorem dX0_laysUnlike_152 : decode cX0_laysUnlike 152 = .ok (.iload 5, 2) := dk_21 5 (dk_at dksX0_laysUnlike_6 14 rfl rfl)
theorem dX0_laysUnlike_154 : decode cX0_laysUnlike 154 = .ok (.iload_n 3, 1) := dk_29 (dk_at dksX0_laysUnlike_6 16 rfl rfl)
theorem dX0_laysUnlike_155 : decode cX0_laysUnlike 155 = .ok (.if_icmp .gt 41, 3) := dk_163 0 41 (dk_at dksX0_laysUnlike_6 17 rfl rfl)
theorem dX0_laysUnlike_158 : decode cX0_laysUnlike 158 = .ok (.aload_n 0, 1) := dk_42 (dk_at dksX0_laysUnlike_6 20 rfl rfl)
theorem dX0_laysUnlike_159 : decode cX0_laysUnlike 159 = .ok (.getfield 84, 3) := dk_180 0 84 (dk_at dksX0_laysUnlike_6 21 rfl rfl)
theorem dX0_laysUnlike_162 : decode cX0_laysUnlike 162 = .ok (.iload 5, 2) := dk_21 5 (dk_at dksX0_laysUnlike_7 0 rfl rfl)
theorem dX0_laysUnlike_164 : decode cX0_laysUnlike 164 = .ok (.aaload, 1) := dk_50 (dk_at dksX0_laysUnlike_7 2 rfl rfl)
theorem dX0_laysUnlike_165 : decode cX0_laysUnlike 165 = .ok (.aload_n 0, 1) := dk_42 (dk_at dksX0_laysUnlike_7 3 rfl rfl)
theorem dX0_laysUnlike_166 : decode cX0_laysUnlike 166 = .ok (.getfield 84, 3) := dk_180 0 84 (dk_at dksX0_laysUnlike_7 4 rfl rfl)
theorem dX0_laysUnlike_169 : decode cX0_laysUnlike 169 = .ok (.iload 5, 2) := dk_21 5 (dk_at dksX0_laysUnlike_7 7 rfl rfl)
theorem dX0_laysUnlike_171 : decode cX0_laysUnlike 171 = .ok (.iconst 1, 1) := dk_4 (dk_at dksX0_laysUnlike_7 9 rfl rfl)
theorem dX0_laysUnlike_172 : decode cX0_laysUnlike 172 = .ok (.isub, 1) := dk_100 (dk_at dksX0_laysUnlike_7 10 rfl rfl)
theorem dX0_laysUnlike_173 : decode cX0_laysUnlike 173 = .ok (.aaload, 1) := dk_50 (dk_at dksX0_laysUnlike_7 11 rfl rfl)
theorem dX0_laysUnlike_174 : decode cX0_laysUnlike 174 = .ok (.aload_n 1, 1) := dk_43 (dk_at dksX0_laysUnlike_7 12 rfl rfl)
theorem dX0_laysUnlike_175 : decode cX0_laysUnlike 175 = .ok (.getfield 47, 3) := dk_180 0 47 (dk_at dksX0_laysUnlike_7 13 rfl rfl)
theorem dX0_laysUnlike_178 : decode cX0_laysUnlike 178 = .ok (.iload_n 2, 1) := dk_28 (dk_at dksX0_laysUnlike_7 16 rfl rfl)
theorem dX0_laysUnlike_179 : decode cX0_laysUnlike 179 = .ok (.aaload, 1) := dk_50 (dk_at dksX0_laysUnlike_7 17 rfl rfl)
theorem dX0_laysUnlike_180 : decode cX0_laysUnlike 180 = .ok (.iload 4, 2) := dk_21 4 (dk_at dksX0_laysUnlike_7 18 rfl rfl)
theorem dX0_laysUnlike_182 : decode cX0_laysUnlike 182 = .ok (.i2l, 1) := dk_133 (dk_at dksX0_laysUnlike_7 20 rfl rfl)
theorem dX0_laysUnlike_183 : decode cX0_laysUnlike 183 = .ok (.invokevirtual 60, 3) := dk_182 0 60 (dk_at dksX0_laysUnlike_7 21 rfl rfl)
theorem dX0_laysUnlike_186 : decode cX0_laysUnlike 186 = .ok (.l2i, 1) := dk_136 (dk_at dksX0_laysUnlike_8 0 rfl rfl)
theorem dX0_laysUnlike_187 : decode cX0_laysUnlike 187 = .ok (.invokestatic 64, 3) := dk_184 0 64 (dk_at dksX0_laysUnlike_8 1 rfl rfl)
theorem dX0_laysUnlike_190 : decode cX0_laysUnlike 190 = .ok (.iinc 5 1, 3) := dk_132 5 1 (dk_at dksX0_laysUnlike_8 4 rfl rfl)
theorem dX0_laysUnlike_193 : decode cX0_laysUnlike 193 = .ok (.goto (-41), 3) := dk_167 255 215 (dk_at dksX0_laysUnlike_8 7 rfl rfl)
theorem dX0_laysUnlike_196 : decode cX0_laysUnlike 196 = .ok (.iinc 4 1, 3) := dk_132 4 1 (dk_at dksX0_laysUnlike_8 10 rfl rfl)
theorem dX0_laysUnlike_199 : decode cX0_laysUnlike 199 = .ok (.goto (-64), 3) := dk_167 255 192 (dk_at dksX0_laysUnlike_8 13 rfl rfl)
theorem dX0_laysUnlike_202 : decode cX0_laysUnlike 202 = .ok (.aload_n 0, 1) := dk_42 (dk_at dksX0_laysUnlike_8 16 rfl rfl)
theorem dX0_laysUnlike_203 : decode cX0_laysUnlike 203 = .ok (.getfield 84, 3) := dk_180 0 84 (dk_at dksX0_laysUnlike_8 17 rfl rfl)
theorem dX0_laysUnlike_206 : decode cX0_laysUnlike 206 = .ok (.iload_n 3, 1) := dk_29 (dk_at dksX0_laysUnlike_8 20 rfl rfl)
theorem dX0_laysUnlike_207 : decode cX0_laysUnlike 207 = .ok (.aaload, 1) := dk_50 (dk_at dksX0_laysUnlike_8 21 rfl rfl)
theorem dX0_laysUnlike_208 : decode cX0_laysUnlike 208 = .ok (.iconst 0, 1) := dk_3 (dk_at dksX0_laysUnlike_8 22 rfl rfl)
theorem dX0_laysUnlike_209 : decode cX0_laysUnlike 209 = .ok (.aload_n 0, 1) := dk_42 (dk_at dksX0_laysUnlike_8 23 rfl rfl)
theorem dX0_laysUnlike_210 : decode cX0_laysUnlike 210 = .ok (.getfield 84, 3) := dk_180 0 84 (dk_at dksX0_laysUnlike_9 0 rfl rfl)
theorem dX0_laysUnlike_213 : decode cX0_laysUnlike 213 = .ok (.iconst 0, 1) := dk_3 (dk_at dksX0_laysUnlike_9 3 rfl rfl)
theorem dX0_laysUnlike_214 : decode cX0_laysUnlike 214 = .ok (.aaload, 1) := dk_50 (dk_at dksX0_laysUnlike_9 4 rfl rfl)
theorem dX0_laysUnlike_215 : decode cX0_laysUnlike 215 = .ok (.iconst 0, 1) := dk_3 (dk_at dksX0_laysUnlike_9 5 rfl rfl)
theorem dX0_laysUnlike_216 : decode cX0_laysUnlike 216 = .ok (.sipush 30001, 3) := dk_17 117 49 (dk_at dksX0_laysUnlike_9 6 rfl rfl)
theorem dX0_laysUnlike_219 : decode cX0_laysUnlike 219 = .ok (.invokestatic 91, 3) := dk_184 0 91 (dk_at dksX0_laysUnlike_9 9 rfl rfl)
theorem dX0_laysUnlike_222 : decode cX0_laysUnlike 222 = .ok (.iinc 2 1, 3) := dk_132 2 1 (dk_at dksX0_laysUnlike_9 12 rfl rfl)
theorem dX0_laysUnlike_225 : decode cX0_laysUnlike 225 = .ok (.goto (-197), 3) := dk_167 255 59 (dk_at dksX0_laysUnlike_9 15 rfl rfl)
theorem dX0_laysUnlike_228 : decode cX0_laysUnlike 228 = .ok (.return_, 1) := dk_177 (dk_at dksX0_laysUnlike_9 18 rfl rfl)
abbrev cX0_way : ByteArray := prog_1_method_29_code
def yX0_way : MethodName := ⟨RX0, "way", "(IIJI)I"⟩
def dkwX0_way_7 : List UInt8 := [21, 11, 133, 182, 0, 60, 101, 55, 7, 132, 12, 1, 167, 255, 151, 21, 11, 172]
abbrev dktX0_way_7 : List UInt8 := dkwX0_way_7 ++ []
def dkwX0_way_6 : List UInt8 := [101, 182, 1, 22, 101, 55, 9, 132, 11, 1, 167, 255, 196, 22, 7, 25, 6, 180, 0, 47, 21, 12, 50]
abbrev dktX0_way_6 : List UInt8 := dkwX0_way_6 ++ dktX0_way_7
def dkwX0_way_5 : List UInt8 := [155, 0, 37, 22, 9, 42, 21, 12, 22, 7, 25, 6, 180, 0, 47, 21, 12, 50, 21, 11, 133, 182, 0, 60]
abbrev dktX0_way_5 : List UInt8 := dkwX0_way_5 ++ dktX0_way_6
def dkwX0_way_4 : List UInt8 := [21, 12, 22, 7, 25, 6, 180, 0, 47, 21, 12, 50, 21, 11, 133, 182, 0, 60, 101, 182, 1, 22, 148]
abbrev dktX0_way_4 : List UInt8 := dkwX0_way_4 ++ dktX0_way_5
def dkwX0_way_3 : List UInt8 := [21, 12, 21, 5, 163, 0, 104, 25, 6, 180, 0, 47, 21, 12, 50, 180, 0, 51, 54, 11, 22, 9, 42]
abbrev dktX0_way_3 : List UInt8 := dkwX0_way_3 ++ dktX0_way_4
def dkwX0_way_2 : List UInt8 := [101, 184, 0, 21, 154, 0, 7, 19, 1, 2, 172, 28, 133, 55, 7, 33, 55, 9, 3, 54, 11, 3, 54, 12]
abbrev dktX0_way_2 : List UInt8 := dkwX0_way_2 ++ dktX0_way_3
def dkwX0_way_1 : List UInt8 := [25, 6, 182, 0, 9, 4, 100, 133, 184, 0, 21, 153, 0, 20, 33, 9, 42, 25, 6, 28, 182, 1, 11, 10]
abbrev dktX0_way_1 : List UInt8 := dkwX0_way_1 ++ dktX0_way_2
def dkwX0_way_0 : List UInt8 := [42, 27, 182, 0, 238, 58, 6, 25, 6, 198, 0, 45, 28, 184, 0, 29, 153, 0, 38, 21, 5, 133, 9]
abbrev dktX0_way_0 : List UInt8 := dkwX0_way_0 ++ dktX0_way_1
theorem dksX0_way_0 : cX0_way.data.toList.drop 0 = dktX0_way_0 := by decide +kernel
theorem dksX0_way_1 : cX0_way.data.toList.drop 23 = dktX0_way_1 := dk_seg dksX0_way_0 23 rfl rfl
theorem dksX0_way_2 : cX0_way.data.toList.drop 47 = dktX0_way_2 := dk_seg dksX0_way_1 24 rfl rfl
theorem dksX0_way_3 : cX0_way.data.toList.drop 71 = dktX0_way_3 := dk_seg dksX0_way_2 24 rfl rfl
theorem dksX0_way_4 : cX0_way.data.toList.drop 94 = dktX0_way_4 := dk_seg dksX0_way_3 23 rfl rfl
theorem dksX0_way_5 : cX0_way.data.toList.drop 117 = dktX0_way_5 := dk_seg dksX0_way_4 23 rfl rfl
theorem dksX0_way_6 : cX0_way.data.toList.drop 141 = dktX0_way_6 := dk_seg dksX0_way_5 24 rfl rfl
theorem dksX0_way_7 : cX0_way.data.toList.drop 164 = dktX0_way_7 := dk_seg dksX0_way_6 23 rfl rfl
theorem dX0_way_0 : decode cX0_way 0 = .ok (.aload_n 0, 1) := dk_42 (dk_at dksX0_way_0 0 rfl rfl)
theorem dX0_way_1 : decode cX0_way 1 = .ok (.iload_n 1, 1) := dk_27 (dk_at dksX0_way_0 1 rfl rfl)
theorem dX0_way_2 : decode cX0_way 2 = .ok (.invokevirtual 238, 3) := dk_182 0 238 (dk_at dksX0_way_0 2 rfl rfl)
theorem dX0_way_5 : decode cX0_way 5 = .ok (.astore 6, 2) := dk_58 6 (dk_at dksX0_way_0 5 rfl rfl)
theorem dX0_way_7 : decode cX0_way 7 = .ok (.aload 6, 2) := dk_25 6 (dk_at dksX0_way_0 7 rfl rfl)
theorem dX0_way_9 : decode cX0_way 9 = .ok (.ifnull 45, 3) := dk_198 0 45 (dk_at dksX0_way_0 9 rfl rfl)
theorem dX0_way_12 : decode cX0_way 12 = .ok (.iload_n 2, 1) := dk_28 (dk_at dksX0_way_0 12 rfl rfl)
theorem dX0_way_13 : decode cX0_way 13 = .ok (.invokestatic 29, 3) := dk_184 0 29 (dk_at dksX0_way_0 13 rfl rfl)
theorem dX0_way_16 : decode cX0_way 16 = .ok (.ifCond .eq 38, 3) := dk_153 0 38 (dk_at dksX0_way_0 16 rfl rfl)
theorem dX0_way_19 : decode cX0_way 19 = .ok (.iload 5, 2) := dk_21 5 (dk_at dksX0_way_0 19 rfl rfl)
theorem dX0_way_21 : decode cX0_way 21 = .ok (.i2l, 1) := dk_133 (dk_at dksX0_way_0 21 rfl rfl)
theorem dX0_way_22 : decode cX0_way 22 = .ok (.lconst 0, 1) := dk_9 (dk_at dksX0_way_0 22 rfl rfl)
theorem dX0_way_23 : decode cX0_way 23 = .ok (.aload 6, 2) := dk_25 6 (dk_at dksX0_way_1 0 rfl rfl)
theorem dX0_way_25 : decode cX0_way 25 = .ok (.invokevirtual 9, 3) := dk_182 0 9 (dk_at dksX0_way_1 2 rfl rfl)
theorem dX0_way_28 : decode cX0_way 28 = .ok (.iconst 1, 1) := dk_4 (dk_at dksX0_way_1 5 rfl rfl)
theorem dX0_way_29 : decode cX0_way 29 = .ok (.isub, 1) := dk_100 (dk_at dksX0_way_1 6 rfl rfl)
theorem dX0_way_30 : decode cX0_way 30 = .ok (.i2l, 1) := dk_133 (dk_at dksX0_way_1 7 rfl rfl)
theorem dX0_way_31 : decode cX0_way 31 = .ok (.invokestatic 21, 3) := dk_184 0 21 (dk_at dksX0_way_1 8 rfl rfl)
theorem dX0_way_34 : decode cX0_way 34 = .ok (.ifCond .eq 20, 3) := dk_153 0 20 (dk_at dksX0_way_1 11 rfl rfl)
theorem dX0_way_37 : decode cX0_way 37 = .ok (.lload_n 3, 1) := dk_33 (dk_at dksX0_way_1 14 rfl rfl)
theorem dX0_way_38 : decode cX0_way 38 = .ok (.lconst 0, 1) := dk_9 (dk_at dksX0_way_1 15 rfl rfl)
theorem dX0_way_39 : decode cX0_way 39 = .ok (.aload_n 0, 1) := dk_42 (dk_at dksX0_way_1 16 rfl rfl)
theorem dX0_way_40 : decode cX0_way 40 = .ok (.aload 6, 2) := dk_25 6 (dk_at dksX0_way_1 17 rfl rfl)
theorem dX0_way_42 : decode cX0_way 42 = .ok (.iload_n 2, 1) := dk_28 (dk_at dksX0_way_1 19 rfl rfl)
theorem dX0_way_43 : decode cX0_way 43 = .ok (.invokevirtual 267, 3) := dk_182 1 11 (dk_at dksX0_way_1 20 rfl rfl)
theorem dX0_way_46 : decode cX0_way 46 = .ok (.lconst 1, 1) := dk_10 (dk_at dksX0_way_1 23 rfl rfl)
theorem dX0_way_47 : decode cX0_way 47 = .ok (.lsub, 1) := dk_101 (dk_at dksX0_way_2 0 rfl rfl)
theorem dX0_way_48 : decode cX0_way 48 = .ok (.invokestatic 21, 3) := dk_184 0 21 (dk_at dksX0_way_2 1 rfl rfl)
theorem dX0_way_51 : decode cX0_way 51 = .ok (.ifCond .ne 7, 3) := dk_154 0 7 (dk_at dksX0_way_2 4 rfl rfl)
theorem dX0_way_54 : decode cX0_way 54 = .ok (.ldc_w 258, 3) := dk_19 1 2 (dk_at dksX0_way_2 7 rfl rfl)
theorem dX0_way_57 : decode cX0_way 57 = .ok (.ireturn, 1) := dk_172 (dk_at dksX0_way_2 10 rfl rfl)
theorem dX0_way_58 : decode cX0_way 58 = .ok (.iload_n 2, 1) := dk_28 (dk_at dksX0_way_2 11 rfl rfl)
theorem dX0_way_59 : decode cX0_way 59 = .ok (.i2l, 1) := dk_133 (dk_at dksX0_way_2 12 rfl rfl)
theorem dX0_way_60 : decode cX0_way 60 = .ok (.lstore 7, 2) := dk_55 7 (dk_at dksX0_way_2 13 rfl rfl)
theorem dX0_way_62 : decode cX0_way 62 = .ok (.lload_n 3, 1) := dk_33 (dk_at dksX0_way_2 15 rfl rfl)
theorem dX0_way_63 : decode cX0_way 63 = .ok (.lstore 9, 2) := dk_55 9 (dk_at dksX0_way_2 16 rfl rfl)
theorem dX0_way_65 : decode cX0_way 65 = .ok (.iconst 0, 1) := dk_3 (dk_at dksX0_way_2 18 rfl rfl)
theorem dX0_way_66 : decode cX0_way 66 = .ok (.istore 11, 2) := dk_54 11 (dk_at dksX0_way_2 19 rfl rfl)
theorem dX0_way_68 : decode cX0_way 68 = .ok (.iconst 0, 1) := dk_3 (dk_at dksX0_way_2 21 rfl rfl)
theorem dX0_way_69 : decode cX0_way 69 = .ok (.istore 12, 2) := dk_54 12 (dk_at dksX0_way_2 22 rfl rfl)
theorem dX0_way_71 : decode cX0_way 71 = .ok (.iload 12, 2) := dk_21 12 (dk_at dksX0_way_3 0 rfl rfl)
theorem dX0_way_73 : decode cX0_way 73 = .ok (.iload 5, 2) := dk_21 5 (dk_at dksX0_way_3 2 rfl rfl)
theorem dX0_way_75 : decode cX0_way 75 = .ok (.if_icmp .gt 104, 3) := dk_163 0 104 (dk_at dksX0_way_3 4 rfl rfl)
theorem dX0_way_78 : decode cX0_way 78 = .ok (.aload 6, 2) := dk_25 6 (dk_at dksX0_way_3 7 rfl rfl)
theorem dX0_way_80 : decode cX0_way 80 = .ok (.getfield 47, 3) := dk_180 0 47 (dk_at dksX0_way_3 9 rfl rfl)
theorem dX0_way_83 : decode cX0_way 83 = .ok (.iload 12, 2) := dk_21 12 (dk_at dksX0_way_3 12 rfl rfl)
theorem dX0_way_85 : decode cX0_way 85 = .ok (.aaload, 1) := dk_50 (dk_at dksX0_way_3 14 rfl rfl)
theorem dX0_way_86 : decode cX0_way 86 = .ok (.getfield 51, 3) := dk_180 0 51 (dk_at dksX0_way_3 15 rfl rfl)
theorem dX0_way_89 : decode cX0_way 89 = .ok (.istore 11, 2) := dk_54 11 (dk_at dksX0_way_3 18 rfl rfl)
theorem dX0_way_91 : decode cX0_way 91 = .ok (.lload 9, 2) := dk_22 9 (dk_at dksX0_way_3 20 rfl rfl)
theorem dX0_way_93 : decode cX0_way 93 = .ok (.aload_n 0, 1) := dk_42 (dk_at dksX0_way_3 22 rfl rfl)
theorem dX0_way_94 : decode cX0_way 94 = .ok (.iload 12, 2) := dk_21 12 (dk_at dksX0_way_4 0 rfl rfl)
theorem dX0_way_96 : decode cX0_way 96 = .ok (.lload 7, 2) := dk_22 7 (dk_at dksX0_way_4 2 rfl rfl)
theorem dX0_way_98 : decode cX0_way 98 = .ok (.aload 6, 2) := dk_25 6 (dk_at dksX0_way_4 4 rfl rfl)
theorem dX0_way_100 : decode cX0_way 100 = .ok (.getfield 47, 3) := dk_180 0 47 (dk_at dksX0_way_4 6 rfl rfl)
theorem dX0_way_103 : decode cX0_way 103 = .ok (.iload 12, 2) := dk_21 12 (dk_at dksX0_way_4 9 rfl rfl)
theorem dX0_way_105 : decode cX0_way 105 = .ok (.aaload, 1) := dk_50 (dk_at dksX0_way_4 11 rfl rfl)
theorem dX0_way_106 : decode cX0_way 106 = .ok (.iload 11, 2) := dk_21 11 (dk_at dksX0_way_4 12 rfl rfl)
theorem dX0_way_108 : decode cX0_way 108 = .ok (.i2l, 1) := dk_133 (dk_at dksX0_way_4 14 rfl rfl)
theorem dX0_way_109 : decode cX0_way 109 = .ok (.invokevirtual 60, 3) := dk_182 0 60 (dk_at dksX0_way_4 15 rfl rfl)
theorem dX0_way_112 : decode cX0_way 112 = .ok (.lsub, 1) := dk_101 (dk_at dksX0_way_4 18 rfl rfl)
theorem dX0_way_113 : decode cX0_way 113 = .ok (.invokevirtual 278, 3) := dk_182 1 22 (dk_at dksX0_way_4 19 rfl rfl)
theorem dX0_way_116 : decode cX0_way 116 = .ok (.lcmp, 1) := dk_148 (dk_at dksX0_way_4 22 rfl rfl)
theorem dX0_way_117 : decode cX0_way 117 = .ok (.ifCond .lt 37, 3) := dk_155 0 37 (dk_at dksX0_way_5 0 rfl rfl)
theorem dX0_way_120 : decode cX0_way 120 = .ok (.lload 9, 2) := dk_22 9 (dk_at dksX0_way_5 3 rfl rfl)
theorem dX0_way_122 : decode cX0_way 122 = .ok (.aload_n 0, 1) := dk_42 (dk_at dksX0_way_5 5 rfl rfl)
theorem dX0_way_123 : decode cX0_way 123 = .ok (.iload 12, 2) := dk_21 12 (dk_at dksX0_way_5 6 rfl rfl)
theorem dX0_way_125 : decode cX0_way 125 = .ok (.lload 7, 2) := dk_22 7 (dk_at dksX0_way_5 8 rfl rfl)
theorem dX0_way_127 : decode cX0_way 127 = .ok (.aload 6, 2) := dk_25 6 (dk_at dksX0_way_5 10 rfl rfl)
theorem dX0_way_129 : decode cX0_way 129 = .ok (.getfield 47, 3) := dk_180 0 47 (dk_at dksX0_way_5 12 rfl rfl)
theorem dX0_way_132 : decode cX0_way 132 = .ok (.iload 12, 2) := dk_21 12 (dk_at dksX0_way_5 15 rfl rfl)
theorem dX0_way_134 : decode cX0_way 134 = .ok (.aaload, 1) := dk_50 (dk_at dksX0_way_5 17 rfl rfl)
theorem dX0_way_135 : decode cX0_way 135 = .ok (.iload 11, 2) := dk_21 11 (dk_at dksX0_way_5 18 rfl rfl)
theorem dX0_way_137 : decode cX0_way 137 = .ok (.i2l, 1) := dk_133 (dk_at dksX0_way_5 20 rfl rfl)
theorem dX0_way_138 : decode cX0_way 138 = .ok (.invokevirtual 60, 3) := dk_182 0 60 (dk_at dksX0_way_5 21 rfl rfl)
theorem dX0_way_141 : decode cX0_way 141 = .ok (.lsub, 1) := dk_101 (dk_at dksX0_way_6 0 rfl rfl)
theorem dX0_way_142 : decode cX0_way 142 = .ok (.invokevirtual 278, 3) := dk_182 1 22 (dk_at dksX0_way_6 1 rfl rfl)
theorem dX0_way_145 : decode cX0_way 145 = .ok (.lsub, 1) := dk_101 (dk_at dksX0_way_6 4 rfl rfl)
theorem dX0_way_146 : decode cX0_way 146 = .ok (.lstore 9, 2) := dk_55 9 (dk_at dksX0_way_6 5 rfl rfl)
theorem dX0_way_148 : decode cX0_way 148 = .ok (.iinc 11 1, 3) := dk_132 11 1 (dk_at dksX0_way_6 7 rfl rfl)
theorem dX0_way_151 : decode cX0_way 151 = .ok (.goto (-60), 3) := dk_167 255 196 (dk_at dksX0_way_6 10 rfl rfl)
theorem dX0_way_154 : decode cX0_way 154 = .ok (.lload 7, 2) := dk_22 7 (dk_at dksX0_way_6 13 rfl rfl)
theorem dX0_way_156 : decode cX0_way 156 = .ok (.aload 6, 2) := dk_25 6 (dk_at dksX0_way_6 15 rfl rfl)
theorem dX0_way_158 : decode cX0_way 158 = .ok (.getfield 47, 3) := dk_180 0 47 (dk_at dksX0_way_6 17 rfl rfl)
theorem dX0_way_161 : decode cX0_way 161 = .ok (.iload 12, 2) := dk_21 12 (dk_at dksX0_way_6 20 rfl rfl)
theorem dX0_way_163 : decode cX0_way 163 = .ok (.aaload, 1) := dk_50 (dk_at dksX0_way_6 22 rfl rfl)
theorem dX0_way_164 : decode cX0_way 164 = .ok (.iload 11, 2) := dk_21 11 (dk_at dksX0_way_7 0 rfl rfl)
theorem dX0_way_166 : decode cX0_way 166 = .ok (.i2l, 1) := dk_133 (dk_at dksX0_way_7 2 rfl rfl)
theorem dX0_way_167 : decode cX0_way 167 = .ok (.invokevirtual 60, 3) := dk_182 0 60 (dk_at dksX0_way_7 3 rfl rfl)
theorem dX0_way_170 : decode cX0_way 170 = .ok (.lsub, 1) := dk_101 (dk_at dksX0_way_7 6 rfl rfl)
theorem dX0_way_171 : decode cX0_way 171 = .ok (.lstore 7, 2) := dk_55 7 (dk_at dksX0_way_7 7 rfl rfl)
theorem dX0_way_173 : decode cX0_way 173 = .ok (.iinc 12 1, 3) := dk_132 12 1 (dk_at dksX0_way_7 9 rfl rfl)
theorem dX0_way_176 : decode cX0_way 176 = .ok (.goto (-105), 3) := dk_167 255 151 (dk_at dksX0_way_7 12 rfl rfl)
theorem dX0_way_179 : decode cX0_way 179 = .ok (.iload 11, 2) := dk_21 11 (dk_at dksX0_way_7 15 rfl rfl)
theorem dX0_way_181 : decode cX0_way 181 = .ok (.ireturn, 1) := dk_172 (dk_at dksX0_way_7 17 rfl rfl)
abbrev cX0_rest : ByteArray := prog_1_method_28_code
def yX0_rest : MethodName := ⟨RX0, "rest", "(IJ)J"⟩
def dkwX0_rest_1 : List UInt8 := [17, 58, 152, 96, 47, 167, 0, 4, 9, 173]
abbrev dktX0_rest_1 : List UInt8 := dkwX0_rest_1 ++ []
def dkwX0_rest_0 : List UInt8 := [32, 20, 1, 18, 20, 1, 20, 184, 0, 21, 153, 0, 21, 42, 180, 0, 37, 27, 4, 96, 50, 32, 136]
abbrev dktX0_rest_0 : List UInt8 := dkwX0_rest_0 ++ dktX0_rest_1
theorem dksX0_rest_0 : cX0_rest.data.toList.drop 0 = dktX0_rest_0 := by decide +kernel
theorem dksX0_rest_1 : cX0_rest.data.toList.drop 23 = dktX0_rest_1 := dk_seg dksX0_rest_0 23 rfl rfl
theorem dX0_rest_0 : decode cX0_rest 0 = .ok (.lload_n 2, 1) := dk_32 (dk_at dksX0_rest_0 0 rfl rfl)
theorem dX0_rest_1 : decode cX0_rest 1 = .ok (.ldc2_w 274, 3) := dk_20 1 18 (dk_at dksX0_rest_0 1 rfl rfl)
theorem dX0_rest_4 : decode cX0_rest 4 = .ok (.ldc2_w 276, 3) := dk_20 1 20 (dk_at dksX0_rest_0 4 rfl rfl)
theorem dX0_rest_7 : decode cX0_rest 7 = .ok (.invokestatic 21, 3) := dk_184 0 21 (dk_at dksX0_rest_0 7 rfl rfl)
theorem dX0_rest_10 : decode cX0_rest 10 = .ok (.ifCond .eq 21, 3) := dk_153 0 21 (dk_at dksX0_rest_0 10 rfl rfl)
theorem dX0_rest_13 : decode cX0_rest 13 = .ok (.aload_n 0, 1) := dk_42 (dk_at dksX0_rest_0 13 rfl rfl)
theorem dX0_rest_14 : decode cX0_rest 14 = .ok (.getfield 37, 3) := dk_180 0 37 (dk_at dksX0_rest_0 14 rfl rfl)
theorem dX0_rest_17 : decode cX0_rest 17 = .ok (.iload_n 1, 1) := dk_27 (dk_at dksX0_rest_0 17 rfl rfl)
theorem dX0_rest_18 : decode cX0_rest 18 = .ok (.iconst 1, 1) := dk_4 (dk_at dksX0_rest_0 18 rfl rfl)
theorem dX0_rest_19 : decode cX0_rest 19 = .ok (.iadd, 1) := dk_96 (dk_at dksX0_rest_0 19 rfl rfl)
theorem dX0_rest_20 : decode cX0_rest 20 = .ok (.aaload, 1) := dk_50 (dk_at dksX0_rest_0 20 rfl rfl)
theorem dX0_rest_21 : decode cX0_rest 21 = .ok (.lload_n 2, 1) := dk_32 (dk_at dksX0_rest_0 21 rfl rfl)
theorem dX0_rest_22 : decode cX0_rest 22 = .ok (.l2i, 1) := dk_136 (dk_at dksX0_rest_0 22 rfl rfl)
theorem dX0_rest_23 : decode cX0_rest 23 = .ok (.sipush 15000, 3) := dk_17 58 152 (dk_at dksX0_rest_1 0 rfl rfl)
theorem dX0_rest_26 : decode cX0_rest 26 = .ok (.iadd, 1) := dk_96 (dk_at dksX0_rest_1 3 rfl rfl)
theorem dX0_rest_27 : decode cX0_rest 27 = .ok (.laload, 1) := dk_47 (dk_at dksX0_rest_1 4 rfl rfl)
theorem dX0_rest_28 : decode cX0_rest 28 = .ok (.goto 4, 3) := dk_167 0 4 (dk_at dksX0_rest_1 5 rfl rfl)
theorem dX0_rest_31 : decode cX0_rest 31 = .ok (.lconst 0, 1) := dk_9 (dk_at dksX0_rest_1 8 rfl rfl)
theorem dX0_rest_32 : decode cX0_rest 32 = .ok (.lreturn, 1) := dk_173 (dk_at dksX0_rest_1 9 rfl rfl)
abbrev cX0_number : ByteArray := prog_1_method_30_code
def yX0_number : MethodName := ⟨RX0, "number", "(IIIIIII)J"⟩
def dkwX0_number_9 : List UInt8 := [20, 0, 97, 173]
abbrev dktX0_number_9 : List UInt8 := dkwX0_number_9 ++ []
def dkwX0_number_8 : List UInt8 := [182, 0, 60, 101, 55, 10, 132, 14, 1, 167, 255, 124, 22, 10, 9, 148, 154, 0, 8, 22, 12, 167, 0, 6]
abbrev dktX0_number_8 : List UInt8 := dkwX0_number_8 ++ dktX0_number_9
def dkwX0_number_7 : List UInt8 := [55, 12, 132, 15, 1, 167, 255, 215, 22, 10, 25, 8, 180, 0, 47, 21, 14, 50, 25, 9, 21, 14, 46, 133]
abbrev dktX0_number_7 : List UInt8 := dkwX0_number_7 ++ dktX0_number_8
def dkwX0_number_6 : List UInt8 := [21, 14, 22, 10, 25, 8, 180, 0, 47, 21, 14, 50, 21, 15, 133, 182, 0, 60, 101, 182, 1, 22, 97]
abbrev dktX0_number_6 : List UInt8 := dkwX0_number_6 ++ dktX0_number_7
def dkwX0_number_5 : List UInt8 := [180, 0, 47, 21, 14, 50, 180, 0, 51, 54, 15, 21, 15, 25, 9, 21, 14, 46, 162, 0, 37, 22, 12, 42]
abbrev dktX0_number_5 : List UInt8 := dkwX0_number_5 ++ dktX0_number_6
def dkwX0_number_4 : List UInt8 := [25, 8, 180, 0, 47, 21, 14, 50, 180, 0, 57, 133, 184, 0, 21, 154, 0, 7, 20, 0, 97, 173, 25, 8]
abbrev dktX0_number_4 : List UInt8 := dkwX0_number_4 ++ dktX0_number_5
def dkwX0_number_3 : List UInt8 := [182, 0, 9, 162, 0, 128, 25, 9, 21, 14, 46, 133, 25, 8, 180, 0, 47, 21, 14, 50, 180, 0, 51, 133]
abbrev dktX0_number_3 : List UInt8 := dkwX0_number_3 ++ dktX0_number_4
def dkwX0_number_2 : List UInt8 := [21, 6, 79, 89, 7, 21, 7, 79, 58, 9, 28, 133, 55, 10, 9, 55, 12, 3, 54, 14, 21, 14, 25, 8]
abbrev dktX0_number_2 : List UInt8 := dkwX0_number_2 ++ dktX0_number_3
def dkwX0_number_1 : List UInt8 := [25, 8, 182, 0, 74, 8, 188, 10, 89, 3, 29, 79, 89, 4, 21, 4, 79, 89, 5, 21, 5, 79, 89, 6]
abbrev dktX0_number_1 : List UInt8 := dkwX0_number_1 ++ dktX0_number_2
def dkwX0_number_0 : List UInt8 := [42, 27, 182, 0, 238, 58, 8, 25, 8, 198, 0, 10, 28, 184, 0, 29, 154, 0, 7, 20, 0, 97, 173, 42]
abbrev dktX0_number_0 : List UInt8 := dkwX0_number_0 ++ dktX0_number_1
theorem dksX0_number_0 : cX0_number.data.toList.drop 0 = dktX0_number_0 := by decide +kernel
theorem dksX0_number_1 : cX0_number.data.toList.drop 24 = dktX0_number_1 := dk_seg dksX0_number_0 24 rfl rfl
theorem dksX0_number_2 : cX0_number.data.toList.drop 48 = dktX0_number_2 := dk_seg dksX0_number_1 24 rfl rfl
theorem dksX0_number_3 : cX0_number.data.toList.drop 72 = dktX0_number_3 := dk_seg dksX0_number_2 24 rfl rfl
theorem dksX0_number_4 : cX0_number.data.toList.drop 96 = dktX0_number_4 := dk_seg dksX0_number_3 24 rfl rfl
theorem dksX0_number_5 : cX0_number.data.toList.drop 120 = dktX0_number_5 := dk_seg dksX0_number_4 24 rfl rfl
theorem dksX0_number_6 : cX0_number.data.toList.drop 144 = dktX0_number_6 := dk_seg dksX0_number_5 24 rfl rfl
theorem dksX0_number_7 : cX0_number.data.toList.drop 167 = dktX0_number_7 := dk_seg dksX0_number_6 23 rfl rfl
theorem dksX0_number_8 : cX0_number.data.toList.drop 191 = dktX0_number_8 := dk_seg dksX0_number_7 24 rfl rfl
theorem dksX0_number_9 : cX0_number.data.toList.drop 215 = dktX0_number_9 := dk_seg dksX0_number_8 24 rfl rfl
theorem dX0_number_0 : decode cX0_number 0 = .ok (.aload_n 0, 1) := dk_42 (dk_at dksX0_number_0 0 rfl rfl)
theorem dX0_number_1 : decode cX0_number 1 = .ok (.iload_n 1, 1) := dk_27 (dk_at dksX0_number_0 1 rfl rfl)
theorem dX0_number_2 : decode cX0_number 2 = .ok (.invokevirtual 238, 3) := dk_182 0 238 (dk_at dksX0_number_0 2 rfl rfl)
theorem dX0_number_5 : decode cX0_number 5 = .ok (.astore 8, 2) := dk_58 8 (dk_at dksX0_number_0 5 rfl rfl)
theorem dX0_number_7 : decode cX0_number 7 = .ok (.aload 8, 2) := dk_25 8 (dk_at dksX0_number_0 7 rfl rfl)
theorem dX0_number_9 : decode cX0_number 9 = .ok (.ifnull 10, 3) := dk_198 0 10 (dk_at dksX0_number_0 9 rfl rfl)
theorem dX0_number_12 : decode cX0_number 12 = .ok (.iload_n 2, 1) := dk_28 (dk_at dksX0_number_0 12 rfl rfl)
theorem dX0_number_13 : decode cX0_number 13 = .ok (.invokestatic 29, 3) := dk_184 0 29 (dk_at dksX0_number_0 13 rfl rfl)
theorem dX0_number_16 : decode cX0_number 16 = .ok (.ifCond .ne 7, 3) := dk_154 0 7 (dk_at dksX0_number_0 16 rfl rfl)
theorem dX0_number_19 : decode cX0_number 19 = .ok (.ldc2_w 97, 3) := dk_20 0 97 (dk_at dksX0_number_0 19 rfl rfl)
theorem dX0_number_22 : decode cX0_number 22 = .ok (.lreturn, 1) := dk_173 (dk_at dksX0_number_0 22 rfl rfl)
theorem dX0_number_23 : decode cX0_number 23 = .ok (.aload_n 0, 1) := dk_42 (dk_at dksX0_number_0 23 rfl rfl)
theorem dX0_number_24 : decode cX0_number 24 = .ok (.aload 8, 2) := dk_25 8 (dk_at dksX0_number_1 0 rfl rfl)
theorem dX0_number_26 : decode cX0_number 26 = .ok (.invokevirtual 74, 3) := dk_182 0 74 (dk_at dksX0_number_1 2 rfl rfl)
theorem dX0_number_29 : decode cX0_number 29 = .ok (.iconst 5, 1) := dk_8 (dk_at dksX0_number_1 5 rfl rfl)
theorem dX0_number_30 : decode cX0_number 30 = .ok (.newarray .int, 2) := dk_188_10 (dk_at dksX0_number_1 6 rfl rfl)
theorem dX0_number_32 : decode cX0_number 32 = .ok (.dup, 1) := dk_89 (dk_at dksX0_number_1 8 rfl rfl)
theorem dX0_number_33 : decode cX0_number 33 = .ok (.iconst 0, 1) := dk_3 (dk_at dksX0_number_1 9 rfl rfl)
theorem dX0_number_34 : decode cX0_number 34 = .ok (.iload_n 3, 1) := dk_29 (dk_at dksX0_number_1 10 rfl rfl)
theorem dX0_number_35 : decode cX0_number 35 = .ok (.iastore, 1) := dk_79 (dk_at dksX0_number_1 11 rfl rfl)
theorem dX0_number_36 : decode cX0_number 36 = .ok (.dup, 1) := dk_89 (dk_at dksX0_number_1 12 rfl rfl)
theorem dX0_number_37 : decode cX0_number 37 = .ok (.iconst 1, 1) := dk_4 (dk_at dksX0_number_1 13 rfl rfl)
theorem dX0_number_38 : decode cX0_number 38 = .ok (.iload 4, 2) := dk_21 4 (dk_at dksX0_number_1 14 rfl rfl)
theorem dX0_number_40 : decode cX0_number 40 = .ok (.iastore, 1) := dk_79 (dk_at dksX0_number_1 16 rfl rfl)
theorem dX0_number_41 : decode cX0_number 41 = .ok (.dup, 1) := dk_89 (dk_at dksX0_number_1 17 rfl rfl)
theorem dX0_number_42 : decode cX0_number 42 = .ok (.iconst 2, 1) := dk_5 (dk_at dksX0_number_1 18 rfl rfl)
theorem dX0_number_43 : decode cX0_number 43 = .ok (.iload 5, 2) := dk_21 5 (dk_at dksX0_number_1 19 rfl rfl)
theorem dX0_number_45 : decode cX0_number 45 = .ok (.iastore, 1) := dk_79 (dk_at dksX0_number_1 21 rfl rfl)
theorem dX0_number_46 : decode cX0_number 46 = .ok (.dup, 1) := dk_89 (dk_at dksX0_number_1 22 rfl rfl)
theorem dX0_number_47 : decode cX0_number 47 = .ok (.iconst 3, 1) := dk_6 (dk_at dksX0_number_1 23 rfl rfl)
theorem dX0_number_48 : decode cX0_number 48 = .ok (.iload 6, 2) := dk_21 6 (dk_at dksX0_number_2 0 rfl rfl)
theorem dX0_number_50 : decode cX0_number 50 = .ok (.iastore, 1) := dk_79 (dk_at dksX0_number_2 2 rfl rfl)
theorem dX0_number_51 : decode cX0_number 51 = .ok (.dup, 1) := dk_89 (dk_at dksX0_number_2 3 rfl rfl)
theorem dX0_number_52 : decode cX0_number 52 = .ok (.iconst 4, 1) := dk_7 (dk_at dksX0_number_2 4 rfl rfl)
theorem dX0_number_53 : decode cX0_number 53 = .ok (.iload 7, 2) := dk_21 7 (dk_at dksX0_number_2 5 rfl rfl)
theorem dX0_number_55 : decode cX0_number 55 = .ok (.iastore, 1) := dk_79 (dk_at dksX0_number_2 7 rfl rfl)
theorem dX0_number_56 : decode cX0_number 56 = .ok (.astore 9, 2) := dk_58 9 (dk_at dksX0_number_2 8 rfl rfl)
theorem dX0_number_58 : decode cX0_number 58 = .ok (.iload_n 2, 1) := dk_28 (dk_at dksX0_number_2 10 rfl rfl)
theorem dX0_number_59 : decode cX0_number 59 = .ok (.i2l, 1) := dk_133 (dk_at dksX0_number_2 11 rfl rfl)
theorem dX0_number_60 : decode cX0_number 60 = .ok (.lstore 10, 2) := dk_55 10 (dk_at dksX0_number_2 12 rfl rfl)
theorem dX0_number_62 : decode cX0_number 62 = .ok (.lconst 0, 1) := dk_9 (dk_at dksX0_number_2 14 rfl rfl)
theorem dX0_number_63 : decode cX0_number 63 = .ok (.lstore 12, 2) := dk_55 12 (dk_at dksX0_number_2 15 rfl rfl)
theorem dX0_number_65 : decode cX0_number 65 = .ok (.iconst 0, 1) := dk_3 (dk_at dksX0_number_2 17 rfl rfl)
theorem dX0_number_66 : decode cX0_number 66 = .ok (.istore 14, 2) := dk_54 14 (dk_at dksX0_number_2 18 rfl rfl)
theorem dX0_number_68 : decode cX0_number 68 = .ok (.iload 14, 2) := dk_21 14 (dk_at dksX0_number_2 20 rfl rfl)
theorem dX0_number_70 : decode cX0_number 70 = .ok (.aload 8, 2) := dk_25 8 (dk_at dksX0_number_2 22 rfl rfl)
theorem dX0_number_72 : decode cX0_number 72 = .ok (.invokevirtual 9, 3) := dk_182 0 9 (dk_at dksX0_number_3 0 rfl rfl)
theorem dX0_number_75 : decode cX0_number 75 = .ok (.if_icmp .ge 128, 3) := dk_162 0 128 (dk_at dksX0_number_3 3 rfl rfl)
theorem dX0_number_78 : decode cX0_number 78 = .ok (.aload 9, 2) := dk_25 9 (dk_at dksX0_number_3 6 rfl rfl)
theorem dX0_number_80 : decode cX0_number 80 = .ok (.iload 14, 2) := dk_21 14 (dk_at dksX0_number_3 8 rfl rfl)
theorem dX0_number_82 : decode cX0_number 82 = .ok (.iaload, 1) := dk_46 (dk_at dksX0_number_3 10 rfl rfl)
theorem dX0_number_83 : decode cX0_number 83 = .ok (.i2l, 1) := dk_133 (dk_at dksX0_number_3 11 rfl rfl)
theorem dX0_number_84 : decode cX0_number 84 = .ok (.aload 8, 2) := dk_25 8 (dk_at dksX0_number_3 12 rfl rfl)
theorem dX0_number_86 : decode cX0_number 86 = .ok (.getfield 47, 3) := dk_180 0 47 (dk_at dksX0_number_3 14 rfl rfl)
theorem dX0_number_89 : decode cX0_number 89 = .ok (.iload 14, 2) := dk_21 14 (dk_at dksX0_number_3 17 rfl rfl)
theorem dX0_number_91 : decode cX0_number 91 = .ok (.aaload, 1) := dk_50 (dk_at dksX0_number_3 19 rfl rfl)
theorem dX0_number_92 : decode cX0_number 92 = .ok (.getfield 51, 3) := dk_180 0 51 (dk_at dksX0_number_3 20 rfl rfl)
theorem dX0_number_95 : decode cX0_number 95 = .ok (.i2l, 1) := dk_133 (dk_at dksX0_number_3 23 rfl rfl)
theorem dX0_number_96 : decode cX0_number 96 = .ok (.aload 8, 2) := dk_25 8 (dk_at dksX0_number_4 0 rfl rfl)
theorem dX0_number_98 : decode cX0_number 98 = .ok (.getfield 47, 3) := dk_180 0 47 (dk_at dksX0_number_4 2 rfl rfl)
theorem dX0_number_101 : decode cX0_number 101 = .ok (.iload 14, 2) := dk_21 14 (dk_at dksX0_number_4 5 rfl rfl)
theorem dX0_number_103 : decode cX0_number 103 = .ok (.aaload, 1) := dk_50 (dk_at dksX0_number_4 7 rfl rfl)
theorem dX0_number_104 : decode cX0_number 104 = .ok (.getfield 57, 3) := dk_180 0 57 (dk_at dksX0_number_4 8 rfl rfl)
theorem dX0_number_107 : decode cX0_number 107 = .ok (.i2l, 1) := dk_133 (dk_at dksX0_number_4 11 rfl rfl)
theorem dX0_number_108 : decode cX0_number 108 = .ok (.invokestatic 21, 3) := dk_184 0 21 (dk_at dksX0_number_4 12 rfl rfl)
theorem dX0_number_111 : decode cX0_number 111 = .ok (.ifCond .ne 7, 3) := dk_154 0 7 (dk_at dksX0_number_4 15 rfl rfl)
theorem dX0_number_114 : decode cX0_number 114 = .ok (.ldc2_w 97, 3) := dk_20 0 97 (dk_at dksX0_number_4 18 rfl rfl)
theorem dX0_number_117 : decode cX0_number 117 = .ok (.lreturn, 1) := dk_173 (dk_at dksX0_number_4 21 rfl rfl)
theorem dX0_number_118 : decode cX0_number 118 = .ok (.aload 8, 2) := dk_25 8 (dk_at dksX0_number_4 22 rfl rfl)
theorem dX0_number_120 : decode cX0_number 120 = .ok (.getfield 47, 3) := dk_180 0 47 (dk_at dksX0_number_5 0 rfl rfl)
theorem dX0_number_123 : decode cX0_number 123 = .ok (.iload 14, 2) := dk_21 14 (dk_at dksX0_number_5 3 rfl rfl)
theorem dX0_number_125 : decode cX0_number 125 = .ok (.aaload, 1) := dk_50 (dk_at dksX0_number_5 5 rfl rfl)
theorem dX0_number_126 : decode cX0_number 126 = .ok (.getfield 51, 3) := dk_180 0 51 (dk_at dksX0_number_5 6 rfl rfl)
theorem dX0_number_129 : decode cX0_number 129 = .ok (.istore 15, 2) := dk_54 15 (dk_at dksX0_number_5 9 rfl rfl)
theorem dX0_number_131 : decode cX0_number 131 = .ok (.iload 15, 2) := dk_21 15 (dk_at dksX0_number_5 11 rfl rfl)
theorem dX0_number_133 : decode cX0_number 133 = .ok (.aload 9, 2) := dk_25 9 (dk_at dksX0_number_5 13 rfl rfl)
theorem dX0_number_135 : decode cX0_number 135 = .ok (.iload 14, 2) := dk_21 14 (dk_at dksX0_number_5 15 rfl rfl)
theorem dX0_number_137 : decode cX0_number 137 = .ok (.iaload, 1) := dk_46 (dk_at dksX0_number_5 17 rfl rfl)
theorem dX0_number_138 : decode cX0_number 138 = .ok (.if_icmp .ge 37, 3) := dk_162 0 37 (dk_at dksX0_number_5 18 rfl rfl)
theorem dX0_number_141 : decode cX0_number 141 = .ok (.lload 12, 2) := dk_22 12 (dk_at dksX0_number_5 21 rfl rfl)
theorem dX0_number_143 : decode cX0_number 143 = .ok (.aload_n 0, 1) := dk_42 (dk_at dksX0_number_5 23 rfl rfl)
theorem dX0_number_144 : decode cX0_number 144 = .ok (.iload 14, 2) := dk_21 14 (dk_at dksX0_number_6 0 rfl rfl)
theorem dX0_number_146 : decode cX0_number 146 = .ok (.lload 10, 2) := dk_22 10 (dk_at dksX0_number_6 2 rfl rfl)
theorem dX0_number_148 : decode cX0_number 148 = .ok (.aload 8, 2) := dk_25 8 (dk_at dksX0_number_6 4 rfl rfl)
theorem dX0_number_150 : decode cX0_number 150 = .ok (.getfield 47, 3) := dk_180 0 47 (dk_at dksX0_number_6 6 rfl rfl)
theorem dX0_number_153 : decode cX0_number 153 = .ok (.iload 14, 2) := dk_21 14 (dk_at dksX0_number_6 9 rfl rfl)
theorem dX0_number_155 : decode cX0_number 155 = .ok (.aaload, 1) := dk_50 (dk_at dksX0_number_6 11 rfl rfl)
theorem dX0_number_156 : decode cX0_number 156 = .ok (.iload 15, 2) := dk_21 15 (dk_at dksX0_number_6 12 rfl rfl)
theorem dX0_number_158 : decode cX0_number 158 = .ok (.i2l, 1) := dk_133 (dk_at dksX0_number_6 14 rfl rfl)
theorem dX0_number_159 : decode cX0_number 159 = .ok (.invokevirtual 60, 3) := dk_182 0 60 (dk_at dksX0_number_6 15 rfl rfl)
theorem dX0_number_162 : decode cX0_number 162 = .ok (.lsub, 1) := dk_101 (dk_at dksX0_number_6 18 rfl rfl)
theorem dX0_number_163 : decode cX0_number 163 = .ok (.invokevirtual 278, 3) := dk_182 1 22 (dk_at dksX0_number_6 19 rfl rfl)
theorem dX0_number_166 : decode cX0_number 166 = .ok (.ladd, 1) := dk_97 (dk_at dksX0_number_6 22 rfl rfl)
theorem dX0_number_167 : decode cX0_number 167 = .ok (.lstore 12, 2) := dk_55 12 (dk_at dksX0_number_7 0 rfl rfl)
theorem dX0_number_169 : decode cX0_number 169 = .ok (.iinc 15 1, 3) := dk_132 15 1 (dk_at dksX0_number_7 2 rfl rfl)
theorem dX0_number_172 : decode cX0_number 172 = .ok (.goto (-41), 3) := dk_167 255 215 (dk_at dksX0_number_7 5 rfl rfl)
theorem dX0_number_175 : decode cX0_number 175 = .ok (.lload 10, 2) := dk_22 10 (dk_at dksX0_number_7 8 rfl rfl)
theorem dX0_number_177 : decode cX0_number 177 = .ok (.aload 8, 2) := dk_25 8 (dk_at dksX0_number_7 10 rfl rfl)
theorem dX0_number_179 : decode cX0_number 179 = .ok (.getfield 47, 3) := dk_180 0 47 (dk_at dksX0_number_7 12 rfl rfl)
theorem dX0_number_182 : decode cX0_number 182 = .ok (.iload 14, 2) := dk_21 14 (dk_at dksX0_number_7 15 rfl rfl)
theorem dX0_number_184 : decode cX0_number 184 = .ok (.aaload, 1) := dk_50 (dk_at dksX0_number_7 17 rfl rfl)
theorem dX0_number_185 : decode cX0_number 185 = .ok (.aload 9, 2) := dk_25 9 (dk_at dksX0_number_7 18 rfl rfl)
theorem dX0_number_187 : decode cX0_number 187 = .ok (.iload 14, 2) := dk_21 14 (dk_at dksX0_number_7 20 rfl rfl)
theorem dX0_number_189 : decode cX0_number 189 = .ok (.iaload, 1) := dk_46 (dk_at dksX0_number_7 22 rfl rfl)
theorem dX0_number_190 : decode cX0_number 190 = .ok (.i2l, 1) := dk_133 (dk_at dksX0_number_7 23 rfl rfl)
theorem dX0_number_191 : decode cX0_number 191 = .ok (.invokevirtual 60, 3) := dk_182 0 60 (dk_at dksX0_number_8 0 rfl rfl)
theorem dX0_number_194 : decode cX0_number 194 = .ok (.lsub, 1) := dk_101 (dk_at dksX0_number_8 3 rfl rfl)
theorem dX0_number_195 : decode cX0_number 195 = .ok (.lstore 10, 2) := dk_55 10 (dk_at dksX0_number_8 4 rfl rfl)
theorem dX0_number_197 : decode cX0_number 197 = .ok (.iinc 14 1, 3) := dk_132 14 1 (dk_at dksX0_number_8 6 rfl rfl)
theorem dX0_number_200 : decode cX0_number 200 = .ok (.goto (-132), 3) := dk_167 255 124 (dk_at dksX0_number_8 9 rfl rfl)
theorem dX0_number_203 : decode cX0_number 203 = .ok (.lload 10, 2) := dk_22 10 (dk_at dksX0_number_8 12 rfl rfl)
theorem dX0_number_205 : decode cX0_number 205 = .ok (.lconst 0, 1) := dk_9 (dk_at dksX0_number_8 14 rfl rfl)
theorem dX0_number_206 : decode cX0_number 206 = .ok (.lcmp, 1) := dk_148 (dk_at dksX0_number_8 15 rfl rfl)
theorem dX0_number_207 : decode cX0_number 207 = .ok (.ifCond .ne 8, 3) := dk_154 0 8 (dk_at dksX0_number_8 16 rfl rfl)
theorem dX0_number_210 : decode cX0_number 210 = .ok (.lload 12, 2) := dk_22 12 (dk_at dksX0_number_8 19 rfl rfl)
theorem dX0_number_212 : decode cX0_number 212 = .ok (.goto 6, 3) := dk_167 0 6 (dk_at dksX0_number_8 21 rfl rfl)
theorem dX0_number_215 : decode cX0_number 215 = .ok (.ldc2_w 97, 3) := dk_20 0 97 (dk_at dksX0_number_9 0 rfl rfl)
theorem dX0_number_218 : decode cX0_number 218 = .ok (.lreturn, 1) := dk_173 (dk_at dksX0_number_9 3 rfl rfl)
abbrev cX0_missed : ByteArray := prog_1_method_31_code
def yX0_missed : MethodName := ⟨RX0, "missed", "(IIII)I"⟩
def dkwX0_missed_3 : List UInt8 := [167, 255, 218, 21, 4, 2, 160, 0, 8, 21, 6, 167, 0, 6, 19, 1, 2, 172]
abbrev dktX0_missed_3 : List UInt8 := dkwX0_missed_3 ++ []
def dkwX0_missed_2 : List UInt8 := [158, 0, 6, 167, 0, 16, 21, 6, 21, 4, 160, 0, 6, 21, 7, 172, 132, 6, 1, 132, 7, 1]
abbrev dktX0_missed_2 : List UInt8 := dkwX0_missed_2 ++ dktX0_missed_3
def dkwX0_missed_1 : List UInt8 := [3, 54, 6, 28, 54, 7, 21, 7, 29, 163, 0, 38, 42, 25, 5, 21, 7, 182, 1, 11, 9, 148]
abbrev dktX0_missed_1 : List UInt8 := dkwX0_missed_1 ++ dktX0_missed_2
def dkwX0_missed_0 : List UInt8 := [42, 27, 182, 0, 238, 58, 5, 25, 5, 198, 0, 11, 28, 29, 184, 1, 26, 154, 0, 7, 19, 1, 2, 172]
abbrev dktX0_missed_0 : List UInt8 := dkwX0_missed_0 ++ dktX0_missed_1
theorem dksX0_missed_0 : cX0_missed.data.toList.drop 0 = dktX0_missed_0 := by decide +kernel
theorem dksX0_missed_1 : cX0_missed.data.toList.drop 24 = dktX0_missed_1 := dk_seg dksX0_missed_0 24 rfl rfl
theorem dksX0_missed_2 : cX0_missed.data.toList.drop 46 = dktX0_missed_2 := dk_seg dksX0_missed_1 22 rfl rfl
theorem dksX0_missed_3 : cX0_missed.data.toList.drop 68 = dktX0_missed_3 := dk_seg dksX0_missed_2 22 rfl rfl
theorem dX0_missed_0 : decode cX0_missed 0 = .ok (.aload_n 0, 1) := dk_42 (dk_at dksX0_missed_0 0 rfl rfl)
theorem dX0_missed_1 : decode cX0_missed 1 = .ok (.iload_n 1, 1) := dk_27 (dk_at dksX0_missed_0 1 rfl rfl)
theorem dX0_missed_2 : decode cX0_missed 2 = .ok (.invokevirtual 238, 3) := dk_182 0 238 (dk_at dksX0_missed_0 2 rfl rfl)
theorem dX0_missed_5 : decode cX0_missed 5 = .ok (.astore 5, 2) := dk_58 5 (dk_at dksX0_missed_0 5 rfl rfl)
theorem dX0_missed_7 : decode cX0_missed 7 = .ok (.aload 5, 2) := dk_25 5 (dk_at dksX0_missed_0 7 rfl rfl)
theorem dX0_missed_9 : decode cX0_missed 9 = .ok (.ifnull 11, 3) := dk_198 0 11 (dk_at dksX0_missed_0 9 rfl rfl)
theorem dX0_missed_12 : decode cX0_missed 12 = .ok (.iload_n 2, 1) := dk_28 (dk_at dksX0_missed_0 12 rfl rfl)
theorem dX0_missed_13 : decode cX0_missed 13 = .ok (.iload_n 3, 1) := dk_29 (dk_at dksX0_missed_0 13 rfl rfl)
theorem dX0_missed_14 : decode cX0_missed 14 = .ok (.invokestatic 282, 3) := dk_184 1 26 (dk_at dksX0_missed_0 14 rfl rfl)
theorem dX0_missed_17 : decode cX0_missed 17 = .ok (.ifCond .ne 7, 3) := dk_154 0 7 (dk_at dksX0_missed_0 17 rfl rfl)
theorem dX0_missed_20 : decode cX0_missed 20 = .ok (.ldc_w 258, 3) := dk_19 1 2 (dk_at dksX0_missed_0 20 rfl rfl)
theorem dX0_missed_23 : decode cX0_missed 23 = .ok (.ireturn, 1) := dk_172 (dk_at dksX0_missed_0 23 rfl rfl)
theorem dX0_missed_24 : decode cX0_missed 24 = .ok (.iconst 0, 1) := dk_3 (dk_at dksX0_missed_1 0 rfl rfl)
theorem dX0_missed_25 : decode cX0_missed 25 = .ok (.istore 6, 2) := dk_54 6 (dk_at dksX0_missed_1 1 rfl rfl)
theorem dX0_missed_27 : decode cX0_missed 27 = .ok (.iload_n 2, 1) := dk_28 (dk_at dksX0_missed_1 3 rfl rfl)
theorem dX0_missed_28 : decode cX0_missed 28 = .ok (.istore 7, 2) := dk_54 7 (dk_at dksX0_missed_1 4 rfl rfl)
theorem dX0_missed_30 : decode cX0_missed 30 = .ok (.iload 7, 2) := dk_21 7 (dk_at dksX0_missed_1 6 rfl rfl)
theorem dX0_missed_32 : decode cX0_missed 32 = .ok (.iload_n 3, 1) := dk_29 (dk_at dksX0_missed_1 8 rfl rfl)
theorem dX0_missed_33 : decode cX0_missed 33 = .ok (.if_icmp .gt 38, 3) := dk_163 0 38 (dk_at dksX0_missed_1 9 rfl rfl)
theorem dX0_missed_36 : decode cX0_missed 36 = .ok (.aload_n 0, 1) := dk_42 (dk_at dksX0_missed_1 12 rfl rfl)
theorem dX0_missed_37 : decode cX0_missed 37 = .ok (.aload 5, 2) := dk_25 5 (dk_at dksX0_missed_1 13 rfl rfl)
theorem dX0_missed_39 : decode cX0_missed 39 = .ok (.iload 7, 2) := dk_21 7 (dk_at dksX0_missed_1 15 rfl rfl)
theorem dX0_missed_41 : decode cX0_missed 41 = .ok (.invokevirtual 267, 3) := dk_182 1 11 (dk_at dksX0_missed_1 17 rfl rfl)
theorem dX0_missed_44 : decode cX0_missed 44 = .ok (.lconst 0, 1) := dk_9 (dk_at dksX0_missed_1 20 rfl rfl)
theorem dX0_missed_45 : decode cX0_missed 45 = .ok (.lcmp, 1) := dk_148 (dk_at dksX0_missed_1 21 rfl rfl)
theorem dX0_missed_46 : decode cX0_missed 46 = .ok (.ifCond .le 6, 3) := dk_158 0 6 (dk_at dksX0_missed_2 0 rfl rfl)
theorem dX0_missed_49 : decode cX0_missed 49 = .ok (.goto 16, 3) := dk_167 0 16 (dk_at dksX0_missed_2 3 rfl rfl)
theorem dX0_missed_52 : decode cX0_missed 52 = .ok (.iload 6, 2) := dk_21 6 (dk_at dksX0_missed_2 6 rfl rfl)
theorem dX0_missed_54 : decode cX0_missed 54 = .ok (.iload 4, 2) := dk_21 4 (dk_at dksX0_missed_2 8 rfl rfl)
theorem dX0_missed_56 : decode cX0_missed 56 = .ok (.if_icmp .ne 6, 3) := dk_160 0 6 (dk_at dksX0_missed_2 10 rfl rfl)
theorem dX0_missed_59 : decode cX0_missed 59 = .ok (.iload 7, 2) := dk_21 7 (dk_at dksX0_missed_2 13 rfl rfl)
theorem dX0_missed_61 : decode cX0_missed 61 = .ok (.ireturn, 1) := dk_172 (dk_at dksX0_missed_2 15 rfl rfl)
theorem dX0_missed_62 : decode cX0_missed 62 = .ok (.iinc 6 1, 3) := dk_132 6 1 (dk_at dksX0_missed_2 16 rfl rfl)
theorem dX0_missed_65 : decode cX0_missed 65 = .ok (.iinc 7 1, 3) := dk_132 7 1 (dk_at dksX0_missed_2 19 rfl rfl)
theorem dX0_missed_68 : decode cX0_missed 68 = .ok (.goto (-38), 3) := dk_167 255 218 (dk_at dksX0_missed_3 0 rfl rfl)
theorem dX0_missed_71 : decode cX0_missed 71 = .ok (.iload 4, 2) := dk_21 4 (dk_at dksX0_missed_3 3 rfl rfl)
theorem dX0_missed_73 : decode cX0_missed 73 = .ok (.iconst (-1), 1) := dk_2 (dk_at dksX0_missed_3 5 rfl rfl)
theorem dX0_missed_74 : decode cX0_missed 74 = .ok (.if_icmp .ne 8, 3) := dk_160 0 8 (dk_at dksX0_missed_3 6 rfl rfl)
theorem dX0_missed_77 : decode cX0_missed 77 = .ok (.iload 6, 2) := dk_21 6 (dk_at dksX0_missed_3 9 rfl rfl)
theorem dX0_missed_79 : decode cX0_missed 79 = .ok (.goto 6, 3) := dk_167 0 6 (dk_at dksX0_missed_3 11 rfl rfl)
theorem dX0_missed_82 : decode cX0_missed 82 = .ok (.ldc_w 258, 3) := dk_19 1 2 (dk_at dksX0_missed_3 14 rfl rfl)
theorem dX0_missed_85 : decode cX0_missed 85 = .ok (.ireturn, 1) := dk_172 (dk_at dksX0_missed_3 17 rfl rfl)
abbrev cX0_isSpan : ByteArray := prog_1_method_5_code
def yX0_isSpan : MethodName := ⟨RX0, "isSpan", "(II)Z"⟩
def dkwX0_isSpan_1 : List UInt8 := [172]
abbrev dktX0_isSpan_1 : List UInt8 := dkwX0_isSpan_1 ++ []
def dkwX0_isSpan_0 : List UInt8 := [26, 184, 0, 29, 153, 0, 19, 27, 184, 0, 29, 153, 0, 12, 26, 27, 163, 0, 7, 4, 167, 0, 4, 3]
abbrev dktX0_isSpan_0 : List UInt8 := dkwX0_isSpan_0 ++ dktX0_isSpan_1
theorem dksX0_isSpan_0 : cX0_isSpan.data.toList.drop 0 = dktX0_isSpan_0 := by decide +kernel
theorem dksX0_isSpan_1 : cX0_isSpan.data.toList.drop 24 = dktX0_isSpan_1 := dk_seg dksX0_isSpan_0 24 rfl rfl
theorem dX0_isSpan_0 : decode cX0_isSpan 0 = .ok (.iload_n 0, 1) := dk_26 (dk_at dksX0_isSpan_0 0 rfl rfl)
theorem dX0_isSpan_1 : decode cX0_isSpan 1 = .ok (.invokestatic 29, 3) := dk_184 0 29 (dk_at dksX0_isSpan_0 1 rfl rfl)
theorem dX0_isSpan_4 : decode cX0_isSpan 4 = .ok (.ifCond .eq 19, 3) := dk_153 0 19 (dk_at dksX0_isSpan_0 4 rfl rfl)
theorem dX0_isSpan_7 : decode cX0_isSpan 7 = .ok (.iload_n 1, 1) := dk_27 (dk_at dksX0_isSpan_0 7 rfl rfl)
theorem dX0_isSpan_8 : decode cX0_isSpan 8 = .ok (.invokestatic 29, 3) := dk_184 0 29 (dk_at dksX0_isSpan_0 8 rfl rfl)
theorem dX0_isSpan_11 : decode cX0_isSpan 11 = .ok (.ifCond .eq 12, 3) := dk_153 0 12 (dk_at dksX0_isSpan_0 11 rfl rfl)
theorem dX0_isSpan_14 : decode cX0_isSpan 14 = .ok (.iload_n 0, 1) := dk_26 (dk_at dksX0_isSpan_0 14 rfl rfl)
theorem dX0_isSpan_15 : decode cX0_isSpan 15 = .ok (.iload_n 1, 1) := dk_27 (dk_at dksX0_isSpan_0 15 rfl rfl)
theorem dX0_isSpan_16 : decode cX0_isSpan 16 = .ok (.if_icmp .gt 7, 3) := dk_163 0 7 (dk_at dksX0_isSpan_0 16 rfl rfl)
theorem dX0_isSpan_19 : decode cX0_isSpan 19 = .ok (.iconst 1, 1) := dk_4 (dk_at dksX0_isSpan_0 19 rfl rfl)
theorem dX0_isSpan_20 : decode cX0_isSpan 20 = .ok (.goto 4, 3) := dk_167 0 4 (dk_at dksX0_isSpan_0 20 rfl rfl)
theorem dX0_isSpan_23 : decode cX0_isSpan 23 = .ok (.iconst 0, 1) := dk_3 (dk_at dksX0_isSpan_0 23 rfl rfl)
theorem dX0_isSpan_24 : decode cX0_isSpan 24 = .ok (.ireturn, 1) := dk_172 (dk_at dksX0_isSpan_1 0 rfl rfl)
abbrev cX0_explained : ByteArray := prog_1_method_34_code
def yX0_explained : MethodName := ⟨RX0, "explained", "(IIII)I"⟩
def dkwX0_explained_4 : List UInt8 := [167, 255, 207, 21, 6, 172]
abbrev dktX0_explained_4 : List UInt8 := dkwX0_explained_4 ++ []
def dkwX0_explained_3 : List UInt8 := [21, 7, 21, 4, 184, 1, 42, 47, 9, 148, 154, 0, 7, 4, 167, 0, 4, 3, 96, 54, 6, 132, 7, 1]
abbrev dktX0_explained_3 : List UInt8 := dkwX0_explained_3 ++ dktX0_explained_4
def dkwX0_explained_2 : List UInt8 := [29, 163, 0, 49, 21, 6, 42, 25, 5, 21, 7, 182, 1, 11, 9, 148, 154, 0, 24, 42, 180, 0, 205]
abbrev dktX0_explained_2 : List UInt8 := dkwX0_explained_2 ++ dktX0_explained_3
def dkwX0_explained_1 : List UInt8 := [184, 1, 35, 154, 0, 5, 2, 172, 42, 25, 5, 21, 4, 182, 1, 38, 3, 54, 6, 28, 54, 7, 21, 7]
abbrev dktX0_explained_1 : List UInt8 := dkwX0_explained_1 ++ dktX0_explained_2
def dkwX0_explained_0 : List UInt8 := [42, 27, 182, 0, 238, 58, 5, 25, 5, 198, 0, 19, 28, 29, 184, 1, 26, 153, 0, 11, 21, 4]
abbrev dktX0_explained_0 : List UInt8 := dkwX0_explained_0 ++ dktX0_explained_1
theorem dksX0_explained_0 : cX0_explained.data.toList.drop 0 = dktX0_explained_0 := by decide +kernel
theorem dksX0_explained_1 : cX0_explained.data.toList.drop 22 = dktX0_explained_1 := dk_seg dksX0_explained_0 22 rfl rfl
theorem dksX0_explained_2 : cX0_explained.data.toList.drop 46 = dktX0_explained_2 := dk_seg dksX0_explained_1 24 rfl rfl
theorem dksX0_explained_3 : cX0_explained.data.toList.drop 69 = dktX0_explained_3 := dk_seg dksX0_explained_2 23 rfl rfl
theorem dksX0_explained_4 : cX0_explained.data.toList.drop 93 = dktX0_explained_4 := dk_seg dksX0_explained_3 24 rfl rfl
theorem dX0_explained_0 : decode cX0_explained 0 = .ok (.aload_n 0, 1) := dk_42 (dk_at dksX0_explained_0 0 rfl rfl)
theorem dX0_explained_1 : decode cX0_explained 1 = .ok (.iload_n 1, 1) := dk_27 (dk_at dksX0_explained_0 1 rfl rfl)
theorem dX0_explained_2 : decode cX0_explained 2 = .ok (.invokevirtual 238, 3) := dk_182 0 238 (dk_at dksX0_explained_0 2 rfl rfl)
theorem dX0_explained_5 : decode cX0_explained 5 = .ok (.astore 5, 2) := dk_58 5 (dk_at dksX0_explained_0 5 rfl rfl)
theorem dX0_explained_7 : decode cX0_explained 7 = .ok (.aload 5, 2) := dk_25 5 (dk_at dksX0_explained_0 7 rfl rfl)
theorem dX0_explained_9 : decode cX0_explained 9 = .ok (.ifnull 19, 3) := dk_198 0 19 (dk_at dksX0_explained_0 9 rfl rfl)
theorem dX0_explained_12 : decode cX0_explained 12 = .ok (.iload_n 2, 1) := dk_28 (dk_at dksX0_explained_0 12 rfl rfl)
theorem dX0_explained_13 : decode cX0_explained 13 = .ok (.iload_n 3, 1) := dk_29 (dk_at dksX0_explained_0 13 rfl rfl)
theorem dX0_explained_14 : decode cX0_explained 14 = .ok (.invokestatic 282, 3) := dk_184 1 26 (dk_at dksX0_explained_0 14 rfl rfl)
theorem dX0_explained_17 : decode cX0_explained 17 = .ok (.ifCond .eq 11, 3) := dk_153 0 11 (dk_at dksX0_explained_0 17 rfl rfl)
theorem dX0_explained_20 : decode cX0_explained 20 = .ok (.iload 4, 2) := dk_21 4 (dk_at dksX0_explained_0 20 rfl rfl)
theorem dX0_explained_22 : decode cX0_explained 22 = .ok (.invokestatic 291, 3) := dk_184 1 35 (dk_at dksX0_explained_1 0 rfl rfl)
theorem dX0_explained_25 : decode cX0_explained 25 = .ok (.ifCond .ne 5, 3) := dk_154 0 5 (dk_at dksX0_explained_1 3 rfl rfl)
theorem dX0_explained_28 : decode cX0_explained 28 = .ok (.iconst (-1), 1) := dk_2 (dk_at dksX0_explained_1 6 rfl rfl)
theorem dX0_explained_29 : decode cX0_explained 29 = .ok (.ireturn, 1) := dk_172 (dk_at dksX0_explained_1 7 rfl rfl)
theorem dX0_explained_30 : decode cX0_explained 30 = .ok (.aload_n 0, 1) := dk_42 (dk_at dksX0_explained_1 8 rfl rfl)
theorem dX0_explained_31 : decode cX0_explained 31 = .ok (.aload 5, 2) := dk_25 5 (dk_at dksX0_explained_1 9 rfl rfl)
theorem dX0_explained_33 : decode cX0_explained 33 = .ok (.iload 4, 2) := dk_21 4 (dk_at dksX0_explained_1 11 rfl rfl)
theorem dX0_explained_35 : decode cX0_explained 35 = .ok (.invokevirtual 294, 3) := dk_182 1 38 (dk_at dksX0_explained_1 13 rfl rfl)
theorem dX0_explained_38 : decode cX0_explained 38 = .ok (.iconst 0, 1) := dk_3 (dk_at dksX0_explained_1 16 rfl rfl)
theorem dX0_explained_39 : decode cX0_explained 39 = .ok (.istore 6, 2) := dk_54 6 (dk_at dksX0_explained_1 17 rfl rfl)
theorem dX0_explained_41 : decode cX0_explained 41 = .ok (.iload_n 2, 1) := dk_28 (dk_at dksX0_explained_1 19 rfl rfl)
theorem dX0_explained_42 : decode cX0_explained 42 = .ok (.istore 7, 2) := dk_54 7 (dk_at dksX0_explained_1 20 rfl rfl)
theorem dX0_explained_44 : decode cX0_explained 44 = .ok (.iload 7, 2) := dk_21 7 (dk_at dksX0_explained_1 22 rfl rfl)
theorem dX0_explained_46 : decode cX0_explained 46 = .ok (.iload_n 3, 1) := dk_29 (dk_at dksX0_explained_2 0 rfl rfl)
theorem dX0_explained_47 : decode cX0_explained 47 = .ok (.if_icmp .gt 49, 3) := dk_163 0 49 (dk_at dksX0_explained_2 1 rfl rfl)
theorem dX0_explained_50 : decode cX0_explained 50 = .ok (.iload 6, 2) := dk_21 6 (dk_at dksX0_explained_2 4 rfl rfl)
theorem dX0_explained_52 : decode cX0_explained 52 = .ok (.aload_n 0, 1) := dk_42 (dk_at dksX0_explained_2 6 rfl rfl)
theorem dX0_explained_53 : decode cX0_explained 53 = .ok (.aload 5, 2) := dk_25 5 (dk_at dksX0_explained_2 7 rfl rfl)
theorem dX0_explained_55 : decode cX0_explained 55 = .ok (.iload 7, 2) := dk_21 7 (dk_at dksX0_explained_2 9 rfl rfl)
theorem dX0_explained_57 : decode cX0_explained 57 = .ok (.invokevirtual 267, 3) := dk_182 1 11 (dk_at dksX0_explained_2 11 rfl rfl)
theorem dX0_explained_60 : decode cX0_explained 60 = .ok (.lconst 0, 1) := dk_9 (dk_at dksX0_explained_2 14 rfl rfl)
theorem dX0_explained_61 : decode cX0_explained 61 = .ok (.lcmp, 1) := dk_148 (dk_at dksX0_explained_2 15 rfl rfl)
theorem dX0_explained_62 : decode cX0_explained 62 = .ok (.ifCond .ne 24, 3) := dk_154 0 24 (dk_at dksX0_explained_2 16 rfl rfl)
theorem dX0_explained_65 : decode cX0_explained 65 = .ok (.aload_n 0, 1) := dk_42 (dk_at dksX0_explained_2 19 rfl rfl)
theorem dX0_explained_66 : decode cX0_explained 66 = .ok (.getfield 205, 3) := dk_180 0 205 (dk_at dksX0_explained_2 20 rfl rfl)
theorem dX0_explained_69 : decode cX0_explained 69 = .ok (.iload 7, 2) := dk_21 7 (dk_at dksX0_explained_3 0 rfl rfl)
theorem dX0_explained_71 : decode cX0_explained 71 = .ok (.iload 4, 2) := dk_21 4 (dk_at dksX0_explained_3 2 rfl rfl)
theorem dX0_explained_73 : decode cX0_explained 73 = .ok (.invokestatic 298, 3) := dk_184 1 42 (dk_at dksX0_explained_3 4 rfl rfl)
theorem dX0_explained_76 : decode cX0_explained 76 = .ok (.laload, 1) := dk_47 (dk_at dksX0_explained_3 7 rfl rfl)
theorem dX0_explained_77 : decode cX0_explained 77 = .ok (.lconst 0, 1) := dk_9 (dk_at dksX0_explained_3 8 rfl rfl)
theorem dX0_explained_78 : decode cX0_explained 78 = .ok (.lcmp, 1) := dk_148 (dk_at dksX0_explained_3 9 rfl rfl)
theorem dX0_explained_79 : decode cX0_explained 79 = .ok (.ifCond .ne 7, 3) := dk_154 0 7 (dk_at dksX0_explained_3 10 rfl rfl)
theorem dX0_explained_82 : decode cX0_explained 82 = .ok (.iconst 1, 1) := dk_4 (dk_at dksX0_explained_3 13 rfl rfl)
theorem dX0_explained_83 : decode cX0_explained 83 = .ok (.goto 4, 3) := dk_167 0 4 (dk_at dksX0_explained_3 14 rfl rfl)
theorem dX0_explained_86 : decode cX0_explained 86 = .ok (.iconst 0, 1) := dk_3 (dk_at dksX0_explained_3 17 rfl rfl)
theorem dX0_explained_87 : decode cX0_explained 87 = .ok (.iadd, 1) := dk_96 (dk_at dksX0_explained_3 18 rfl rfl)
theorem dX0_explained_88 : decode cX0_explained 88 = .ok (.istore 6, 2) := dk_54 6 (dk_at dksX0_explained_3 19 rfl rfl)
theorem dX0_explained_90 : decode cX0_explained 90 = .ok (.iinc 7 1, 3) := dk_132 7 1 (dk_at dksX0_explained_3 21 rfl rfl)
theorem dX0_explained_93 : decode cX0_explained 93 = .ok (.goto (-49), 3) := dk_167 255 207 (dk_at dksX0_explained_4 0 rfl rfl)
theorem dX0_explained_96 : decode cX0_explained 96 = .ok (.iload 6, 2) := dk_21 6 (dk_at dksX0_explained_4 3 rfl rfl)
theorem dX0_explained_98 : decode cX0_explained 98 = .ok (.ireturn, 1) := dk_172 (dk_at dksX0_explained_4 5 rfl rfl)
abbrev cX0_isModulus : ByteArray := prog_1_method_33_code
def yX0_isModulus : MethodName := ⟨RX0, "isModulus", "(I)Z"⟩
def dkwX0_isModulus_0 : List UInt8 := [26, 133, 10, 20, 1, 33, 184, 0, 21, 172]
abbrev dktX0_isModulus_0 : List UInt8 := dkwX0_isModulus_0 ++ []
theorem dksX0_isModulus_0 : cX0_isModulus.data.toList.drop 0 = dktX0_isModulus_0 := by decide +kernel
theorem dX0_isModulus_0 : decode cX0_isModulus 0 = .ok (.iload_n 0, 1) := dk_26 (dk_at dksX0_isModulus_0 0 rfl rfl)
theorem dX0_isModulus_1 : decode cX0_isModulus 1 = .ok (.i2l, 1) := dk_133 (dk_at dksX0_isModulus_0 1 rfl rfl)
theorem dX0_isModulus_2 : decode cX0_isModulus 2 = .ok (.lconst 1, 1) := dk_10 (dk_at dksX0_isModulus_0 2 rfl rfl)
theorem dX0_isModulus_3 : decode cX0_isModulus 3 = .ok (.ldc2_w 289, 3) := dk_20 1 33 (dk_at dksX0_isModulus_0 3 rfl rfl)
theorem dX0_isModulus_6 : decode cX0_isModulus 6 = .ok (.invokestatic 21, 3) := dk_184 0 21 (dk_at dksX0_isModulus_0 6 rfl rfl)
theorem dX0_isModulus_9 : decode cX0_isModulus 9 = .ok (.ireturn, 1) := dk_172 (dk_at dksX0_isModulus_0 9 rfl rfl)
abbrev cX0_laysClasses : ByteArray := prog_1_method_32_code
def yX0_laysClasses : MethodName := ⟨RX0, "laysClasses", "(LToldPowers$Form;I)V"⟩
def dkwX0_laysClasses_5 : List UInt8 := [180, 0, 209, 3, 42, 180, 0, 205, 3, 16, 60, 184, 0, 91, 132, 5, 1, 167, 255, 146, 177]
abbrev dktX0_laysClasses_5 : List UInt8 := dkwX0_laysClasses_5 ++ []
def dkwX0_laysClasses_4 : List UInt8 := [92, 47, 42, 180, 0, 205, 21, 9, 47, 97, 80, 132, 9, 1, 167, 255, 225, 132, 7, 1, 167, 255, 191, 42]
abbrev dktX0_laysClasses_4 : List UInt8 := dkwX0_laysClasses_4 ++ dktX0_laysClasses_5
def dkwX0_laysClasses_3 : List UInt8 := [113, 136, 54, 8, 3, 54, 9, 21, 9, 28, 162, 0, 31, 42, 180, 0, 209, 21, 9, 21, 8, 96, 28, 112]
abbrev dktX0_laysClasses_3 : List UInt8 := dkwX0_laysClasses_3 ++ dktX0_laysClasses_4
def dkwX0_laysClasses_2 : List UInt8 := [3, 54, 7, 21, 7, 25, 6, 28, 182, 1, 30, 162, 0, 60, 25, 6, 21, 7, 133, 182, 0, 60, 28, 133]
abbrev dktX0_laysClasses_2 : List UInt8 := dkwX0_laysClasses_2 ++ dktX0_laysClasses_3
def dkwX0_laysClasses_1 : List UInt8 := [3, 54, 5, 21, 5, 21, 4, 162, 0, 109, 45, 21, 5, 50, 58, 6, 42, 180, 0, 209, 9, 184, 0, 41]
abbrev dktX0_laysClasses_1 : List UInt8 := dkwX0_laysClasses_1 ++ dktX0_laysClasses_2
def dkwX0_laysClasses_0 : List UInt8 := [42, 180, 0, 205, 9, 184, 0, 41, 42, 180, 0, 205, 3, 10, 80, 43, 180, 0, 47, 78, 45, 190, 54, 4]
abbrev dktX0_laysClasses_0 : List UInt8 := dkwX0_laysClasses_0 ++ dktX0_laysClasses_1
theorem dksX0_laysClasses_0 : cX0_laysClasses.data.toList.drop 0 = dktX0_laysClasses_0 := by decide +kernel
theorem dksX0_laysClasses_1 : cX0_laysClasses.data.toList.drop 24 = dktX0_laysClasses_1 := dk_seg dksX0_laysClasses_0 24 rfl rfl
theorem dksX0_laysClasses_2 : cX0_laysClasses.data.toList.drop 48 = dktX0_laysClasses_2 := dk_seg dksX0_laysClasses_1 24 rfl rfl
theorem dksX0_laysClasses_3 : cX0_laysClasses.data.toList.drop 72 = dktX0_laysClasses_3 := dk_seg dksX0_laysClasses_2 24 rfl rfl
theorem dksX0_laysClasses_4 : cX0_laysClasses.data.toList.drop 96 = dktX0_laysClasses_4 := dk_seg dksX0_laysClasses_3 24 rfl rfl
theorem dksX0_laysClasses_5 : cX0_laysClasses.data.toList.drop 120 = dktX0_laysClasses_5 := dk_seg dksX0_laysClasses_4 24 rfl rfl
theorem dX0_laysClasses_0 : decode cX0_laysClasses 0 = .ok (.aload_n 0, 1) := dk_42 (dk_at dksX0_laysClasses_0 0 rfl rfl)
theorem dX0_laysClasses_1 : decode cX0_laysClasses 1 = .ok (.getfield 205, 3) := dk_180 0 205 (dk_at dksX0_laysClasses_0 1 rfl rfl)
theorem dX0_laysClasses_4 : decode cX0_laysClasses 4 = .ok (.lconst 0, 1) := dk_9 (dk_at dksX0_laysClasses_0 4 rfl rfl)
theorem dX0_laysClasses_5 : decode cX0_laysClasses 5 = .ok (.invokestatic 41, 3) := dk_184 0 41 (dk_at dksX0_laysClasses_0 5 rfl rfl)
theorem dX0_laysClasses_8 : decode cX0_laysClasses 8 = .ok (.aload_n 0, 1) := dk_42 (dk_at dksX0_laysClasses_0 8 rfl rfl)
theorem dX0_laysClasses_9 : decode cX0_laysClasses 9 = .ok (.getfield 205, 3) := dk_180 0 205 (dk_at dksX0_laysClasses_0 9 rfl rfl)
theorem dX0_laysClasses_12 : decode cX0_laysClasses 12 = .ok (.iconst 0, 1) := dk_3 (dk_at dksX0_laysClasses_0 12 rfl rfl)
theorem dX0_laysClasses_13 : decode cX0_laysClasses 13 = .ok (.lconst 1, 1) := dk_10 (dk_at dksX0_laysClasses_0 13 rfl rfl)
theorem dX0_laysClasses_14 : decode cX0_laysClasses 14 = .ok (.lastore, 1) := dk_80 (dk_at dksX0_laysClasses_0 14 rfl rfl)
theorem dX0_laysClasses_15 : decode cX0_laysClasses 15 = .ok (.aload_n 1, 1) := dk_43 (dk_at dksX0_laysClasses_0 15 rfl rfl)
theorem dX0_laysClasses_16 : decode cX0_laysClasses 16 = .ok (.getfield 47, 3) := dk_180 0 47 (dk_at dksX0_laysClasses_0 16 rfl rfl)
theorem dX0_laysClasses_19 : decode cX0_laysClasses 19 = .ok (.astore_n 3, 1) := dk_78 (dk_at dksX0_laysClasses_0 19 rfl rfl)
theorem dX0_laysClasses_20 : decode cX0_laysClasses 20 = .ok (.aload_n 3, 1) := dk_45 (dk_at dksX0_laysClasses_0 20 rfl rfl)
theorem dX0_laysClasses_21 : decode cX0_laysClasses 21 = .ok (.arraylength, 1) := dk_190 (dk_at dksX0_laysClasses_0 21 rfl rfl)
theorem dX0_laysClasses_22 : decode cX0_laysClasses 22 = .ok (.istore 4, 2) := dk_54 4 (dk_at dksX0_laysClasses_0 22 rfl rfl)
theorem dX0_laysClasses_24 : decode cX0_laysClasses 24 = .ok (.iconst 0, 1) := dk_3 (dk_at dksX0_laysClasses_1 0 rfl rfl)
theorem dX0_laysClasses_25 : decode cX0_laysClasses 25 = .ok (.istore 5, 2) := dk_54 5 (dk_at dksX0_laysClasses_1 1 rfl rfl)
theorem dX0_laysClasses_27 : decode cX0_laysClasses 27 = .ok (.iload 5, 2) := dk_21 5 (dk_at dksX0_laysClasses_1 3 rfl rfl)
theorem dX0_laysClasses_29 : decode cX0_laysClasses 29 = .ok (.iload 4, 2) := dk_21 4 (dk_at dksX0_laysClasses_1 5 rfl rfl)
theorem dX0_laysClasses_31 : decode cX0_laysClasses 31 = .ok (.if_icmp .ge 109, 3) := dk_162 0 109 (dk_at dksX0_laysClasses_1 7 rfl rfl)
theorem dX0_laysClasses_34 : decode cX0_laysClasses 34 = .ok (.aload_n 3, 1) := dk_45 (dk_at dksX0_laysClasses_1 10 rfl rfl)
theorem dX0_laysClasses_35 : decode cX0_laysClasses 35 = .ok (.iload 5, 2) := dk_21 5 (dk_at dksX0_laysClasses_1 11 rfl rfl)
theorem dX0_laysClasses_37 : decode cX0_laysClasses 37 = .ok (.aaload, 1) := dk_50 (dk_at dksX0_laysClasses_1 13 rfl rfl)
theorem dX0_laysClasses_38 : decode cX0_laysClasses 38 = .ok (.astore 6, 2) := dk_58 6 (dk_at dksX0_laysClasses_1 14 rfl rfl)
theorem dX0_laysClasses_40 : decode cX0_laysClasses 40 = .ok (.aload_n 0, 1) := dk_42 (dk_at dksX0_laysClasses_1 16 rfl rfl)
theorem dX0_laysClasses_41 : decode cX0_laysClasses 41 = .ok (.getfield 209, 3) := dk_180 0 209 (dk_at dksX0_laysClasses_1 17 rfl rfl)
theorem dX0_laysClasses_44 : decode cX0_laysClasses 44 = .ok (.lconst 0, 1) := dk_9 (dk_at dksX0_laysClasses_1 20 rfl rfl)
theorem dX0_laysClasses_45 : decode cX0_laysClasses 45 = .ok (.invokestatic 41, 3) := dk_184 0 41 (dk_at dksX0_laysClasses_1 21 rfl rfl)
theorem dX0_laysClasses_48 : decode cX0_laysClasses 48 = .ok (.iconst 0, 1) := dk_3 (dk_at dksX0_laysClasses_2 0 rfl rfl)
theorem dX0_laysClasses_49 : decode cX0_laysClasses 49 = .ok (.istore 7, 2) := dk_54 7 (dk_at dksX0_laysClasses_2 1 rfl rfl)
theorem dX0_laysClasses_51 : decode cX0_laysClasses 51 = .ok (.iload 7, 2) := dk_21 7 (dk_at dksX0_laysClasses_2 3 rfl rfl)
theorem dX0_laysClasses_53 : decode cX0_laysClasses 53 = .ok (.aload 6, 2) := dk_25 6 (dk_at dksX0_laysClasses_2 5 rfl rfl)
theorem dX0_laysClasses_55 : decode cX0_laysClasses 55 = .ok (.iload_n 2, 1) := dk_28 (dk_at dksX0_laysClasses_2 7 rfl rfl)
theorem dX0_laysClasses_56 : decode cX0_laysClasses 56 = .ok (.invokevirtual 286, 3) := dk_182 1 30 (dk_at dksX0_laysClasses_2 8 rfl rfl)
theorem dX0_laysClasses_59 : decode cX0_laysClasses 59 = .ok (.if_icmp .ge 60, 3) := dk_162 0 60 (dk_at dksX0_laysClasses_2 11 rfl rfl)
theorem dX0_laysClasses_62 : decode cX0_laysClasses 62 = .ok (.aload 6, 2) := dk_25 6 (dk_at dksX0_laysClasses_2 14 rfl rfl)
theorem dX0_laysClasses_64 : decode cX0_laysClasses 64 = .ok (.iload 7, 2) := dk_21 7 (dk_at dksX0_laysClasses_2 16 rfl rfl)
theorem dX0_laysClasses_66 : decode cX0_laysClasses 66 = .ok (.i2l, 1) := dk_133 (dk_at dksX0_laysClasses_2 18 rfl rfl)
theorem dX0_laysClasses_67 : decode cX0_laysClasses 67 = .ok (.invokevirtual 60, 3) := dk_182 0 60 (dk_at dksX0_laysClasses_2 19 rfl rfl)
theorem dX0_laysClasses_70 : decode cX0_laysClasses 70 = .ok (.iload_n 2, 1) := dk_28 (dk_at dksX0_laysClasses_2 22 rfl rfl)
theorem dX0_laysClasses_71 : decode cX0_laysClasses 71 = .ok (.i2l, 1) := dk_133 (dk_at dksX0_laysClasses_2 23 rfl rfl)
theorem dX0_laysClasses_72 : decode cX0_laysClasses 72 = .ok (.lrem, 1) := dk_113 (dk_at dksX0_laysClasses_3 0 rfl rfl)
theorem dX0_laysClasses_73 : decode cX0_laysClasses 73 = .ok (.l2i, 1) := dk_136 (dk_at dksX0_laysClasses_3 1 rfl rfl)
theorem dX0_laysClasses_74 : decode cX0_laysClasses 74 = .ok (.istore 8, 2) := dk_54 8 (dk_at dksX0_laysClasses_3 2 rfl rfl)
theorem dX0_laysClasses_76 : decode cX0_laysClasses 76 = .ok (.iconst 0, 1) := dk_3 (dk_at dksX0_laysClasses_3 4 rfl rfl)
theorem dX0_laysClasses_77 : decode cX0_laysClasses 77 = .ok (.istore 9, 2) := dk_54 9 (dk_at dksX0_laysClasses_3 5 rfl rfl)
theorem dX0_laysClasses_79 : decode cX0_laysClasses 79 = .ok (.iload 9, 2) := dk_21 9 (dk_at dksX0_laysClasses_3 7 rfl rfl)
theorem dX0_laysClasses_81 : decode cX0_laysClasses 81 = .ok (.iload_n 2, 1) := dk_28 (dk_at dksX0_laysClasses_3 9 rfl rfl)
theorem dX0_laysClasses_82 : decode cX0_laysClasses 82 = .ok (.if_icmp .ge 31, 3) := dk_162 0 31 (dk_at dksX0_laysClasses_3 10 rfl rfl)
theorem dX0_laysClasses_85 : decode cX0_laysClasses 85 = .ok (.aload_n 0, 1) := dk_42 (dk_at dksX0_laysClasses_3 13 rfl rfl)
theorem dX0_laysClasses_86 : decode cX0_laysClasses 86 = .ok (.getfield 209, 3) := dk_180 0 209 (dk_at dksX0_laysClasses_3 14 rfl rfl)
theorem dX0_laysClasses_89 : decode cX0_laysClasses 89 = .ok (.iload 9, 2) := dk_21 9 (dk_at dksX0_laysClasses_3 17 rfl rfl)
theorem dX0_laysClasses_91 : decode cX0_laysClasses 91 = .ok (.iload 8, 2) := dk_21 8 (dk_at dksX0_laysClasses_3 19 rfl rfl)
theorem dX0_laysClasses_93 : decode cX0_laysClasses 93 = .ok (.iadd, 1) := dk_96 (dk_at dksX0_laysClasses_3 21 rfl rfl)
theorem dX0_laysClasses_94 : decode cX0_laysClasses 94 = .ok (.iload_n 2, 1) := dk_28 (dk_at dksX0_laysClasses_3 22 rfl rfl)
theorem dX0_laysClasses_95 : decode cX0_laysClasses 95 = .ok (.irem, 1) := dk_112 (dk_at dksX0_laysClasses_3 23 rfl rfl)
theorem dX0_laysClasses_96 : decode cX0_laysClasses 96 = .ok (.dup2, 1) := dk_92 (dk_at dksX0_laysClasses_4 0 rfl rfl)
theorem dX0_laysClasses_97 : decode cX0_laysClasses 97 = .ok (.laload, 1) := dk_47 (dk_at dksX0_laysClasses_4 1 rfl rfl)
theorem dX0_laysClasses_98 : decode cX0_laysClasses 98 = .ok (.aload_n 0, 1) := dk_42 (dk_at dksX0_laysClasses_4 2 rfl rfl)
theorem dX0_laysClasses_99 : decode cX0_laysClasses 99 = .ok (.getfield 205, 3) := dk_180 0 205 (dk_at dksX0_laysClasses_4 3 rfl rfl)
theorem dX0_laysClasses_102 : decode cX0_laysClasses 102 = .ok (.iload 9, 2) := dk_21 9 (dk_at dksX0_laysClasses_4 6 rfl rfl)
theorem dX0_laysClasses_104 : decode cX0_laysClasses 104 = .ok (.laload, 1) := dk_47 (dk_at dksX0_laysClasses_4 8 rfl rfl)
theorem dX0_laysClasses_105 : decode cX0_laysClasses 105 = .ok (.ladd, 1) := dk_97 (dk_at dksX0_laysClasses_4 9 rfl rfl)
theorem dX0_laysClasses_106 : decode cX0_laysClasses 106 = .ok (.lastore, 1) := dk_80 (dk_at dksX0_laysClasses_4 10 rfl rfl)
theorem dX0_laysClasses_107 : decode cX0_laysClasses 107 = .ok (.iinc 9 1, 3) := dk_132 9 1 (dk_at dksX0_laysClasses_4 11 rfl rfl)
theorem dX0_laysClasses_110 : decode cX0_laysClasses 110 = .ok (.goto (-31), 3) := dk_167 255 225 (dk_at dksX0_laysClasses_4 14 rfl rfl)
theorem dX0_laysClasses_113 : decode cX0_laysClasses 113 = .ok (.iinc 7 1, 3) := dk_132 7 1 (dk_at dksX0_laysClasses_4 17 rfl rfl)
theorem dX0_laysClasses_116 : decode cX0_laysClasses 116 = .ok (.goto (-65), 3) := dk_167 255 191 (dk_at dksX0_laysClasses_4 20 rfl rfl)
theorem dX0_laysClasses_119 : decode cX0_laysClasses 119 = .ok (.aload_n 0, 1) := dk_42 (dk_at dksX0_laysClasses_4 23 rfl rfl)
theorem dX0_laysClasses_120 : decode cX0_laysClasses 120 = .ok (.getfield 209, 3) := dk_180 0 209 (dk_at dksX0_laysClasses_5 0 rfl rfl)
theorem dX0_laysClasses_123 : decode cX0_laysClasses 123 = .ok (.iconst 0, 1) := dk_3 (dk_at dksX0_laysClasses_5 3 rfl rfl)
theorem dX0_laysClasses_124 : decode cX0_laysClasses 124 = .ok (.aload_n 0, 1) := dk_42 (dk_at dksX0_laysClasses_5 4 rfl rfl)
theorem dX0_laysClasses_125 : decode cX0_laysClasses 125 = .ok (.getfield 205, 3) := dk_180 0 205 (dk_at dksX0_laysClasses_5 5 rfl rfl)
theorem dX0_laysClasses_128 : decode cX0_laysClasses 128 = .ok (.iconst 0, 1) := dk_3 (dk_at dksX0_laysClasses_5 8 rfl rfl)
theorem dX0_laysClasses_129 : decode cX0_laysClasses 129 = .ok (.bipush 60, 2) := dk_16 60 (dk_at dksX0_laysClasses_5 9 rfl rfl)
theorem dX0_laysClasses_131 : decode cX0_laysClasses 131 = .ok (.invokestatic 91, 3) := dk_184 0 91 (dk_at dksX0_laysClasses_5 11 rfl rfl)
theorem dX0_laysClasses_134 : decode cX0_laysClasses 134 = .ok (.iinc 5 1, 3) := dk_132 5 1 (dk_at dksX0_laysClasses_5 14 rfl rfl)
theorem dX0_laysClasses_137 : decode cX0_laysClasses 137 = .ok (.goto (-110), 3) := dk_167 255 146 (dk_at dksX0_laysClasses_5 17 rfl rfl)
theorem dX0_laysClasses_140 : decode cX0_laysClasses 140 = .ok (.return_, 1) := dk_177 (dk_at dksX0_laysClasses_5 20 rfl rfl)
abbrev cX0_full : ByteArray := prog_1_method_35_code
def yX0_full : MethodName := ⟨RX0, "full", "(I)I"⟩
def dkwX0_full_2 : List UInt8 := [132, 3, 255, 167, 255, 236, 29, 172]
abbrev dktX0_full_2 : List UInt8 := dkwX0_full_2 ++ []
def dkwX0_full_1 : List UInt8 := [172, 17, 11, 184, 62, 29, 158, 0, 22, 42, 44, 29, 4, 100, 182, 1, 11, 9, 148, 158, 0, 9]
abbrev dktX0_full_1 : List UInt8 := dkwX0_full_1 ++ dktX0_full_2
def dkwX0_full_0 : List UInt8 := [42, 27, 182, 0, 238, 77, 44, 198, 0, 16, 42, 44, 17, 11, 184, 182, 1, 11, 9, 148, 154, 0, 5, 2]
abbrev dktX0_full_0 : List UInt8 := dkwX0_full_0 ++ dktX0_full_1
theorem dksX0_full_0 : cX0_full.data.toList.drop 0 = dktX0_full_0 := by decide +kernel
theorem dksX0_full_1 : cX0_full.data.toList.drop 24 = dktX0_full_1 := dk_seg dksX0_full_0 24 rfl rfl
theorem dksX0_full_2 : cX0_full.data.toList.drop 46 = dktX0_full_2 := dk_seg dksX0_full_1 22 rfl rfl
theorem dX0_full_0 : decode cX0_full 0 = .ok (.aload_n 0, 1) := dk_42 (dk_at dksX0_full_0 0 rfl rfl)
theorem dX0_full_1 : decode cX0_full 1 = .ok (.iload_n 1, 1) := dk_27 (dk_at dksX0_full_0 1 rfl rfl)
theorem dX0_full_2 : decode cX0_full 2 = .ok (.invokevirtual 238, 3) := dk_182 0 238 (dk_at dksX0_full_0 2 rfl rfl)
theorem dX0_full_5 : decode cX0_full 5 = .ok (.astore_n 2, 1) := dk_77 (dk_at dksX0_full_0 5 rfl rfl)
theorem dX0_full_6 : decode cX0_full 6 = .ok (.aload_n 2, 1) := dk_44 (dk_at dksX0_full_0 6 rfl rfl)
theorem dX0_full_7 : decode cX0_full 7 = .ok (.ifnull 16, 3) := dk_198 0 16 (dk_at dksX0_full_0 7 rfl rfl)
theorem dX0_full_10 : decode cX0_full 10 = .ok (.aload_n 0, 1) := dk_42 (dk_at dksX0_full_0 10 rfl rfl)
theorem dX0_full_11 : decode cX0_full 11 = .ok (.aload_n 2, 1) := dk_44 (dk_at dksX0_full_0 11 rfl rfl)
theorem dX0_full_12 : decode cX0_full 12 = .ok (.sipush 3000, 3) := dk_17 11 184 (dk_at dksX0_full_0 12 rfl rfl)
theorem dX0_full_15 : decode cX0_full 15 = .ok (.invokevirtual 267, 3) := dk_182 1 11 (dk_at dksX0_full_0 15 rfl rfl)
theorem dX0_full_18 : decode cX0_full 18 = .ok (.lconst 0, 1) := dk_9 (dk_at dksX0_full_0 18 rfl rfl)
theorem dX0_full_19 : decode cX0_full 19 = .ok (.lcmp, 1) := dk_148 (dk_at dksX0_full_0 19 rfl rfl)
theorem dX0_full_20 : decode cX0_full 20 = .ok (.ifCond .ne 5, 3) := dk_154 0 5 (dk_at dksX0_full_0 20 rfl rfl)
theorem dX0_full_23 : decode cX0_full 23 = .ok (.iconst (-1), 1) := dk_2 (dk_at dksX0_full_0 23 rfl rfl)
theorem dX0_full_24 : decode cX0_full 24 = .ok (.ireturn, 1) := dk_172 (dk_at dksX0_full_1 0 rfl rfl)
theorem dX0_full_25 : decode cX0_full 25 = .ok (.sipush 3000, 3) := dk_17 11 184 (dk_at dksX0_full_1 1 rfl rfl)
theorem dX0_full_28 : decode cX0_full 28 = .ok (.istore_n 3, 1) := dk_62 (dk_at dksX0_full_1 4 rfl rfl)
theorem dX0_full_29 : decode cX0_full 29 = .ok (.iload_n 3, 1) := dk_29 (dk_at dksX0_full_1 5 rfl rfl)
theorem dX0_full_30 : decode cX0_full 30 = .ok (.ifCond .le 22, 3) := dk_158 0 22 (dk_at dksX0_full_1 6 rfl rfl)
theorem dX0_full_33 : decode cX0_full 33 = .ok (.aload_n 0, 1) := dk_42 (dk_at dksX0_full_1 9 rfl rfl)
theorem dX0_full_34 : decode cX0_full 34 = .ok (.aload_n 2, 1) := dk_44 (dk_at dksX0_full_1 10 rfl rfl)
theorem dX0_full_35 : decode cX0_full 35 = .ok (.iload_n 3, 1) := dk_29 (dk_at dksX0_full_1 11 rfl rfl)
theorem dX0_full_36 : decode cX0_full 36 = .ok (.iconst 1, 1) := dk_4 (dk_at dksX0_full_1 12 rfl rfl)
theorem dX0_full_37 : decode cX0_full 37 = .ok (.isub, 1) := dk_100 (dk_at dksX0_full_1 13 rfl rfl)
theorem dX0_full_38 : decode cX0_full 38 = .ok (.invokevirtual 267, 3) := dk_182 1 11 (dk_at dksX0_full_1 14 rfl rfl)
theorem dX0_full_41 : decode cX0_full 41 = .ok (.lconst 0, 1) := dk_9 (dk_at dksX0_full_1 17 rfl rfl)
theorem dX0_full_42 : decode cX0_full 42 = .ok (.lcmp, 1) := dk_148 (dk_at dksX0_full_1 18 rfl rfl)
theorem dX0_full_43 : decode cX0_full 43 = .ok (.ifCond .le 9, 3) := dk_158 0 9 (dk_at dksX0_full_1 19 rfl rfl)
theorem dX0_full_46 : decode cX0_full 46 = .ok (.iinc 3 (-1), 3) := dk_132 3 255 (dk_at dksX0_full_2 0 rfl rfl)
theorem dX0_full_49 : decode cX0_full 49 = .ok (.goto (-20), 3) := dk_167 255 236 (dk_at dksX0_full_2 3 rfl rfl)
theorem dX0_full_52 : decode cX0_full 52 = .ok (.iload_n 3, 1) := dk_29 (dk_at dksX0_full_2 6 rfl rfl)
theorem dX0_full_53 : decode cX0_full 53 = .ok (.ireturn, 1) := dk_172 (dk_at dksX0_full_2 7 rfl rfl)
abbrev cX0_met : ByteArray := prog_1_method_36_code
def yX0_met : MethodName := ⟨RX0, "met", "(III)J"⟩
def dkwX0_met_2 : List UInt8 := [47, 173]
abbrev dktX0_met_2 : List UInt8 := dkwX0_met_2 ++ []
def dkwX0_met_1 : List UInt8 := [100, 133, 184, 0, 21, 154, 0, 7, 20, 0, 97, 173, 42, 25, 4, 28, 182, 1, 38, 42, 180, 0, 205, 29]
abbrev dktX0_met_1 : List UInt8 := dkwX0_met_1 ++ dktX0_met_2
def dkwX0_met_0 : List UInt8 := [42, 27, 182, 0, 238, 58, 4, 25, 4, 198, 0, 23, 28, 184, 1, 35, 153, 0, 16, 29, 133, 9, 28, 4]
abbrev dktX0_met_0 : List UInt8 := dkwX0_met_0 ++ dktX0_met_1
theorem dksX0_met_0 : cX0_met.data.toList.drop 0 = dktX0_met_0 := by decide +kernel
theorem dksX0_met_1 : cX0_met.data.toList.drop 24 = dktX0_met_1 := dk_seg dksX0_met_0 24 rfl rfl
theorem dksX0_met_2 : cX0_met.data.toList.drop 48 = dktX0_met_2 := dk_seg dksX0_met_1 24 rfl rfl
theorem dX0_met_0 : decode cX0_met 0 = .ok (.aload_n 0, 1) := dk_42 (dk_at dksX0_met_0 0 rfl rfl)
theorem dX0_met_1 : decode cX0_met 1 = .ok (.iload_n 1, 1) := dk_27 (dk_at dksX0_met_0 1 rfl rfl)
theorem dX0_met_2 : decode cX0_met 2 = .ok (.invokevirtual 238, 3) := dk_182 0 238 (dk_at dksX0_met_0 2 rfl rfl)
theorem dX0_met_5 : decode cX0_met 5 = .ok (.astore 4, 2) := dk_58 4 (dk_at dksX0_met_0 5 rfl rfl)
theorem dX0_met_7 : decode cX0_met 7 = .ok (.aload 4, 2) := dk_25 4 (dk_at dksX0_met_0 7 rfl rfl)
theorem dX0_met_9 : decode cX0_met 9 = .ok (.ifnull 23, 3) := dk_198 0 23 (dk_at dksX0_met_0 9 rfl rfl)
theorem dX0_met_12 : decode cX0_met 12 = .ok (.iload_n 2, 1) := dk_28 (dk_at dksX0_met_0 12 rfl rfl)
theorem dX0_met_13 : decode cX0_met 13 = .ok (.invokestatic 291, 3) := dk_184 1 35 (dk_at dksX0_met_0 13 rfl rfl)
theorem dX0_met_16 : decode cX0_met 16 = .ok (.ifCond .eq 16, 3) := dk_153 0 16 (dk_at dksX0_met_0 16 rfl rfl)
theorem dX0_met_19 : decode cX0_met 19 = .ok (.iload_n 3, 1) := dk_29 (dk_at dksX0_met_0 19 rfl rfl)
theorem dX0_met_20 : decode cX0_met 20 = .ok (.i2l, 1) := dk_133 (dk_at dksX0_met_0 20 rfl rfl)
theorem dX0_met_21 : decode cX0_met 21 = .ok (.lconst 0, 1) := dk_9 (dk_at dksX0_met_0 21 rfl rfl)
theorem dX0_met_22 : decode cX0_met 22 = .ok (.iload_n 2, 1) := dk_28 (dk_at dksX0_met_0 22 rfl rfl)
theorem dX0_met_23 : decode cX0_met 23 = .ok (.iconst 1, 1) := dk_4 (dk_at dksX0_met_0 23 rfl rfl)
theorem dX0_met_24 : decode cX0_met 24 = .ok (.isub, 1) := dk_100 (dk_at dksX0_met_1 0 rfl rfl)
theorem dX0_met_25 : decode cX0_met 25 = .ok (.i2l, 1) := dk_133 (dk_at dksX0_met_1 1 rfl rfl)
theorem dX0_met_26 : decode cX0_met 26 = .ok (.invokestatic 21, 3) := dk_184 0 21 (dk_at dksX0_met_1 2 rfl rfl)
theorem dX0_met_29 : decode cX0_met 29 = .ok (.ifCond .ne 7, 3) := dk_154 0 7 (dk_at dksX0_met_1 5 rfl rfl)
theorem dX0_met_32 : decode cX0_met 32 = .ok (.ldc2_w 97, 3) := dk_20 0 97 (dk_at dksX0_met_1 8 rfl rfl)
theorem dX0_met_35 : decode cX0_met 35 = .ok (.lreturn, 1) := dk_173 (dk_at dksX0_met_1 11 rfl rfl)
theorem dX0_met_36 : decode cX0_met 36 = .ok (.aload_n 0, 1) := dk_42 (dk_at dksX0_met_1 12 rfl rfl)
theorem dX0_met_37 : decode cX0_met 37 = .ok (.aload 4, 2) := dk_25 4 (dk_at dksX0_met_1 13 rfl rfl)
theorem dX0_met_39 : decode cX0_met 39 = .ok (.iload_n 2, 1) := dk_28 (dk_at dksX0_met_1 15 rfl rfl)
theorem dX0_met_40 : decode cX0_met 40 = .ok (.invokevirtual 294, 3) := dk_182 1 38 (dk_at dksX0_met_1 16 rfl rfl)
theorem dX0_met_43 : decode cX0_met 43 = .ok (.aload_n 0, 1) := dk_42 (dk_at dksX0_met_1 19 rfl rfl)
theorem dX0_met_44 : decode cX0_met 44 = .ok (.getfield 205, 3) := dk_180 0 205 (dk_at dksX0_met_1 20 rfl rfl)
theorem dX0_met_47 : decode cX0_met 47 = .ok (.iload_n 3, 1) := dk_29 (dk_at dksX0_met_1 23 rfl rfl)
theorem dX0_met_48 : decode cX0_met 48 = .ok (.laload, 1) := dk_47 (dk_at dksX0_met_2 0 rfl rfl)
theorem dX0_met_49 : decode cX0_met 49 = .ok (.lreturn, 1) := dk_173 (dk_at dksX0_met_2 1 rfl rfl)
abbrev cX0_meets : ByteArray := prog_1_method_38_code
def yX0_meets : MethodName := ⟨RX0, "meets", "(IIII)I"⟩
def dkwX0_meets_7 : List UInt8 := [54, 6, 167, 0, 9, 132, 8, 1, 167, 255, 174, 132, 7, 1, 167, 255, 145, 2, 172]
abbrev dktX0_meets_7 : List UInt8 := dkwX0_meets_7 ++ []
def dkwX0_meets_6 : List UInt8 := [96, 50, 21, 9, 51, 154, 0, 6, 167, 0, 20, 21, 7, 21, 4, 160, 0, 6, 21, 8, 172, 21, 9]
abbrev dktX0_meets_6 : List UInt8 := dkwX0_meets_6 ++ dktX0_meets_7
def dkwX0_meets_5 : List UInt8 := [21, 8, 133, 182, 0, 60, 28, 133, 113, 136, 100, 28, 184, 1, 42, 54, 9, 42, 180, 0, 214, 21, 7, 4]
abbrev dktX0_meets_5 : List UInt8 := dkwX0_meets_5 ++ dktX0_meets_6
def dkwX0_meets_4 : List UInt8 := [180, 0, 47, 21, 7, 50, 28, 182, 1, 30, 162, 0, 71, 21, 6, 25, 5, 180, 0, 47, 21, 7, 50]
abbrev dktX0_meets_4 : List UInt8 := dkwX0_meets_4 ++ dktX0_meets_5
def dkwX0_meets_3 : List UInt8 := [163, 0, 110, 42, 180, 0, 214, 21, 7, 50, 21, 6, 51, 153, 0, 97, 3, 54, 8, 21, 8, 25, 5]
abbrev dktX0_meets_3 : List UInt8 := dkwX0_meets_3 ++ dktX0_meets_4
def dkwX0_meets_2 : List UInt8 := [154, 0, 5, 2, 172, 42, 25, 5, 28, 182, 1, 48, 29, 54, 6, 3, 54, 7, 21, 7, 21, 4]
abbrev dktX0_meets_2 : List UInt8 := dkwX0_meets_2 ++ dktX0_meets_3
def dkwX0_meets_1 : List UInt8 := [100, 133, 184, 0, 21, 153, 0, 21, 21, 4, 133, 9, 25, 5, 182, 0, 9, 4, 100, 133, 184, 0, 21]
abbrev dktX0_meets_1 : List UInt8 := dkwX0_meets_1 ++ dktX0_meets_2
def dkwX0_meets_0 : List UInt8 := [42, 27, 182, 0, 238, 58, 5, 25, 5, 198, 0, 41, 28, 184, 1, 35, 153, 0, 34, 29, 133, 9, 28, 4]
abbrev dktX0_meets_0 : List UInt8 := dkwX0_meets_0 ++ dktX0_meets_1
theorem dksX0_meets_0 : cX0_meets.data.toList.drop 0 = dktX0_meets_0 := by decide +kernel
theorem dksX0_meets_1 : cX0_meets.data.toList.drop 24 = dktX0_meets_1 := dk_seg dksX0_meets_0 24 rfl rfl
theorem dksX0_meets_2 : cX0_meets.data.toList.drop 47 = dktX0_meets_2 := dk_seg dksX0_meets_1 23 rfl rfl
theorem dksX0_meets_3 : cX0_meets.data.toList.drop 69 = dktX0_meets_3 := dk_seg dksX0_meets_2 22 rfl rfl
theorem dksX0_meets_4 : cX0_meets.data.toList.drop 92 = dktX0_meets_4 := dk_seg dksX0_meets_3 23 rfl rfl
theorem dksX0_meets_5 : cX0_meets.data.toList.drop 115 = dktX0_meets_5 := dk_seg dksX0_meets_4 23 rfl rfl
theorem dksX0_meets_6 : cX0_meets.data.toList.drop 139 = dktX0_meets_6 := dk_seg dksX0_meets_5 24 rfl rfl
theorem dksX0_meets_7 : cX0_meets.data.toList.drop 162 = dktX0_meets_7 := dk_seg dksX0_meets_6 23 rfl rfl
theorem dX0_meets_0 : decode cX0_meets 0 = .ok (.aload_n 0, 1) := dk_42 (dk_at dksX0_meets_0 0 rfl rfl)
theorem dX0_meets_1 : decode cX0_meets 1 = .ok (.iload_n 1, 1) := dk_27 (dk_at dksX0_meets_0 1 rfl rfl)
theorem dX0_meets_2 : decode cX0_meets 2 = .ok (.invokevirtual 238, 3) := dk_182 0 238 (dk_at dksX0_meets_0 2 rfl rfl)
theorem dX0_meets_5 : decode cX0_meets 5 = .ok (.astore 5, 2) := dk_58 5 (dk_at dksX0_meets_0 5 rfl rfl)
theorem dX0_meets_7 : decode cX0_meets 7 = .ok (.aload 5, 2) := dk_25 5 (dk_at dksX0_meets_0 7 rfl rfl)
theorem dX0_meets_9 : decode cX0_meets 9 = .ok (.ifnull 41, 3) := dk_198 0 41 (dk_at dksX0_meets_0 9 rfl rfl)
theorem dX0_meets_12 : decode cX0_meets 12 = .ok (.iload_n 2, 1) := dk_28 (dk_at dksX0_meets_0 12 rfl rfl)
theorem dX0_meets_13 : decode cX0_meets 13 = .ok (.invokestatic 291, 3) := dk_184 1 35 (dk_at dksX0_meets_0 13 rfl rfl)
theorem dX0_meets_16 : decode cX0_meets 16 = .ok (.ifCond .eq 34, 3) := dk_153 0 34 (dk_at dksX0_meets_0 16 rfl rfl)
theorem dX0_meets_19 : decode cX0_meets 19 = .ok (.iload_n 3, 1) := dk_29 (dk_at dksX0_meets_0 19 rfl rfl)
theorem dX0_meets_20 : decode cX0_meets 20 = .ok (.i2l, 1) := dk_133 (dk_at dksX0_meets_0 20 rfl rfl)
theorem dX0_meets_21 : decode cX0_meets 21 = .ok (.lconst 0, 1) := dk_9 (dk_at dksX0_meets_0 21 rfl rfl)
theorem dX0_meets_22 : decode cX0_meets 22 = .ok (.iload_n 2, 1) := dk_28 (dk_at dksX0_meets_0 22 rfl rfl)
theorem dX0_meets_23 : decode cX0_meets 23 = .ok (.iconst 1, 1) := dk_4 (dk_at dksX0_meets_0 23 rfl rfl)
theorem dX0_meets_24 : decode cX0_meets 24 = .ok (.isub, 1) := dk_100 (dk_at dksX0_meets_1 0 rfl rfl)
theorem dX0_meets_25 : decode cX0_meets 25 = .ok (.i2l, 1) := dk_133 (dk_at dksX0_meets_1 1 rfl rfl)
theorem dX0_meets_26 : decode cX0_meets 26 = .ok (.invokestatic 21, 3) := dk_184 0 21 (dk_at dksX0_meets_1 2 rfl rfl)
theorem dX0_meets_29 : decode cX0_meets 29 = .ok (.ifCond .eq 21, 3) := dk_153 0 21 (dk_at dksX0_meets_1 5 rfl rfl)
theorem dX0_meets_32 : decode cX0_meets 32 = .ok (.iload 4, 2) := dk_21 4 (dk_at dksX0_meets_1 8 rfl rfl)
theorem dX0_meets_34 : decode cX0_meets 34 = .ok (.i2l, 1) := dk_133 (dk_at dksX0_meets_1 10 rfl rfl)
theorem dX0_meets_35 : decode cX0_meets 35 = .ok (.lconst 0, 1) := dk_9 (dk_at dksX0_meets_1 11 rfl rfl)
theorem dX0_meets_36 : decode cX0_meets 36 = .ok (.aload 5, 2) := dk_25 5 (dk_at dksX0_meets_1 12 rfl rfl)
theorem dX0_meets_38 : decode cX0_meets 38 = .ok (.invokevirtual 9, 3) := dk_182 0 9 (dk_at dksX0_meets_1 14 rfl rfl)
theorem dX0_meets_41 : decode cX0_meets 41 = .ok (.iconst 1, 1) := dk_4 (dk_at dksX0_meets_1 17 rfl rfl)
theorem dX0_meets_42 : decode cX0_meets 42 = .ok (.isub, 1) := dk_100 (dk_at dksX0_meets_1 18 rfl rfl)
theorem dX0_meets_43 : decode cX0_meets 43 = .ok (.i2l, 1) := dk_133 (dk_at dksX0_meets_1 19 rfl rfl)
theorem dX0_meets_44 : decode cX0_meets 44 = .ok (.invokestatic 21, 3) := dk_184 0 21 (dk_at dksX0_meets_1 20 rfl rfl)
theorem dX0_meets_47 : decode cX0_meets 47 = .ok (.ifCond .ne 5, 3) := dk_154 0 5 (dk_at dksX0_meets_2 0 rfl rfl)
theorem dX0_meets_50 : decode cX0_meets 50 = .ok (.iconst (-1), 1) := dk_2 (dk_at dksX0_meets_2 3 rfl rfl)
theorem dX0_meets_51 : decode cX0_meets 51 = .ok (.ireturn, 1) := dk_172 (dk_at dksX0_meets_2 4 rfl rfl)
theorem dX0_meets_52 : decode cX0_meets 52 = .ok (.aload_n 0, 1) := dk_42 (dk_at dksX0_meets_2 5 rfl rfl)
theorem dX0_meets_53 : decode cX0_meets 53 = .ok (.aload 5, 2) := dk_25 5 (dk_at dksX0_meets_2 6 rfl rfl)
theorem dX0_meets_55 : decode cX0_meets 55 = .ok (.iload_n 2, 1) := dk_28 (dk_at dksX0_meets_2 8 rfl rfl)
theorem dX0_meets_56 : decode cX0_meets 56 = .ok (.invokevirtual 304, 3) := dk_182 1 48 (dk_at dksX0_meets_2 9 rfl rfl)
theorem dX0_meets_59 : decode cX0_meets 59 = .ok (.iload_n 3, 1) := dk_29 (dk_at dksX0_meets_2 12 rfl rfl)
theorem dX0_meets_60 : decode cX0_meets 60 = .ok (.istore 6, 2) := dk_54 6 (dk_at dksX0_meets_2 13 rfl rfl)
theorem dX0_meets_62 : decode cX0_meets 62 = .ok (.iconst 0, 1) := dk_3 (dk_at dksX0_meets_2 15 rfl rfl)
theorem dX0_meets_63 : decode cX0_meets 63 = .ok (.istore 7, 2) := dk_54 7 (dk_at dksX0_meets_2 16 rfl rfl)
theorem dX0_meets_65 : decode cX0_meets 65 = .ok (.iload 7, 2) := dk_21 7 (dk_at dksX0_meets_2 18 rfl rfl)
theorem dX0_meets_67 : decode cX0_meets 67 = .ok (.iload 4, 2) := dk_21 4 (dk_at dksX0_meets_2 20 rfl rfl)
theorem dX0_meets_69 : decode cX0_meets 69 = .ok (.if_icmp .gt 110, 3) := dk_163 0 110 (dk_at dksX0_meets_3 0 rfl rfl)
theorem dX0_meets_72 : decode cX0_meets 72 = .ok (.aload_n 0, 1) := dk_42 (dk_at dksX0_meets_3 3 rfl rfl)
theorem dX0_meets_73 : decode cX0_meets 73 = .ok (.getfield 214, 3) := dk_180 0 214 (dk_at dksX0_meets_3 4 rfl rfl)
theorem dX0_meets_76 : decode cX0_meets 76 = .ok (.iload 7, 2) := dk_21 7 (dk_at dksX0_meets_3 7 rfl rfl)
theorem dX0_meets_78 : decode cX0_meets 78 = .ok (.aaload, 1) := dk_50 (dk_at dksX0_meets_3 9 rfl rfl)
theorem dX0_meets_79 : decode cX0_meets 79 = .ok (.iload 6, 2) := dk_21 6 (dk_at dksX0_meets_3 10 rfl rfl)
theorem dX0_meets_81 : decode cX0_meets 81 = .ok (.baload, 1) := dk_51 (dk_at dksX0_meets_3 12 rfl rfl)
theorem dX0_meets_82 : decode cX0_meets 82 = .ok (.ifCond .eq 97, 3) := dk_153 0 97 (dk_at dksX0_meets_3 13 rfl rfl)
theorem dX0_meets_85 : decode cX0_meets 85 = .ok (.iconst 0, 1) := dk_3 (dk_at dksX0_meets_3 16 rfl rfl)
theorem dX0_meets_86 : decode cX0_meets 86 = .ok (.istore 8, 2) := dk_54 8 (dk_at dksX0_meets_3 17 rfl rfl)
theorem dX0_meets_88 : decode cX0_meets 88 = .ok (.iload 8, 2) := dk_21 8 (dk_at dksX0_meets_3 19 rfl rfl)
theorem dX0_meets_90 : decode cX0_meets 90 = .ok (.aload 5, 2) := dk_25 5 (dk_at dksX0_meets_3 21 rfl rfl)
theorem dX0_meets_92 : decode cX0_meets 92 = .ok (.getfield 47, 3) := dk_180 0 47 (dk_at dksX0_meets_4 0 rfl rfl)
theorem dX0_meets_95 : decode cX0_meets 95 = .ok (.iload 7, 2) := dk_21 7 (dk_at dksX0_meets_4 3 rfl rfl)
theorem dX0_meets_97 : decode cX0_meets 97 = .ok (.aaload, 1) := dk_50 (dk_at dksX0_meets_4 5 rfl rfl)
theorem dX0_meets_98 : decode cX0_meets 98 = .ok (.iload_n 2, 1) := dk_28 (dk_at dksX0_meets_4 6 rfl rfl)
theorem dX0_meets_99 : decode cX0_meets 99 = .ok (.invokevirtual 286, 3) := dk_182 1 30 (dk_at dksX0_meets_4 7 rfl rfl)
theorem dX0_meets_102 : decode cX0_meets 102 = .ok (.if_icmp .ge 71, 3) := dk_162 0 71 (dk_at dksX0_meets_4 10 rfl rfl)
theorem dX0_meets_105 : decode cX0_meets 105 = .ok (.iload 6, 2) := dk_21 6 (dk_at dksX0_meets_4 13 rfl rfl)
theorem dX0_meets_107 : decode cX0_meets 107 = .ok (.aload 5, 2) := dk_25 5 (dk_at dksX0_meets_4 15 rfl rfl)
theorem dX0_meets_109 : decode cX0_meets 109 = .ok (.getfield 47, 3) := dk_180 0 47 (dk_at dksX0_meets_4 17 rfl rfl)
theorem dX0_meets_112 : decode cX0_meets 112 = .ok (.iload 7, 2) := dk_21 7 (dk_at dksX0_meets_4 20 rfl rfl)
theorem dX0_meets_114 : decode cX0_meets 114 = .ok (.aaload, 1) := dk_50 (dk_at dksX0_meets_4 22 rfl rfl)
theorem dX0_meets_115 : decode cX0_meets 115 = .ok (.iload 8, 2) := dk_21 8 (dk_at dksX0_meets_5 0 rfl rfl)
theorem dX0_meets_117 : decode cX0_meets 117 = .ok (.i2l, 1) := dk_133 (dk_at dksX0_meets_5 2 rfl rfl)
theorem dX0_meets_118 : decode cX0_meets 118 = .ok (.invokevirtual 60, 3) := dk_182 0 60 (dk_at dksX0_meets_5 3 rfl rfl)
theorem dX0_meets_121 : decode cX0_meets 121 = .ok (.iload_n 2, 1) := dk_28 (dk_at dksX0_meets_5 6 rfl rfl)
theorem dX0_meets_122 : decode cX0_meets 122 = .ok (.i2l, 1) := dk_133 (dk_at dksX0_meets_5 7 rfl rfl)
theorem dX0_meets_123 : decode cX0_meets 123 = .ok (.lrem, 1) := dk_113 (dk_at dksX0_meets_5 8 rfl rfl)
theorem dX0_meets_124 : decode cX0_meets 124 = .ok (.l2i, 1) := dk_136 (dk_at dksX0_meets_5 9 rfl rfl)
theorem dX0_meets_125 : decode cX0_meets 125 = .ok (.isub, 1) := dk_100 (dk_at dksX0_meets_5 10 rfl rfl)
theorem dX0_meets_126 : decode cX0_meets 126 = .ok (.iload_n 2, 1) := dk_28 (dk_at dksX0_meets_5 11 rfl rfl)
theorem dX0_meets_127 : decode cX0_meets 127 = .ok (.invokestatic 298, 3) := dk_184 1 42 (dk_at dksX0_meets_5 12 rfl rfl)
theorem dX0_meets_130 : decode cX0_meets 130 = .ok (.istore 9, 2) := dk_54 9 (dk_at dksX0_meets_5 15 rfl rfl)
theorem dX0_meets_132 : decode cX0_meets 132 = .ok (.aload_n 0, 1) := dk_42 (dk_at dksX0_meets_5 17 rfl rfl)
theorem dX0_meets_133 : decode cX0_meets 133 = .ok (.getfield 214, 3) := dk_180 0 214 (dk_at dksX0_meets_5 18 rfl rfl)
theorem dX0_meets_136 : decode cX0_meets 136 = .ok (.iload 7, 2) := dk_21 7 (dk_at dksX0_meets_5 21 rfl rfl)
theorem dX0_meets_138 : decode cX0_meets 138 = .ok (.iconst 1, 1) := dk_4 (dk_at dksX0_meets_5 23 rfl rfl)
theorem dX0_meets_139 : decode cX0_meets 139 = .ok (.iadd, 1) := dk_96 (dk_at dksX0_meets_6 0 rfl rfl)
theorem dX0_meets_140 : decode cX0_meets 140 = .ok (.aaload, 1) := dk_50 (dk_at dksX0_meets_6 1 rfl rfl)
theorem dX0_meets_141 : decode cX0_meets 141 = .ok (.iload 9, 2) := dk_21 9 (dk_at dksX0_meets_6 2 rfl rfl)
theorem dX0_meets_143 : decode cX0_meets 143 = .ok (.baload, 1) := dk_51 (dk_at dksX0_meets_6 4 rfl rfl)
theorem dX0_meets_144 : decode cX0_meets 144 = .ok (.ifCond .ne 6, 3) := dk_154 0 6 (dk_at dksX0_meets_6 5 rfl rfl)
theorem dX0_meets_147 : decode cX0_meets 147 = .ok (.goto 20, 3) := dk_167 0 20 (dk_at dksX0_meets_6 8 rfl rfl)
theorem dX0_meets_150 : decode cX0_meets 150 = .ok (.iload 7, 2) := dk_21 7 (dk_at dksX0_meets_6 11 rfl rfl)
theorem dX0_meets_152 : decode cX0_meets 152 = .ok (.iload 4, 2) := dk_21 4 (dk_at dksX0_meets_6 13 rfl rfl)
theorem dX0_meets_154 : decode cX0_meets 154 = .ok (.if_icmp .ne 6, 3) := dk_160 0 6 (dk_at dksX0_meets_6 15 rfl rfl)
theorem dX0_meets_157 : decode cX0_meets 157 = .ok (.iload 8, 2) := dk_21 8 (dk_at dksX0_meets_6 18 rfl rfl)
theorem dX0_meets_159 : decode cX0_meets 159 = .ok (.ireturn, 1) := dk_172 (dk_at dksX0_meets_6 20 rfl rfl)
theorem dX0_meets_160 : decode cX0_meets 160 = .ok (.iload 9, 2) := dk_21 9 (dk_at dksX0_meets_6 21 rfl rfl)
theorem dX0_meets_162 : decode cX0_meets 162 = .ok (.istore 6, 2) := dk_54 6 (dk_at dksX0_meets_7 0 rfl rfl)
theorem dX0_meets_164 : decode cX0_meets 164 = .ok (.goto 9, 3) := dk_167 0 9 (dk_at dksX0_meets_7 2 rfl rfl)
theorem dX0_meets_167 : decode cX0_meets 167 = .ok (.iinc 8 1, 3) := dk_132 8 1 (dk_at dksX0_meets_7 5 rfl rfl)
theorem dX0_meets_170 : decode cX0_meets 170 = .ok (.goto (-82), 3) := dk_167 255 174 (dk_at dksX0_meets_7 8 rfl rfl)
theorem dX0_meets_173 : decode cX0_meets 173 = .ok (.iinc 7 1, 3) := dk_132 7 1 (dk_at dksX0_meets_7 11 rfl rfl)
theorem dX0_meets_176 : decode cX0_meets 176 = .ok (.goto (-111), 3) := dk_167 255 145 (dk_at dksX0_meets_7 14 rfl rfl)
theorem dX0_meets_179 : decode cX0_meets 179 = .ok (.iconst (-1), 1) := dk_2 (dk_at dksX0_meets_7 17 rfl rfl)
theorem dX0_meets_180 : decode cX0_meets 180 = .ok (.ireturn, 1) := dk_172 (dk_at dksX0_meets_7 18 rfl rfl)
abbrev cX0_laysCan : ByteArray := prog_1_method_37_code
def yX0_laysCan : MethodName := ⟨RX0, "laysCan", "(LToldPowers$Form;I)V"⟩
def dkwX0_laysCan_6 : List UInt8 := [167, 255, 177, 132, 3, 255, 167, 255, 164, 177]
abbrev dktX0_laysCan_6 : List UInt8 := dkwX0_laysCan_6 ++ []
def dkwX0_laysCan_5 : List UInt8 := [92, 51, 42, 180, 0, 214, 29, 4, 96, 50, 21, 6, 51, 128, 84, 132, 6, 1, 167, 255, 219, 132, 4, 1]
abbrev dktX0_laysCan_5 : List UInt8 := dkwX0_laysCan_5 ++ dktX0_laysCan_6
def dkwX0_laysCan_4 : List UInt8 := [54, 5, 3, 54, 6, 21, 6, 28, 162, 0, 37, 42, 180, 0, 214, 29, 50, 21, 6, 21, 5, 96, 28, 112]
abbrev dktX0_laysCan_4 : List UInt8 := dkwX0_laysCan_4 ++ dktX0_laysCan_5
def dkwX0_laysCan_3 : List UInt8 := [28, 182, 1, 30, 162, 0, 70, 43, 180, 0, 47, 29, 50, 21, 4, 133, 182, 0, 60, 28, 133, 113, 136]
abbrev dktX0_laysCan_3 : List UInt8 := dkwX0_laysCan_3 ++ dktX0_laysCan_4
def dkwX0_laysCan_2 : List UInt8 := [4, 84, 43, 182, 0, 9, 4, 100, 62, 29, 155, 0, 94, 3, 54, 4, 21, 4, 43, 180, 0, 47, 29, 50]
abbrev dktX0_laysCan_2 : List UInt8 := dkwX0_laysCan_2 ++ dktX0_laysCan_3
def dkwX0_laysCan_1 : List UInt8 := [58, 6, 25, 6, 3, 184, 1, 45, 132, 5, 1, 167, 255, 234, 42, 180, 0, 214, 43, 182, 0, 9, 50, 3]
abbrev dktX0_laysCan_1 : List UInt8 := dkwX0_laysCan_1 ++ dktX0_laysCan_2
def dkwX0_laysCan_0 : List UInt8 := [42, 180, 0, 214, 78, 45, 190, 54, 4, 3, 54, 5, 21, 5, 21, 4, 162, 0, 21, 45, 21, 5, 50]
abbrev dktX0_laysCan_0 : List UInt8 := dkwX0_laysCan_0 ++ dktX0_laysCan_1
theorem dksX0_laysCan_0 : cX0_laysCan.data.toList.drop 0 = dktX0_laysCan_0 := by decide +kernel
theorem dksX0_laysCan_1 : cX0_laysCan.data.toList.drop 23 = dktX0_laysCan_1 := dk_seg dksX0_laysCan_0 23 rfl rfl
theorem dksX0_laysCan_2 : cX0_laysCan.data.toList.drop 47 = dktX0_laysCan_2 := dk_seg dksX0_laysCan_1 24 rfl rfl
theorem dksX0_laysCan_3 : cX0_laysCan.data.toList.drop 71 = dktX0_laysCan_3 := dk_seg dksX0_laysCan_2 24 rfl rfl
theorem dksX0_laysCan_4 : cX0_laysCan.data.toList.drop 94 = dktX0_laysCan_4 := dk_seg dksX0_laysCan_3 23 rfl rfl
theorem dksX0_laysCan_5 : cX0_laysCan.data.toList.drop 118 = dktX0_laysCan_5 := dk_seg dksX0_laysCan_4 24 rfl rfl
theorem dksX0_laysCan_6 : cX0_laysCan.data.toList.drop 142 = dktX0_laysCan_6 := dk_seg dksX0_laysCan_5 24 rfl rfl
theorem dX0_laysCan_0 : decode cX0_laysCan 0 = .ok (.aload_n 0, 1) := dk_42 (dk_at dksX0_laysCan_0 0 rfl rfl)
theorem dX0_laysCan_1 : decode cX0_laysCan 1 = .ok (.getfield 214, 3) := dk_180 0 214 (dk_at dksX0_laysCan_0 1 rfl rfl)
theorem dX0_laysCan_4 : decode cX0_laysCan 4 = .ok (.astore_n 3, 1) := dk_78 (dk_at dksX0_laysCan_0 4 rfl rfl)
theorem dX0_laysCan_5 : decode cX0_laysCan 5 = .ok (.aload_n 3, 1) := dk_45 (dk_at dksX0_laysCan_0 5 rfl rfl)
theorem dX0_laysCan_6 : decode cX0_laysCan 6 = .ok (.arraylength, 1) := dk_190 (dk_at dksX0_laysCan_0 6 rfl rfl)
theorem dX0_laysCan_7 : decode cX0_laysCan 7 = .ok (.istore 4, 2) := dk_54 4 (dk_at dksX0_laysCan_0 7 rfl rfl)
theorem dX0_laysCan_9 : decode cX0_laysCan 9 = .ok (.iconst 0, 1) := dk_3 (dk_at dksX0_laysCan_0 9 rfl rfl)
theorem dX0_laysCan_10 : decode cX0_laysCan 10 = .ok (.istore 5, 2) := dk_54 5 (dk_at dksX0_laysCan_0 10 rfl rfl)
theorem dX0_laysCan_12 : decode cX0_laysCan 12 = .ok (.iload 5, 2) := dk_21 5 (dk_at dksX0_laysCan_0 12 rfl rfl)
theorem dX0_laysCan_14 : decode cX0_laysCan 14 = .ok (.iload 4, 2) := dk_21 4 (dk_at dksX0_laysCan_0 14 rfl rfl)
theorem dX0_laysCan_16 : decode cX0_laysCan 16 = .ok (.if_icmp .ge 21, 3) := dk_162 0 21 (dk_at dksX0_laysCan_0 16 rfl rfl)
theorem dX0_laysCan_19 : decode cX0_laysCan 19 = .ok (.aload_n 3, 1) := dk_45 (dk_at dksX0_laysCan_0 19 rfl rfl)
theorem dX0_laysCan_20 : decode cX0_laysCan 20 = .ok (.iload 5, 2) := dk_21 5 (dk_at dksX0_laysCan_0 20 rfl rfl)
theorem dX0_laysCan_22 : decode cX0_laysCan 22 = .ok (.aaload, 1) := dk_50 (dk_at dksX0_laysCan_0 22 rfl rfl)
theorem dX0_laysCan_23 : decode cX0_laysCan 23 = .ok (.astore 6, 2) := dk_58 6 (dk_at dksX0_laysCan_1 0 rfl rfl)
theorem dX0_laysCan_25 : decode cX0_laysCan 25 = .ok (.aload 6, 2) := dk_25 6 (dk_at dksX0_laysCan_1 2 rfl rfl)
theorem dX0_laysCan_27 : decode cX0_laysCan 27 = .ok (.iconst 0, 1) := dk_3 (dk_at dksX0_laysCan_1 4 rfl rfl)
theorem dX0_laysCan_28 : decode cX0_laysCan 28 = .ok (.invokestatic 301, 3) := dk_184 1 45 (dk_at dksX0_laysCan_1 5 rfl rfl)
theorem dX0_laysCan_31 : decode cX0_laysCan 31 = .ok (.iinc 5 1, 3) := dk_132 5 1 (dk_at dksX0_laysCan_1 8 rfl rfl)
theorem dX0_laysCan_34 : decode cX0_laysCan 34 = .ok (.goto (-22), 3) := dk_167 255 234 (dk_at dksX0_laysCan_1 11 rfl rfl)
theorem dX0_laysCan_37 : decode cX0_laysCan 37 = .ok (.aload_n 0, 1) := dk_42 (dk_at dksX0_laysCan_1 14 rfl rfl)
theorem dX0_laysCan_38 : decode cX0_laysCan 38 = .ok (.getfield 214, 3) := dk_180 0 214 (dk_at dksX0_laysCan_1 15 rfl rfl)
theorem dX0_laysCan_41 : decode cX0_laysCan 41 = .ok (.aload_n 1, 1) := dk_43 (dk_at dksX0_laysCan_1 18 rfl rfl)
theorem dX0_laysCan_42 : decode cX0_laysCan 42 = .ok (.invokevirtual 9, 3) := dk_182 0 9 (dk_at dksX0_laysCan_1 19 rfl rfl)
theorem dX0_laysCan_45 : decode cX0_laysCan 45 = .ok (.aaload, 1) := dk_50 (dk_at dksX0_laysCan_1 22 rfl rfl)
theorem dX0_laysCan_46 : decode cX0_laysCan 46 = .ok (.iconst 0, 1) := dk_3 (dk_at dksX0_laysCan_1 23 rfl rfl)
theorem dX0_laysCan_47 : decode cX0_laysCan 47 = .ok (.iconst 1, 1) := dk_4 (dk_at dksX0_laysCan_2 0 rfl rfl)
theorem dX0_laysCan_48 : decode cX0_laysCan 48 = .ok (.bastore, 1) := dk_84 (dk_at dksX0_laysCan_2 1 rfl rfl)
theorem dX0_laysCan_49 : decode cX0_laysCan 49 = .ok (.aload_n 1, 1) := dk_43 (dk_at dksX0_laysCan_2 2 rfl rfl)
theorem dX0_laysCan_50 : decode cX0_laysCan 50 = .ok (.invokevirtual 9, 3) := dk_182 0 9 (dk_at dksX0_laysCan_2 3 rfl rfl)
theorem dX0_laysCan_53 : decode cX0_laysCan 53 = .ok (.iconst 1, 1) := dk_4 (dk_at dksX0_laysCan_2 6 rfl rfl)
theorem dX0_laysCan_54 : decode cX0_laysCan 54 = .ok (.isub, 1) := dk_100 (dk_at dksX0_laysCan_2 7 rfl rfl)
theorem dX0_laysCan_55 : decode cX0_laysCan 55 = .ok (.istore_n 3, 1) := dk_62 (dk_at dksX0_laysCan_2 8 rfl rfl)
theorem dX0_laysCan_56 : decode cX0_laysCan 56 = .ok (.iload_n 3, 1) := dk_29 (dk_at dksX0_laysCan_2 9 rfl rfl)
theorem dX0_laysCan_57 : decode cX0_laysCan 57 = .ok (.ifCond .lt 94, 3) := dk_155 0 94 (dk_at dksX0_laysCan_2 10 rfl rfl)
theorem dX0_laysCan_60 : decode cX0_laysCan 60 = .ok (.iconst 0, 1) := dk_3 (dk_at dksX0_laysCan_2 13 rfl rfl)
theorem dX0_laysCan_61 : decode cX0_laysCan 61 = .ok (.istore 4, 2) := dk_54 4 (dk_at dksX0_laysCan_2 14 rfl rfl)
theorem dX0_laysCan_63 : decode cX0_laysCan 63 = .ok (.iload 4, 2) := dk_21 4 (dk_at dksX0_laysCan_2 16 rfl rfl)
theorem dX0_laysCan_65 : decode cX0_laysCan 65 = .ok (.aload_n 1, 1) := dk_43 (dk_at dksX0_laysCan_2 18 rfl rfl)
theorem dX0_laysCan_66 : decode cX0_laysCan 66 = .ok (.getfield 47, 3) := dk_180 0 47 (dk_at dksX0_laysCan_2 19 rfl rfl)
theorem dX0_laysCan_69 : decode cX0_laysCan 69 = .ok (.iload_n 3, 1) := dk_29 (dk_at dksX0_laysCan_2 22 rfl rfl)
theorem dX0_laysCan_70 : decode cX0_laysCan 70 = .ok (.aaload, 1) := dk_50 (dk_at dksX0_laysCan_2 23 rfl rfl)
theorem dX0_laysCan_71 : decode cX0_laysCan 71 = .ok (.iload_n 2, 1) := dk_28 (dk_at dksX0_laysCan_3 0 rfl rfl)
theorem dX0_laysCan_72 : decode cX0_laysCan 72 = .ok (.invokevirtual 286, 3) := dk_182 1 30 (dk_at dksX0_laysCan_3 1 rfl rfl)
theorem dX0_laysCan_75 : decode cX0_laysCan 75 = .ok (.if_icmp .ge 70, 3) := dk_162 0 70 (dk_at dksX0_laysCan_3 4 rfl rfl)
theorem dX0_laysCan_78 : decode cX0_laysCan 78 = .ok (.aload_n 1, 1) := dk_43 (dk_at dksX0_laysCan_3 7 rfl rfl)
theorem dX0_laysCan_79 : decode cX0_laysCan 79 = .ok (.getfield 47, 3) := dk_180 0 47 (dk_at dksX0_laysCan_3 8 rfl rfl)
theorem dX0_laysCan_82 : decode cX0_laysCan 82 = .ok (.iload_n 3, 1) := dk_29 (dk_at dksX0_laysCan_3 11 rfl rfl)
theorem dX0_laysCan_83 : decode cX0_laysCan 83 = .ok (.aaload, 1) := dk_50 (dk_at dksX0_laysCan_3 12 rfl rfl)
theorem dX0_laysCan_84 : decode cX0_laysCan 84 = .ok (.iload 4, 2) := dk_21 4 (dk_at dksX0_laysCan_3 13 rfl rfl)
theorem dX0_laysCan_86 : decode cX0_laysCan 86 = .ok (.i2l, 1) := dk_133 (dk_at dksX0_laysCan_3 15 rfl rfl)
theorem dX0_laysCan_87 : decode cX0_laysCan 87 = .ok (.invokevirtual 60, 3) := dk_182 0 60 (dk_at dksX0_laysCan_3 16 rfl rfl)
theorem dX0_laysCan_90 : decode cX0_laysCan 90 = .ok (.iload_n 2, 1) := dk_28 (dk_at dksX0_laysCan_3 19 rfl rfl)
theorem dX0_laysCan_91 : decode cX0_laysCan 91 = .ok (.i2l, 1) := dk_133 (dk_at dksX0_laysCan_3 20 rfl rfl)
theorem dX0_laysCan_92 : decode cX0_laysCan 92 = .ok (.lrem, 1) := dk_113 (dk_at dksX0_laysCan_3 21 rfl rfl)
theorem dX0_laysCan_93 : decode cX0_laysCan 93 = .ok (.l2i, 1) := dk_136 (dk_at dksX0_laysCan_3 22 rfl rfl)
theorem dX0_laysCan_94 : decode cX0_laysCan 94 = .ok (.istore 5, 2) := dk_54 5 (dk_at dksX0_laysCan_4 0 rfl rfl)
theorem dX0_laysCan_96 : decode cX0_laysCan 96 = .ok (.iconst 0, 1) := dk_3 (dk_at dksX0_laysCan_4 2 rfl rfl)
theorem dX0_laysCan_97 : decode cX0_laysCan 97 = .ok (.istore 6, 2) := dk_54 6 (dk_at dksX0_laysCan_4 3 rfl rfl)
theorem dX0_laysCan_99 : decode cX0_laysCan 99 = .ok (.iload 6, 2) := dk_21 6 (dk_at dksX0_laysCan_4 5 rfl rfl)
theorem dX0_laysCan_101 : decode cX0_laysCan 101 = .ok (.iload_n 2, 1) := dk_28 (dk_at dksX0_laysCan_4 7 rfl rfl)
theorem dX0_laysCan_102 : decode cX0_laysCan 102 = .ok (.if_icmp .ge 37, 3) := dk_162 0 37 (dk_at dksX0_laysCan_4 8 rfl rfl)
theorem dX0_laysCan_105 : decode cX0_laysCan 105 = .ok (.aload_n 0, 1) := dk_42 (dk_at dksX0_laysCan_4 11 rfl rfl)
theorem dX0_laysCan_106 : decode cX0_laysCan 106 = .ok (.getfield 214, 3) := dk_180 0 214 (dk_at dksX0_laysCan_4 12 rfl rfl)
theorem dX0_laysCan_109 : decode cX0_laysCan 109 = .ok (.iload_n 3, 1) := dk_29 (dk_at dksX0_laysCan_4 15 rfl rfl)
theorem dX0_laysCan_110 : decode cX0_laysCan 110 = .ok (.aaload, 1) := dk_50 (dk_at dksX0_laysCan_4 16 rfl rfl)
theorem dX0_laysCan_111 : decode cX0_laysCan 111 = .ok (.iload 6, 2) := dk_21 6 (dk_at dksX0_laysCan_4 17 rfl rfl)
theorem dX0_laysCan_113 : decode cX0_laysCan 113 = .ok (.iload 5, 2) := dk_21 5 (dk_at dksX0_laysCan_4 19 rfl rfl)
theorem dX0_laysCan_115 : decode cX0_laysCan 115 = .ok (.iadd, 1) := dk_96 (dk_at dksX0_laysCan_4 21 rfl rfl)
theorem dX0_laysCan_116 : decode cX0_laysCan 116 = .ok (.iload_n 2, 1) := dk_28 (dk_at dksX0_laysCan_4 22 rfl rfl)
theorem dX0_laysCan_117 : decode cX0_laysCan 117 = .ok (.irem, 1) := dk_112 (dk_at dksX0_laysCan_4 23 rfl rfl)
theorem dX0_laysCan_118 : decode cX0_laysCan 118 = .ok (.dup2, 1) := dk_92 (dk_at dksX0_laysCan_5 0 rfl rfl)
theorem dX0_laysCan_119 : decode cX0_laysCan 119 = .ok (.baload, 1) := dk_51 (dk_at dksX0_laysCan_5 1 rfl rfl)
theorem dX0_laysCan_120 : decode cX0_laysCan 120 = .ok (.aload_n 0, 1) := dk_42 (dk_at dksX0_laysCan_5 2 rfl rfl)
theorem dX0_laysCan_121 : decode cX0_laysCan 121 = .ok (.getfield 214, 3) := dk_180 0 214 (dk_at dksX0_laysCan_5 3 rfl rfl)
theorem dX0_laysCan_124 : decode cX0_laysCan 124 = .ok (.iload_n 3, 1) := dk_29 (dk_at dksX0_laysCan_5 6 rfl rfl)
theorem dX0_laysCan_125 : decode cX0_laysCan 125 = .ok (.iconst 1, 1) := dk_4 (dk_at dksX0_laysCan_5 7 rfl rfl)
theorem dX0_laysCan_126 : decode cX0_laysCan 126 = .ok (.iadd, 1) := dk_96 (dk_at dksX0_laysCan_5 8 rfl rfl)
theorem dX0_laysCan_127 : decode cX0_laysCan 127 = .ok (.aaload, 1) := dk_50 (dk_at dksX0_laysCan_5 9 rfl rfl)
theorem dX0_laysCan_128 : decode cX0_laysCan 128 = .ok (.iload 6, 2) := dk_21 6 (dk_at dksX0_laysCan_5 10 rfl rfl)
theorem dX0_laysCan_130 : decode cX0_laysCan 130 = .ok (.baload, 1) := dk_51 (dk_at dksX0_laysCan_5 12 rfl rfl)
theorem dX0_laysCan_131 : decode cX0_laysCan 131 = .ok (.ior, 1) := dk_128 (dk_at dksX0_laysCan_5 13 rfl rfl)
theorem dX0_laysCan_132 : decode cX0_laysCan 132 = .ok (.bastore, 1) := dk_84 (dk_at dksX0_laysCan_5 14 rfl rfl)
theorem dX0_laysCan_133 : decode cX0_laysCan 133 = .ok (.iinc 6 1, 3) := dk_132 6 1 (dk_at dksX0_laysCan_5 15 rfl rfl)
theorem dX0_laysCan_136 : decode cX0_laysCan 136 = .ok (.goto (-37), 3) := dk_167 255 219 (dk_at dksX0_laysCan_5 18 rfl rfl)
theorem dX0_laysCan_139 : decode cX0_laysCan 139 = .ok (.iinc 4 1, 3) := dk_132 4 1 (dk_at dksX0_laysCan_5 21 rfl rfl)
theorem dX0_laysCan_142 : decode cX0_laysCan 142 = .ok (.goto (-79), 3) := dk_167 255 177 (dk_at dksX0_laysCan_6 0 rfl rfl)
theorem dX0_laysCan_145 : decode cX0_laysCan 145 = .ok (.iinc 3 (-1), 3) := dk_132 3 255 (dk_at dksX0_laysCan_6 3 rfl rfl)
theorem dX0_laysCan_148 : decode cX0_laysCan 148 = .ok (.goto (-92), 3) := dk_167 255 164 (dk_at dksX0_laysCan_6 6 rfl rfl)
theorem dX0_laysCan_151 : decode cX0_laysCan 151 = .ok (.return_, 1) := dk_177 (dk_at dksX0_laysCan_6 9 rfl rfl)
abbrev cX0_never : ByteArray := prog_1_method_39_code
def yX0_never : MethodName := ⟨RX0, "never", "(III)I"⟩
def dkwX0_never_3 : List UInt8 := [167, 255, 220, 29, 2, 160, 0, 8, 21, 5, 167, 0, 4, 2, 172]
abbrev dktX0_never_3 : List UInt8 := dkwX0_never_3 ++ []
def dkwX0_never_2 : List UInt8 := [148, 158, 0, 6, 167, 0, 15, 21, 5, 29, 160, 0, 6, 21, 6, 172, 132, 5, 1, 132, 6, 1]
abbrev dktX0_never_2 : List UInt8 := dkwX0_never_2 ++ dktX0_never_3
def dkwX0_never_1 : List UInt8 := [28, 182, 1, 38, 3, 54, 5, 3, 54, 6, 21, 6, 28, 162, 0, 36, 42, 180, 0, 205, 21, 6, 47, 9]
abbrev dktX0_never_1 : List UInt8 := dkwX0_never_1 ++ dktX0_never_2
def dkwX0_never_0 : List UInt8 := [42, 27, 182, 0, 238, 58, 4, 25, 4, 198, 0, 10, 28, 184, 1, 35, 154, 0, 5, 2, 172, 42, 25, 4]
abbrev dktX0_never_0 : List UInt8 := dkwX0_never_0 ++ dktX0_never_1
theorem dksX0_never_0 : cX0_never.data.toList.drop 0 = dktX0_never_0 := by decide +kernel
theorem dksX0_never_1 : cX0_never.data.toList.drop 24 = dktX0_never_1 := dk_seg dksX0_never_0 24 rfl rfl
theorem dksX0_never_2 : cX0_never.data.toList.drop 48 = dktX0_never_2 := dk_seg dksX0_never_1 24 rfl rfl
theorem dksX0_never_3 : cX0_never.data.toList.drop 70 = dktX0_never_3 := dk_seg dksX0_never_2 22 rfl rfl
theorem dX0_never_0 : decode cX0_never 0 = .ok (.aload_n 0, 1) := dk_42 (dk_at dksX0_never_0 0 rfl rfl)
theorem dX0_never_1 : decode cX0_never 1 = .ok (.iload_n 1, 1) := dk_27 (dk_at dksX0_never_0 1 rfl rfl)
theorem dX0_never_2 : decode cX0_never 2 = .ok (.invokevirtual 238, 3) := dk_182 0 238 (dk_at dksX0_never_0 2 rfl rfl)
theorem dX0_never_5 : decode cX0_never 5 = .ok (.astore 4, 2) := dk_58 4 (dk_at dksX0_never_0 5 rfl rfl)
theorem dX0_never_7 : decode cX0_never 7 = .ok (.aload 4, 2) := dk_25 4 (dk_at dksX0_never_0 7 rfl rfl)
theorem dX0_never_9 : decode cX0_never 9 = .ok (.ifnull 10, 3) := dk_198 0 10 (dk_at dksX0_never_0 9 rfl rfl)
theorem dX0_never_12 : decode cX0_never 12 = .ok (.iload_n 2, 1) := dk_28 (dk_at dksX0_never_0 12 rfl rfl)
theorem dX0_never_13 : decode cX0_never 13 = .ok (.invokestatic 291, 3) := dk_184 1 35 (dk_at dksX0_never_0 13 rfl rfl)
theorem dX0_never_16 : decode cX0_never 16 = .ok (.ifCond .ne 5, 3) := dk_154 0 5 (dk_at dksX0_never_0 16 rfl rfl)
theorem dX0_never_19 : decode cX0_never 19 = .ok (.iconst (-1), 1) := dk_2 (dk_at dksX0_never_0 19 rfl rfl)
theorem dX0_never_20 : decode cX0_never 20 = .ok (.ireturn, 1) := dk_172 (dk_at dksX0_never_0 20 rfl rfl)
theorem dX0_never_21 : decode cX0_never 21 = .ok (.aload_n 0, 1) := dk_42 (dk_at dksX0_never_0 21 rfl rfl)
theorem dX0_never_22 : decode cX0_never 22 = .ok (.aload 4, 2) := dk_25 4 (dk_at dksX0_never_0 22 rfl rfl)
theorem dX0_never_24 : decode cX0_never 24 = .ok (.iload_n 2, 1) := dk_28 (dk_at dksX0_never_1 0 rfl rfl)
theorem dX0_never_25 : decode cX0_never 25 = .ok (.invokevirtual 294, 3) := dk_182 1 38 (dk_at dksX0_never_1 1 rfl rfl)
theorem dX0_never_28 : decode cX0_never 28 = .ok (.iconst 0, 1) := dk_3 (dk_at dksX0_never_1 4 rfl rfl)
theorem dX0_never_29 : decode cX0_never 29 = .ok (.istore 5, 2) := dk_54 5 (dk_at dksX0_never_1 5 rfl rfl)
theorem dX0_never_31 : decode cX0_never 31 = .ok (.iconst 0, 1) := dk_3 (dk_at dksX0_never_1 7 rfl rfl)
theorem dX0_never_32 : decode cX0_never 32 = .ok (.istore 6, 2) := dk_54 6 (dk_at dksX0_never_1 8 rfl rfl)
theorem dX0_never_34 : decode cX0_never 34 = .ok (.iload 6, 2) := dk_21 6 (dk_at dksX0_never_1 10 rfl rfl)
theorem dX0_never_36 : decode cX0_never 36 = .ok (.iload_n 2, 1) := dk_28 (dk_at dksX0_never_1 12 rfl rfl)
theorem dX0_never_37 : decode cX0_never 37 = .ok (.if_icmp .ge 36, 3) := dk_162 0 36 (dk_at dksX0_never_1 13 rfl rfl)
theorem dX0_never_40 : decode cX0_never 40 = .ok (.aload_n 0, 1) := dk_42 (dk_at dksX0_never_1 16 rfl rfl)
theorem dX0_never_41 : decode cX0_never 41 = .ok (.getfield 205, 3) := dk_180 0 205 (dk_at dksX0_never_1 17 rfl rfl)
theorem dX0_never_44 : decode cX0_never 44 = .ok (.iload 6, 2) := dk_21 6 (dk_at dksX0_never_1 20 rfl rfl)
theorem dX0_never_46 : decode cX0_never 46 = .ok (.laload, 1) := dk_47 (dk_at dksX0_never_1 22 rfl rfl)
theorem dX0_never_47 : decode cX0_never 47 = .ok (.lconst 0, 1) := dk_9 (dk_at dksX0_never_1 23 rfl rfl)
theorem dX0_never_48 : decode cX0_never 48 = .ok (.lcmp, 1) := dk_148 (dk_at dksX0_never_2 0 rfl rfl)
theorem dX0_never_49 : decode cX0_never 49 = .ok (.ifCond .le 6, 3) := dk_158 0 6 (dk_at dksX0_never_2 1 rfl rfl)
theorem dX0_never_52 : decode cX0_never 52 = .ok (.goto 15, 3) := dk_167 0 15 (dk_at dksX0_never_2 4 rfl rfl)
theorem dX0_never_55 : decode cX0_never 55 = .ok (.iload 5, 2) := dk_21 5 (dk_at dksX0_never_2 7 rfl rfl)
theorem dX0_never_57 : decode cX0_never 57 = .ok (.iload_n 3, 1) := dk_29 (dk_at dksX0_never_2 9 rfl rfl)
theorem dX0_never_58 : decode cX0_never 58 = .ok (.if_icmp .ne 6, 3) := dk_160 0 6 (dk_at dksX0_never_2 10 rfl rfl)
theorem dX0_never_61 : decode cX0_never 61 = .ok (.iload 6, 2) := dk_21 6 (dk_at dksX0_never_2 13 rfl rfl)
theorem dX0_never_63 : decode cX0_never 63 = .ok (.ireturn, 1) := dk_172 (dk_at dksX0_never_2 15 rfl rfl)
theorem dX0_never_64 : decode cX0_never 64 = .ok (.iinc 5 1, 3) := dk_132 5 1 (dk_at dksX0_never_2 16 rfl rfl)
theorem dX0_never_67 : decode cX0_never 67 = .ok (.iinc 6 1, 3) := dk_132 6 1 (dk_at dksX0_never_2 19 rfl rfl)
theorem dX0_never_70 : decode cX0_never 70 = .ok (.goto (-36), 3) := dk_167 255 220 (dk_at dksX0_never_3 0 rfl rfl)
theorem dX0_never_73 : decode cX0_never 73 = .ok (.iload_n 3, 1) := dk_29 (dk_at dksX0_never_3 3 rfl rfl)
theorem dX0_never_74 : decode cX0_never 74 = .ok (.iconst (-1), 1) := dk_2 (dk_at dksX0_never_3 4 rfl rfl)
theorem dX0_never_75 : decode cX0_never 75 = .ok (.if_icmp .ne 8, 3) := dk_160 0 8 (dk_at dksX0_never_3 5 rfl rfl)
theorem dX0_never_78 : decode cX0_never 78 = .ok (.iload 5, 2) := dk_21 5 (dk_at dksX0_never_3 8 rfl rfl)
theorem dX0_never_80 : decode cX0_never 80 = .ok (.goto 4, 3) := dk_167 0 4 (dk_at dksX0_never_3 10 rfl rfl)
theorem dX0_never_83 : decode cX0_never 83 = .ok (.iconst (-1), 1) := dk_2 (dk_at dksX0_never_3 13 rfl rfl)
theorem dX0_never_84 : decode cX0_never 84 = .ok (.ireturn, 1) := dk_172 (dk_at dksX0_never_3 14 rfl rfl)
abbrev cX0_bars : ByteArray := prog_1_method_40_code
def yX0_bars : MethodName := ⟨RX0, "bars", "(I)I"⟩
def dkwX0_bars_1 : List UInt8 := [167, 255, 235, 2, 172]
abbrev dktX0_bars_1 : List UInt8 := dkwX0_bars_1 ++ []
def dkwX0_bars_0 : List UInt8 := [4, 61, 28, 16, 60, 163, 0, 21, 42, 27, 28, 2, 182, 1, 51, 158, 0, 5, 28, 172, 132, 2, 1]
abbrev dktX0_bars_0 : List UInt8 := dkwX0_bars_0 ++ dktX0_bars_1
theorem dksX0_bars_0 : cX0_bars.data.toList.drop 0 = dktX0_bars_0 := by decide +kernel
theorem dksX0_bars_1 : cX0_bars.data.toList.drop 23 = dktX0_bars_1 := dk_seg dksX0_bars_0 23 rfl rfl
theorem dX0_bars_0 : decode cX0_bars 0 = .ok (.iconst 1, 1) := dk_4 (dk_at dksX0_bars_0 0 rfl rfl)
theorem dX0_bars_1 : decode cX0_bars 1 = .ok (.istore_n 2, 1) := dk_61 (dk_at dksX0_bars_0 1 rfl rfl)
theorem dX0_bars_2 : decode cX0_bars 2 = .ok (.iload_n 2, 1) := dk_28 (dk_at dksX0_bars_0 2 rfl rfl)
theorem dX0_bars_3 : decode cX0_bars 3 = .ok (.bipush 60, 2) := dk_16 60 (dk_at dksX0_bars_0 3 rfl rfl)
theorem dX0_bars_5 : decode cX0_bars 5 = .ok (.if_icmp .gt 21, 3) := dk_163 0 21 (dk_at dksX0_bars_0 5 rfl rfl)
theorem dX0_bars_8 : decode cX0_bars 8 = .ok (.aload_n 0, 1) := dk_42 (dk_at dksX0_bars_0 8 rfl rfl)
theorem dX0_bars_9 : decode cX0_bars 9 = .ok (.iload_n 1, 1) := dk_27 (dk_at dksX0_bars_0 9 rfl rfl)
theorem dX0_bars_10 : decode cX0_bars 10 = .ok (.iload_n 2, 1) := dk_28 (dk_at dksX0_bars_0 10 rfl rfl)
theorem dX0_bars_11 : decode cX0_bars 11 = .ok (.iconst (-1), 1) := dk_2 (dk_at dksX0_bars_0 11 rfl rfl)
theorem dX0_bars_12 : decode cX0_bars 12 = .ok (.invokevirtual 307, 3) := dk_182 1 51 (dk_at dksX0_bars_0 12 rfl rfl)
theorem dX0_bars_15 : decode cX0_bars 15 = .ok (.ifCond .le 5, 3) := dk_158 0 5 (dk_at dksX0_bars_0 15 rfl rfl)
theorem dX0_bars_18 : decode cX0_bars 18 = .ok (.iload_n 2, 1) := dk_28 (dk_at dksX0_bars_0 18 rfl rfl)
theorem dX0_bars_19 : decode cX0_bars 19 = .ok (.ireturn, 1) := dk_172 (dk_at dksX0_bars_0 19 rfl rfl)
theorem dX0_bars_20 : decode cX0_bars 20 = .ok (.iinc 2 1, 3) := dk_132 2 1 (dk_at dksX0_bars_0 20 rfl rfl)
theorem dX0_bars_23 : decode cX0_bars 23 = .ok (.goto (-21), 3) := dk_167 255 235 (dk_at dksX0_bars_1 0 rfl rfl)
theorem dX0_bars_26 : decode cX0_bars 26 = .ok (.iconst (-1), 1) := dk_2 (dk_at dksX0_bars_1 3 rfl rfl)
theorem dX0_bars_27 : decode cX0_bars 27 = .ok (.ireturn, 1) := dk_172 (dk_at dksX0_bars_1 4 rfl rfl)
abbrev cX0_many : ByteArray := prog_1_method_41_code
def yX0_many : MethodName := ⟨RX0, "many", "(IIIZ)I"⟩
def dkwX0_many_4 : List UInt8 := [19, 1, 2, 172]
abbrev dktX0_many_4 : List UInt8 := dkwX0_many_4 ++ []
def dkwX0_many_3 : List UInt8 := [25, 5, 21, 6, 182, 1, 15, 29, 133, 148, 155, 0, 6, 21, 6, 172, 132, 6, 1, 167, 255, 206]
abbrev dktX0_many_3 : List UInt8 := dkwX0_many_3 ++ dktX0_many_4
def dkwX0_many_2 : List UInt8 := [21, 4, 153, 0, 20, 42, 25, 5, 21, 6, 182, 1, 15, 29, 133, 148, 154, 0, 23, 167, 0, 17, 42]
abbrev dktX0_many_2 : List UInt8 := dkwX0_many_2 ++ dktX0_many_3
def dkwX0_many_1 : List UInt8 := [20, 1, 55, 184, 0, 21, 154, 0, 7, 19, 1, 2, 172, 28, 54, 6, 21, 6, 17, 11, 184, 163, 0, 48]
abbrev dktX0_many_1 : List UInt8 := dkwX0_many_1 ++ dktX0_many_2
def dkwX0_many_0 : List UInt8 := [42, 27, 182, 0, 238, 58, 5, 25, 5, 198, 0, 22, 28, 184, 0, 29, 153, 0, 15, 29, 133, 10]
abbrev dktX0_many_0 : List UInt8 := dkwX0_many_0 ++ dktX0_many_1
theorem dksX0_many_0 : cX0_many.data.toList.drop 0 = dktX0_many_0 := by decide +kernel
theorem dksX0_many_1 : cX0_many.data.toList.drop 22 = dktX0_many_1 := dk_seg dksX0_many_0 22 rfl rfl
theorem dksX0_many_2 : cX0_many.data.toList.drop 46 = dktX0_many_2 := dk_seg dksX0_many_1 24 rfl rfl
theorem dksX0_many_3 : cX0_many.data.toList.drop 69 = dktX0_many_3 := dk_seg dksX0_many_2 23 rfl rfl
theorem dksX0_many_4 : cX0_many.data.toList.drop 91 = dktX0_many_4 := dk_seg dksX0_many_3 22 rfl rfl
theorem dX0_many_0 : decode cX0_many 0 = .ok (.aload_n 0, 1) := dk_42 (dk_at dksX0_many_0 0 rfl rfl)
theorem dX0_many_1 : decode cX0_many 1 = .ok (.iload_n 1, 1) := dk_27 (dk_at dksX0_many_0 1 rfl rfl)
theorem dX0_many_2 : decode cX0_many 2 = .ok (.invokevirtual 238, 3) := dk_182 0 238 (dk_at dksX0_many_0 2 rfl rfl)
theorem dX0_many_5 : decode cX0_many 5 = .ok (.astore 5, 2) := dk_58 5 (dk_at dksX0_many_0 5 rfl rfl)
theorem dX0_many_7 : decode cX0_many 7 = .ok (.aload 5, 2) := dk_25 5 (dk_at dksX0_many_0 7 rfl rfl)
theorem dX0_many_9 : decode cX0_many 9 = .ok (.ifnull 22, 3) := dk_198 0 22 (dk_at dksX0_many_0 9 rfl rfl)
theorem dX0_many_12 : decode cX0_many 12 = .ok (.iload_n 2, 1) := dk_28 (dk_at dksX0_many_0 12 rfl rfl)
theorem dX0_many_13 : decode cX0_many 13 = .ok (.invokestatic 29, 3) := dk_184 0 29 (dk_at dksX0_many_0 13 rfl rfl)
theorem dX0_many_16 : decode cX0_many 16 = .ok (.ifCond .eq 15, 3) := dk_153 0 15 (dk_at dksX0_many_0 16 rfl rfl)
theorem dX0_many_19 : decode cX0_many 19 = .ok (.iload_n 3, 1) := dk_29 (dk_at dksX0_many_0 19 rfl rfl)
theorem dX0_many_20 : decode cX0_many 20 = .ok (.i2l, 1) := dk_133 (dk_at dksX0_many_0 20 rfl rfl)
theorem dX0_many_21 : decode cX0_many 21 = .ok (.lconst 1, 1) := dk_10 (dk_at dksX0_many_0 21 rfl rfl)
theorem dX0_many_22 : decode cX0_many 22 = .ok (.ldc2_w 311, 3) := dk_20 1 55 (dk_at dksX0_many_1 0 rfl rfl)
theorem dX0_many_25 : decode cX0_many 25 = .ok (.invokestatic 21, 3) := dk_184 0 21 (dk_at dksX0_many_1 3 rfl rfl)
theorem dX0_many_28 : decode cX0_many 28 = .ok (.ifCond .ne 7, 3) := dk_154 0 7 (dk_at dksX0_many_1 6 rfl rfl)
theorem dX0_many_31 : decode cX0_many 31 = .ok (.ldc_w 258, 3) := dk_19 1 2 (dk_at dksX0_many_1 9 rfl rfl)
theorem dX0_many_34 : decode cX0_many 34 = .ok (.ireturn, 1) := dk_172 (dk_at dksX0_many_1 12 rfl rfl)
theorem dX0_many_35 : decode cX0_many 35 = .ok (.iload_n 2, 1) := dk_28 (dk_at dksX0_many_1 13 rfl rfl)
theorem dX0_many_36 : decode cX0_many 36 = .ok (.istore 6, 2) := dk_54 6 (dk_at dksX0_many_1 14 rfl rfl)
theorem dX0_many_38 : decode cX0_many 38 = .ok (.iload 6, 2) := dk_21 6 (dk_at dksX0_many_1 16 rfl rfl)
theorem dX0_many_40 : decode cX0_many 40 = .ok (.sipush 3000, 3) := dk_17 11 184 (dk_at dksX0_many_1 18 rfl rfl)
theorem dX0_many_43 : decode cX0_many 43 = .ok (.if_icmp .gt 48, 3) := dk_163 0 48 (dk_at dksX0_many_1 21 rfl rfl)
theorem dX0_many_46 : decode cX0_many 46 = .ok (.iload 4, 2) := dk_21 4 (dk_at dksX0_many_2 0 rfl rfl)
theorem dX0_many_48 : decode cX0_many 48 = .ok (.ifCond .eq 20, 3) := dk_153 0 20 (dk_at dksX0_many_2 2 rfl rfl)
theorem dX0_many_51 : decode cX0_many 51 = .ok (.aload_n 0, 1) := dk_42 (dk_at dksX0_many_2 5 rfl rfl)
theorem dX0_many_52 : decode cX0_many 52 = .ok (.aload 5, 2) := dk_25 5 (dk_at dksX0_many_2 6 rfl rfl)
theorem dX0_many_54 : decode cX0_many 54 = .ok (.iload 6, 2) := dk_21 6 (dk_at dksX0_many_2 8 rfl rfl)
theorem dX0_many_56 : decode cX0_many 56 = .ok (.invokevirtual 271, 3) := dk_182 1 15 (dk_at dksX0_many_2 10 rfl rfl)
theorem dX0_many_59 : decode cX0_many 59 = .ok (.iload_n 3, 1) := dk_29 (dk_at dksX0_many_2 13 rfl rfl)
theorem dX0_many_60 : decode cX0_many 60 = .ok (.i2l, 1) := dk_133 (dk_at dksX0_many_2 14 rfl rfl)
theorem dX0_many_61 : decode cX0_many 61 = .ok (.lcmp, 1) := dk_148 (dk_at dksX0_many_2 15 rfl rfl)
theorem dX0_many_62 : decode cX0_many 62 = .ok (.ifCond .ne 23, 3) := dk_154 0 23 (dk_at dksX0_many_2 16 rfl rfl)
theorem dX0_many_65 : decode cX0_many 65 = .ok (.goto 17, 3) := dk_167 0 17 (dk_at dksX0_many_2 19 rfl rfl)
theorem dX0_many_68 : decode cX0_many 68 = .ok (.aload_n 0, 1) := dk_42 (dk_at dksX0_many_2 22 rfl rfl)
theorem dX0_many_69 : decode cX0_many 69 = .ok (.aload 5, 2) := dk_25 5 (dk_at dksX0_many_3 0 rfl rfl)
theorem dX0_many_71 : decode cX0_many 71 = .ok (.iload 6, 2) := dk_21 6 (dk_at dksX0_many_3 2 rfl rfl)
theorem dX0_many_73 : decode cX0_many 73 = .ok (.invokevirtual 271, 3) := dk_182 1 15 (dk_at dksX0_many_3 4 rfl rfl)
theorem dX0_many_76 : decode cX0_many 76 = .ok (.iload_n 3, 1) := dk_29 (dk_at dksX0_many_3 7 rfl rfl)
theorem dX0_many_77 : decode cX0_many 77 = .ok (.i2l, 1) := dk_133 (dk_at dksX0_many_3 8 rfl rfl)
theorem dX0_many_78 : decode cX0_many 78 = .ok (.lcmp, 1) := dk_148 (dk_at dksX0_many_3 9 rfl rfl)
theorem dX0_many_79 : decode cX0_many 79 = .ok (.ifCond .lt 6, 3) := dk_155 0 6 (dk_at dksX0_many_3 10 rfl rfl)
theorem dX0_many_82 : decode cX0_many 82 = .ok (.iload 6, 2) := dk_21 6 (dk_at dksX0_many_3 13 rfl rfl)
theorem dX0_many_84 : decode cX0_many 84 = .ok (.ireturn, 1) := dk_172 (dk_at dksX0_many_3 15 rfl rfl)
theorem dX0_many_85 : decode cX0_many 85 = .ok (.iinc 6 1, 3) := dk_132 6 1 (dk_at dksX0_many_3 16 rfl rfl)
theorem dX0_many_88 : decode cX0_many 88 = .ok (.goto (-50), 3) := dk_167 255 206 (dk_at dksX0_many_3 19 rfl rfl)
theorem dX0_many_91 : decode cX0_many 91 = .ok (.ldc_w 258, 3) := dk_19 1 2 (dk_at dksX0_many_4 0 rfl rfl)
theorem dX0_many_94 : decode cX0_many 94 = .ok (.ireturn, 1) := dk_172 (dk_at dksX0_many_4 3 rfl rfl)
abbrev cX0_greed : ByteArray := prog_1_method_43_code
def yX0_greed : MethodName := ⟨RX0, "greed", "(III)I"⟩
def dkwX0_greed_4 : List UInt8 := [21, 8, 133, 182, 0, 60, 101, 55, 5, 132, 7, 1, 167, 255, 200, 22, 5, 136, 172]
abbrev dktX0_greed_4 : List UInt8 := dkwX0_greed_4 ++ []
def dkwX0_greed_3 : List UInt8 := [184, 1, 57, 54, 8, 21, 7, 29, 160, 0, 6, 21, 8, 172, 22, 5, 25, 4, 180, 0, 47, 21, 7, 50]
abbrev dktX0_greed_3 : List UInt8 := dkwX0_greed_3 ++ dktX0_greed_4
def dkwX0_greed_2 : List UInt8 := [54, 7, 21, 7, 25, 4, 182, 0, 9, 162, 0, 52, 25, 4, 180, 0, 47, 21, 7, 50, 22, 5]
abbrev dktX0_greed_2 : List UInt8 := dkwX0_greed_2 ++ dktX0_greed_3
def dkwX0_greed_1 : List UInt8 := [25, 4, 182, 0, 9, 4, 100, 133, 184, 0, 21, 154, 0, 7, 19, 1, 2, 172, 28, 133, 55, 5, 3]
abbrev dktX0_greed_1 : List UInt8 := dkwX0_greed_1 ++ dktX0_greed_2
def dkwX0_greed_0 : List UInt8 := [42, 27, 182, 0, 238, 58, 4, 25, 4, 198, 0, 29, 28, 184, 0, 29, 153, 0, 22, 29, 133, 20, 0, 97]
abbrev dktX0_greed_0 : List UInt8 := dkwX0_greed_0 ++ dktX0_greed_1
theorem dksX0_greed_0 : cX0_greed.data.toList.drop 0 = dktX0_greed_0 := by decide +kernel
theorem dksX0_greed_1 : cX0_greed.data.toList.drop 24 = dktX0_greed_1 := dk_seg dksX0_greed_0 24 rfl rfl
theorem dksX0_greed_2 : cX0_greed.data.toList.drop 47 = dktX0_greed_2 := dk_seg dksX0_greed_1 23 rfl rfl
theorem dksX0_greed_3 : cX0_greed.data.toList.drop 69 = dktX0_greed_3 := dk_seg dksX0_greed_2 22 rfl rfl
theorem dksX0_greed_4 : cX0_greed.data.toList.drop 93 = dktX0_greed_4 := dk_seg dksX0_greed_3 24 rfl rfl
theorem dX0_greed_0 : decode cX0_greed 0 = .ok (.aload_n 0, 1) := dk_42 (dk_at dksX0_greed_0 0 rfl rfl)
theorem dX0_greed_1 : decode cX0_greed 1 = .ok (.iload_n 1, 1) := dk_27 (dk_at dksX0_greed_0 1 rfl rfl)
theorem dX0_greed_2 : decode cX0_greed 2 = .ok (.invokevirtual 238, 3) := dk_182 0 238 (dk_at dksX0_greed_0 2 rfl rfl)
theorem dX0_greed_5 : decode cX0_greed 5 = .ok (.astore 4, 2) := dk_58 4 (dk_at dksX0_greed_0 5 rfl rfl)
theorem dX0_greed_7 : decode cX0_greed 7 = .ok (.aload 4, 2) := dk_25 4 (dk_at dksX0_greed_0 7 rfl rfl)
theorem dX0_greed_9 : decode cX0_greed 9 = .ok (.ifnull 29, 3) := dk_198 0 29 (dk_at dksX0_greed_0 9 rfl rfl)
theorem dX0_greed_12 : decode cX0_greed 12 = .ok (.iload_n 2, 1) := dk_28 (dk_at dksX0_greed_0 12 rfl rfl)
theorem dX0_greed_13 : decode cX0_greed 13 = .ok (.invokestatic 29, 3) := dk_184 0 29 (dk_at dksX0_greed_0 13 rfl rfl)
theorem dX0_greed_16 : decode cX0_greed 16 = .ok (.ifCond .eq 22, 3) := dk_153 0 22 (dk_at dksX0_greed_0 16 rfl rfl)
theorem dX0_greed_19 : decode cX0_greed 19 = .ok (.iload_n 3, 1) := dk_29 (dk_at dksX0_greed_0 19 rfl rfl)
theorem dX0_greed_20 : decode cX0_greed 20 = .ok (.i2l, 1) := dk_133 (dk_at dksX0_greed_0 20 rfl rfl)
theorem dX0_greed_21 : decode cX0_greed 21 = .ok (.ldc2_w 97, 3) := dk_20 0 97 (dk_at dksX0_greed_0 21 rfl rfl)
theorem dX0_greed_24 : decode cX0_greed 24 = .ok (.aload 4, 2) := dk_25 4 (dk_at dksX0_greed_1 0 rfl rfl)
theorem dX0_greed_26 : decode cX0_greed 26 = .ok (.invokevirtual 9, 3) := dk_182 0 9 (dk_at dksX0_greed_1 2 rfl rfl)
theorem dX0_greed_29 : decode cX0_greed 29 = .ok (.iconst 1, 1) := dk_4 (dk_at dksX0_greed_1 5 rfl rfl)
theorem dX0_greed_30 : decode cX0_greed 30 = .ok (.isub, 1) := dk_100 (dk_at dksX0_greed_1 6 rfl rfl)
theorem dX0_greed_31 : decode cX0_greed 31 = .ok (.i2l, 1) := dk_133 (dk_at dksX0_greed_1 7 rfl rfl)
theorem dX0_greed_32 : decode cX0_greed 32 = .ok (.invokestatic 21, 3) := dk_184 0 21 (dk_at dksX0_greed_1 8 rfl rfl)
theorem dX0_greed_35 : decode cX0_greed 35 = .ok (.ifCond .ne 7, 3) := dk_154 0 7 (dk_at dksX0_greed_1 11 rfl rfl)
theorem dX0_greed_38 : decode cX0_greed 38 = .ok (.ldc_w 258, 3) := dk_19 1 2 (dk_at dksX0_greed_1 14 rfl rfl)
theorem dX0_greed_41 : decode cX0_greed 41 = .ok (.ireturn, 1) := dk_172 (dk_at dksX0_greed_1 17 rfl rfl)
theorem dX0_greed_42 : decode cX0_greed 42 = .ok (.iload_n 2, 1) := dk_28 (dk_at dksX0_greed_1 18 rfl rfl)
theorem dX0_greed_43 : decode cX0_greed 43 = .ok (.i2l, 1) := dk_133 (dk_at dksX0_greed_1 19 rfl rfl)
theorem dX0_greed_44 : decode cX0_greed 44 = .ok (.lstore 5, 2) := dk_55 5 (dk_at dksX0_greed_1 20 rfl rfl)
theorem dX0_greed_46 : decode cX0_greed 46 = .ok (.iconst 0, 1) := dk_3 (dk_at dksX0_greed_1 22 rfl rfl)
theorem dX0_greed_47 : decode cX0_greed 47 = .ok (.istore 7, 2) := dk_54 7 (dk_at dksX0_greed_2 0 rfl rfl)
theorem dX0_greed_49 : decode cX0_greed 49 = .ok (.iload 7, 2) := dk_21 7 (dk_at dksX0_greed_2 2 rfl rfl)
theorem dX0_greed_51 : decode cX0_greed 51 = .ok (.aload 4, 2) := dk_25 4 (dk_at dksX0_greed_2 4 rfl rfl)
theorem dX0_greed_53 : decode cX0_greed 53 = .ok (.invokevirtual 9, 3) := dk_182 0 9 (dk_at dksX0_greed_2 6 rfl rfl)
theorem dX0_greed_56 : decode cX0_greed 56 = .ok (.if_icmp .ge 52, 3) := dk_162 0 52 (dk_at dksX0_greed_2 9 rfl rfl)
theorem dX0_greed_59 : decode cX0_greed 59 = .ok (.aload 4, 2) := dk_25 4 (dk_at dksX0_greed_2 12 rfl rfl)
theorem dX0_greed_61 : decode cX0_greed 61 = .ok (.getfield 47, 3) := dk_180 0 47 (dk_at dksX0_greed_2 14 rfl rfl)
theorem dX0_greed_64 : decode cX0_greed 64 = .ok (.iload 7, 2) := dk_21 7 (dk_at dksX0_greed_2 17 rfl rfl)
theorem dX0_greed_66 : decode cX0_greed 66 = .ok (.aaload, 1) := dk_50 (dk_at dksX0_greed_2 19 rfl rfl)
theorem dX0_greed_67 : decode cX0_greed 67 = .ok (.lload 5, 2) := dk_22 5 (dk_at dksX0_greed_2 20 rfl rfl)
theorem dX0_greed_69 : decode cX0_greed 69 = .ok (.invokestatic 313, 3) := dk_184 1 57 (dk_at dksX0_greed_3 0 rfl rfl)
theorem dX0_greed_72 : decode cX0_greed 72 = .ok (.istore 8, 2) := dk_54 8 (dk_at dksX0_greed_3 3 rfl rfl)
theorem dX0_greed_74 : decode cX0_greed 74 = .ok (.iload 7, 2) := dk_21 7 (dk_at dksX0_greed_3 5 rfl rfl)
theorem dX0_greed_76 : decode cX0_greed 76 = .ok (.iload_n 3, 1) := dk_29 (dk_at dksX0_greed_3 7 rfl rfl)
theorem dX0_greed_77 : decode cX0_greed 77 = .ok (.if_icmp .ne 6, 3) := dk_160 0 6 (dk_at dksX0_greed_3 8 rfl rfl)
theorem dX0_greed_80 : decode cX0_greed 80 = .ok (.iload 8, 2) := dk_21 8 (dk_at dksX0_greed_3 11 rfl rfl)
theorem dX0_greed_82 : decode cX0_greed 82 = .ok (.ireturn, 1) := dk_172 (dk_at dksX0_greed_3 13 rfl rfl)
theorem dX0_greed_83 : decode cX0_greed 83 = .ok (.lload 5, 2) := dk_22 5 (dk_at dksX0_greed_3 14 rfl rfl)
theorem dX0_greed_85 : decode cX0_greed 85 = .ok (.aload 4, 2) := dk_25 4 (dk_at dksX0_greed_3 16 rfl rfl)
theorem dX0_greed_87 : decode cX0_greed 87 = .ok (.getfield 47, 3) := dk_180 0 47 (dk_at dksX0_greed_3 18 rfl rfl)
theorem dX0_greed_90 : decode cX0_greed 90 = .ok (.iload 7, 2) := dk_21 7 (dk_at dksX0_greed_3 21 rfl rfl)
theorem dX0_greed_92 : decode cX0_greed 92 = .ok (.aaload, 1) := dk_50 (dk_at dksX0_greed_3 23 rfl rfl)
theorem dX0_greed_93 : decode cX0_greed 93 = .ok (.iload 8, 2) := dk_21 8 (dk_at dksX0_greed_4 0 rfl rfl)
theorem dX0_greed_95 : decode cX0_greed 95 = .ok (.i2l, 1) := dk_133 (dk_at dksX0_greed_4 2 rfl rfl)
theorem dX0_greed_96 : decode cX0_greed 96 = .ok (.invokevirtual 60, 3) := dk_182 0 60 (dk_at dksX0_greed_4 3 rfl rfl)
theorem dX0_greed_99 : decode cX0_greed 99 = .ok (.lsub, 1) := dk_101 (dk_at dksX0_greed_4 6 rfl rfl)
theorem dX0_greed_100 : decode cX0_greed 100 = .ok (.lstore 5, 2) := dk_55 5 (dk_at dksX0_greed_4 7 rfl rfl)
theorem dX0_greed_102 : decode cX0_greed 102 = .ok (.iinc 7 1, 3) := dk_132 7 1 (dk_at dksX0_greed_4 9 rfl rfl)
theorem dX0_greed_105 : decode cX0_greed 105 = .ok (.goto (-56), 3) := dk_167 255 200 (dk_at dksX0_greed_4 12 rfl rfl)
theorem dX0_greed_108 : decode cX0_greed 108 = .ok (.lload 5, 2) := dk_22 5 (dk_at dksX0_greed_4 15 rfl rfl)
theorem dX0_greed_110 : decode cX0_greed 110 = .ok (.l2i, 1) := dk_136 (dk_at dksX0_greed_4 17 rfl rfl)
theorem dX0_greed_111 : decode cX0_greed 111 = .ok (.ireturn, 1) := dk_172 (dk_at dksX0_greed_4 18 rfl rfl)
abbrev cX0_greedyOf : ByteArray := prog_1_method_42_code
def yX0_greedyOf : MethodName := ⟨RX0, "greedyOf", "(LToldPowers$Term;J)I"⟩
def dkwX0_greedyOf_4 : List UInt8 := [3, 54, 6, 21, 6, 153, 0, 8, 21, 4, 167, 0, 4, 29, 62, 132, 4, 1, 167, 255, 156, 29, 172]
abbrev dktX0_greedyOf_4 : List UInt8 := dkwX0_greedyOf_4 ++ []
def dkwX0_greedyOf_3 : List UInt8 := [157, 0, 24, 42, 21, 4, 133, 182, 0, 60, 42, 29, 133, 182, 0, 60, 148, 158, 0, 7, 4, 167, 0, 4]
abbrev dktX0_greedyOf_3 : List UInt8 := dkwX0_greedyOf_3 ++ dktX0_greedyOf_4
def dkwX0_greedyOf_2 : List UInt8 := [29, 133, 182, 0, 60, 31, 148, 158, 0, 8, 21, 5, 167, 0, 37, 42, 21, 4, 133, 182, 0, 60, 31, 148]
abbrev dktX0_greedyOf_2 : List UInt8 := dkwX0_greedyOf_2 ++ dktX0_greedyOf_3
def dkwX0_greedyOf_1 : List UInt8 := [21, 4, 133, 182, 0, 60, 42, 29, 133, 182, 0, 60, 148, 156, 0, 7, 4, 167, 0, 4, 3, 54, 5, 42]
abbrev dktX0_greedyOf_1 : List UInt8 := dkwX0_greedyOf_1 ++ dktX0_greedyOf_2
def dkwX0_greedyOf_0 : List UInt8 := [42, 180, 0, 51, 62, 42, 180, 0, 51, 4, 96, 54, 4, 21, 4, 42, 180, 0, 57, 163, 0, 97, 42]
abbrev dktX0_greedyOf_0 : List UInt8 := dkwX0_greedyOf_0 ++ dktX0_greedyOf_1
theorem dksX0_greedyOf_0 : cX0_greedyOf.data.toList.drop 0 = dktX0_greedyOf_0 := by decide +kernel
theorem dksX0_greedyOf_1 : cX0_greedyOf.data.toList.drop 23 = dktX0_greedyOf_1 := dk_seg dksX0_greedyOf_0 23 rfl rfl
theorem dksX0_greedyOf_2 : cX0_greedyOf.data.toList.drop 47 = dktX0_greedyOf_2 := dk_seg dksX0_greedyOf_1 24 rfl rfl
theorem dksX0_greedyOf_3 : cX0_greedyOf.data.toList.drop 71 = dktX0_greedyOf_3 := dk_seg dksX0_greedyOf_2 24 rfl rfl
theorem dksX0_greedyOf_4 : cX0_greedyOf.data.toList.drop 95 = dktX0_greedyOf_4 := dk_seg dksX0_greedyOf_3 24 rfl rfl
theorem dX0_greedyOf_0 : decode cX0_greedyOf 0 = .ok (.aload_n 0, 1) := dk_42 (dk_at dksX0_greedyOf_0 0 rfl rfl)
theorem dX0_greedyOf_1 : decode cX0_greedyOf 1 = .ok (.getfield 51, 3) := dk_180 0 51 (dk_at dksX0_greedyOf_0 1 rfl rfl)
theorem dX0_greedyOf_4 : decode cX0_greedyOf 4 = .ok (.istore_n 3, 1) := dk_62 (dk_at dksX0_greedyOf_0 4 rfl rfl)
theorem dX0_greedyOf_5 : decode cX0_greedyOf 5 = .ok (.aload_n 0, 1) := dk_42 (dk_at dksX0_greedyOf_0 5 rfl rfl)
theorem dX0_greedyOf_6 : decode cX0_greedyOf 6 = .ok (.getfield 51, 3) := dk_180 0 51 (dk_at dksX0_greedyOf_0 6 rfl rfl)
theorem dX0_greedyOf_9 : decode cX0_greedyOf 9 = .ok (.iconst 1, 1) := dk_4 (dk_at dksX0_greedyOf_0 9 rfl rfl)
theorem dX0_greedyOf_10 : decode cX0_greedyOf 10 = .ok (.iadd, 1) := dk_96 (dk_at dksX0_greedyOf_0 10 rfl rfl)
theorem dX0_greedyOf_11 : decode cX0_greedyOf 11 = .ok (.istore 4, 2) := dk_54 4 (dk_at dksX0_greedyOf_0 11 rfl rfl)
theorem dX0_greedyOf_13 : decode cX0_greedyOf 13 = .ok (.iload 4, 2) := dk_21 4 (dk_at dksX0_greedyOf_0 13 rfl rfl)
theorem dX0_greedyOf_15 : decode cX0_greedyOf 15 = .ok (.aload_n 0, 1) := dk_42 (dk_at dksX0_greedyOf_0 15 rfl rfl)
theorem dX0_greedyOf_16 : decode cX0_greedyOf 16 = .ok (.getfield 57, 3) := dk_180 0 57 (dk_at dksX0_greedyOf_0 16 rfl rfl)
theorem dX0_greedyOf_19 : decode cX0_greedyOf 19 = .ok (.if_icmp .gt 97, 3) := dk_163 0 97 (dk_at dksX0_greedyOf_0 19 rfl rfl)
theorem dX0_greedyOf_22 : decode cX0_greedyOf 22 = .ok (.aload_n 0, 1) := dk_42 (dk_at dksX0_greedyOf_0 22 rfl rfl)
theorem dX0_greedyOf_23 : decode cX0_greedyOf 23 = .ok (.iload 4, 2) := dk_21 4 (dk_at dksX0_greedyOf_1 0 rfl rfl)
theorem dX0_greedyOf_25 : decode cX0_greedyOf 25 = .ok (.i2l, 1) := dk_133 (dk_at dksX0_greedyOf_1 2 rfl rfl)
theorem dX0_greedyOf_26 : decode cX0_greedyOf 26 = .ok (.invokevirtual 60, 3) := dk_182 0 60 (dk_at dksX0_greedyOf_1 3 rfl rfl)
theorem dX0_greedyOf_29 : decode cX0_greedyOf 29 = .ok (.aload_n 0, 1) := dk_42 (dk_at dksX0_greedyOf_1 6 rfl rfl)
theorem dX0_greedyOf_30 : decode cX0_greedyOf 30 = .ok (.iload_n 3, 1) := dk_29 (dk_at dksX0_greedyOf_1 7 rfl rfl)
theorem dX0_greedyOf_31 : decode cX0_greedyOf 31 = .ok (.i2l, 1) := dk_133 (dk_at dksX0_greedyOf_1 8 rfl rfl)
theorem dX0_greedyOf_32 : decode cX0_greedyOf 32 = .ok (.invokevirtual 60, 3) := dk_182 0 60 (dk_at dksX0_greedyOf_1 9 rfl rfl)
theorem dX0_greedyOf_35 : decode cX0_greedyOf 35 = .ok (.lcmp, 1) := dk_148 (dk_at dksX0_greedyOf_1 12 rfl rfl)
theorem dX0_greedyOf_36 : decode cX0_greedyOf 36 = .ok (.ifCond .ge 7, 3) := dk_156 0 7 (dk_at dksX0_greedyOf_1 13 rfl rfl)
theorem dX0_greedyOf_39 : decode cX0_greedyOf 39 = .ok (.iconst 1, 1) := dk_4 (dk_at dksX0_greedyOf_1 16 rfl rfl)
theorem dX0_greedyOf_40 : decode cX0_greedyOf 40 = .ok (.goto 4, 3) := dk_167 0 4 (dk_at dksX0_greedyOf_1 17 rfl rfl)
theorem dX0_greedyOf_43 : decode cX0_greedyOf 43 = .ok (.iconst 0, 1) := dk_3 (dk_at dksX0_greedyOf_1 20 rfl rfl)
theorem dX0_greedyOf_44 : decode cX0_greedyOf 44 = .ok (.istore 5, 2) := dk_54 5 (dk_at dksX0_greedyOf_1 21 rfl rfl)
theorem dX0_greedyOf_46 : decode cX0_greedyOf 46 = .ok (.aload_n 0, 1) := dk_42 (dk_at dksX0_greedyOf_1 23 rfl rfl)
theorem dX0_greedyOf_47 : decode cX0_greedyOf 47 = .ok (.iload_n 3, 1) := dk_29 (dk_at dksX0_greedyOf_2 0 rfl rfl)
theorem dX0_greedyOf_48 : decode cX0_greedyOf 48 = .ok (.i2l, 1) := dk_133 (dk_at dksX0_greedyOf_2 1 rfl rfl)
theorem dX0_greedyOf_49 : decode cX0_greedyOf 49 = .ok (.invokevirtual 60, 3) := dk_182 0 60 (dk_at dksX0_greedyOf_2 2 rfl rfl)
theorem dX0_greedyOf_52 : decode cX0_greedyOf 52 = .ok (.lload_n 1, 1) := dk_31 (dk_at dksX0_greedyOf_2 5 rfl rfl)
theorem dX0_greedyOf_53 : decode cX0_greedyOf 53 = .ok (.lcmp, 1) := dk_148 (dk_at dksX0_greedyOf_2 6 rfl rfl)
theorem dX0_greedyOf_54 : decode cX0_greedyOf 54 = .ok (.ifCond .le 8, 3) := dk_158 0 8 (dk_at dksX0_greedyOf_2 7 rfl rfl)
theorem dX0_greedyOf_57 : decode cX0_greedyOf 57 = .ok (.iload 5, 2) := dk_21 5 (dk_at dksX0_greedyOf_2 10 rfl rfl)
theorem dX0_greedyOf_59 : decode cX0_greedyOf 59 = .ok (.goto 37, 3) := dk_167 0 37 (dk_at dksX0_greedyOf_2 12 rfl rfl)
theorem dX0_greedyOf_62 : decode cX0_greedyOf 62 = .ok (.aload_n 0, 1) := dk_42 (dk_at dksX0_greedyOf_2 15 rfl rfl)
theorem dX0_greedyOf_63 : decode cX0_greedyOf 63 = .ok (.iload 4, 2) := dk_21 4 (dk_at dksX0_greedyOf_2 16 rfl rfl)
theorem dX0_greedyOf_65 : decode cX0_greedyOf 65 = .ok (.i2l, 1) := dk_133 (dk_at dksX0_greedyOf_2 18 rfl rfl)
theorem dX0_greedyOf_66 : decode cX0_greedyOf 66 = .ok (.invokevirtual 60, 3) := dk_182 0 60 (dk_at dksX0_greedyOf_2 19 rfl rfl)
theorem dX0_greedyOf_69 : decode cX0_greedyOf 69 = .ok (.lload_n 1, 1) := dk_31 (dk_at dksX0_greedyOf_2 22 rfl rfl)
theorem dX0_greedyOf_70 : decode cX0_greedyOf 70 = .ok (.lcmp, 1) := dk_148 (dk_at dksX0_greedyOf_2 23 rfl rfl)
theorem dX0_greedyOf_71 : decode cX0_greedyOf 71 = .ok (.ifCond .gt 24, 3) := dk_157 0 24 (dk_at dksX0_greedyOf_3 0 rfl rfl)
theorem dX0_greedyOf_74 : decode cX0_greedyOf 74 = .ok (.aload_n 0, 1) := dk_42 (dk_at dksX0_greedyOf_3 3 rfl rfl)
theorem dX0_greedyOf_75 : decode cX0_greedyOf 75 = .ok (.iload 4, 2) := dk_21 4 (dk_at dksX0_greedyOf_3 4 rfl rfl)
theorem dX0_greedyOf_77 : decode cX0_greedyOf 77 = .ok (.i2l, 1) := dk_133 (dk_at dksX0_greedyOf_3 6 rfl rfl)
theorem dX0_greedyOf_78 : decode cX0_greedyOf 78 = .ok (.invokevirtual 60, 3) := dk_182 0 60 (dk_at dksX0_greedyOf_3 7 rfl rfl)
theorem dX0_greedyOf_81 : decode cX0_greedyOf 81 = .ok (.aload_n 0, 1) := dk_42 (dk_at dksX0_greedyOf_3 10 rfl rfl)
theorem dX0_greedyOf_82 : decode cX0_greedyOf 82 = .ok (.iload_n 3, 1) := dk_29 (dk_at dksX0_greedyOf_3 11 rfl rfl)
theorem dX0_greedyOf_83 : decode cX0_greedyOf 83 = .ok (.i2l, 1) := dk_133 (dk_at dksX0_greedyOf_3 12 rfl rfl)
theorem dX0_greedyOf_84 : decode cX0_greedyOf 84 = .ok (.invokevirtual 60, 3) := dk_182 0 60 (dk_at dksX0_greedyOf_3 13 rfl rfl)
theorem dX0_greedyOf_87 : decode cX0_greedyOf 87 = .ok (.lcmp, 1) := dk_148 (dk_at dksX0_greedyOf_3 16 rfl rfl)
theorem dX0_greedyOf_88 : decode cX0_greedyOf 88 = .ok (.ifCond .le 7, 3) := dk_158 0 7 (dk_at dksX0_greedyOf_3 17 rfl rfl)
theorem dX0_greedyOf_91 : decode cX0_greedyOf 91 = .ok (.iconst 1, 1) := dk_4 (dk_at dksX0_greedyOf_3 20 rfl rfl)
theorem dX0_greedyOf_92 : decode cX0_greedyOf 92 = .ok (.goto 4, 3) := dk_167 0 4 (dk_at dksX0_greedyOf_3 21 rfl rfl)
theorem dX0_greedyOf_95 : decode cX0_greedyOf 95 = .ok (.iconst 0, 1) := dk_3 (dk_at dksX0_greedyOf_4 0 rfl rfl)
theorem dX0_greedyOf_96 : decode cX0_greedyOf 96 = .ok (.istore 6, 2) := dk_54 6 (dk_at dksX0_greedyOf_4 1 rfl rfl)
theorem dX0_greedyOf_98 : decode cX0_greedyOf 98 = .ok (.iload 6, 2) := dk_21 6 (dk_at dksX0_greedyOf_4 3 rfl rfl)
theorem dX0_greedyOf_100 : decode cX0_greedyOf 100 = .ok (.ifCond .eq 8, 3) := dk_153 0 8 (dk_at dksX0_greedyOf_4 5 rfl rfl)
theorem dX0_greedyOf_103 : decode cX0_greedyOf 103 = .ok (.iload 4, 2) := dk_21 4 (dk_at dksX0_greedyOf_4 8 rfl rfl)
theorem dX0_greedyOf_105 : decode cX0_greedyOf 105 = .ok (.goto 4, 3) := dk_167 0 4 (dk_at dksX0_greedyOf_4 10 rfl rfl)
theorem dX0_greedyOf_108 : decode cX0_greedyOf 108 = .ok (.iload_n 3, 1) := dk_29 (dk_at dksX0_greedyOf_4 13 rfl rfl)
theorem dX0_greedyOf_109 : decode cX0_greedyOf 109 = .ok (.istore_n 3, 1) := dk_62 (dk_at dksX0_greedyOf_4 14 rfl rfl)
theorem dX0_greedyOf_110 : decode cX0_greedyOf 110 = .ok (.iinc 4 1, 3) := dk_132 4 1 (dk_at dksX0_greedyOf_4 15 rfl rfl)
theorem dX0_greedyOf_113 : decode cX0_greedyOf 113 = .ok (.goto (-100), 3) := dk_167 255 156 (dk_at dksX0_greedyOf_4 18 rfl rfl)
theorem dX0_greedyOf_116 : decode cX0_greedyOf 116 = .ok (.iload_n 3, 1) := dk_29 (dk_at dksX0_greedyOf_4 21 rfl rfl)
theorem dX0_greedyOf_117 : decode cX0_greedyOf 117 = .ok (.ireturn, 1) := dk_172 (dk_at dksX0_greedyOf_4 22 rfl rfl)
abbrev cX0_nearest : ByteArray := prog_1_method_44_code
def yX0_nearest : MethodName := ⟨RX0, "nearest", "(II)I"⟩
def dkwX0_nearest_7 : List UInt8 := [25, 4, 182, 1, 77, 192, 1, 64, 180, 1, 81, 172]
abbrev dktX0_nearest_7 : List UInt8 := dkwX0_nearest_7 ++ []
def dkwX0_nearest_6 : List UInt8 := [21, 6, 28, 183, 1, 66, 182, 1, 69, 87, 25, 4, 182, 1, 73, 153, 0, 9, 19, 1, 2, 167, 0, 14]
abbrev dktX0_nearest_6 : List UInt8 := dkwX0_nearest_6 ++ dktX0_nearest_7
def dkwX0_nearest_5 : List UInt8 := [21, 5, 28, 183, 1, 66, 182, 1, 69, 87, 21, 6, 17, 197, 104, 161, 0, 19, 25, 4, 187, 1, 64, 89]
abbrev dktX0_nearest_5 : List UInt8 := dkwX0_nearest_5 ++ dktX0_nearest_6
def dkwX0_nearest_4 : List UInt8 := [148, 154, 0, 9, 132, 6, 255, 167, 255, 227, 21, 5, 17, 58, 152, 163, 0, 19, 25, 4, 187, 1, 64, 89]
abbrev dktX0_nearest_4 : List UInt8 := dkwX0_nearest_4 ++ dktX0_nearest_5
def dkwX0_nearest_3 : List UInt8 := [54, 6, 21, 6, 17, 197, 104, 161, 0, 27, 42, 180, 0, 37, 3, 50, 17, 58, 152, 21, 6, 96, 47, 9]
abbrev dktX0_nearest_3 : List UInt8 := dkwX0_nearest_3 ++ dktX0_nearest_4
def dkwX0_nearest_2 : List UInt8 := [180, 0, 37, 3, 50, 17, 58, 152, 21, 5, 96, 47, 9, 148, 154, 0, 9, 132, 5, 1, 167, 255, 227, 28]
abbrev dktX0_nearest_2 : List UInt8 := dkwX0_nearest_2 ++ dktX0_nearest_3
def dkwX0_nearest_1 : List UInt8 := [182, 0, 74, 187, 1, 61, 89, 183, 1, 63, 58, 4, 28, 54, 5, 21, 5, 17, 58, 152, 163, 0, 27, 42]
abbrev dktX0_nearest_1 : List UInt8 := dkwX0_nearest_1 ++ dktX0_nearest_2
def dkwX0_nearest_0 : List UInt8 := [42, 27, 182, 0, 238, 78, 45, 198, 0, 10, 28, 184, 0, 29, 154, 0, 7, 19, 1, 2, 172, 42, 45]
abbrev dktX0_nearest_0 : List UInt8 := dkwX0_nearest_0 ++ dktX0_nearest_1
theorem dksX0_nearest_0 : cX0_nearest.data.toList.drop 0 = dktX0_nearest_0 := by decide +kernel
theorem dksX0_nearest_1 : cX0_nearest.data.toList.drop 23 = dktX0_nearest_1 := dk_seg dksX0_nearest_0 23 rfl rfl
theorem dksX0_nearest_2 : cX0_nearest.data.toList.drop 47 = dktX0_nearest_2 := dk_seg dksX0_nearest_1 24 rfl rfl
theorem dksX0_nearest_3 : cX0_nearest.data.toList.drop 71 = dktX0_nearest_3 := dk_seg dksX0_nearest_2 24 rfl rfl
theorem dksX0_nearest_4 : cX0_nearest.data.toList.drop 95 = dktX0_nearest_4 := dk_seg dksX0_nearest_3 24 rfl rfl
theorem dksX0_nearest_5 : cX0_nearest.data.toList.drop 119 = dktX0_nearest_5 := dk_seg dksX0_nearest_4 24 rfl rfl
theorem dksX0_nearest_6 : cX0_nearest.data.toList.drop 143 = dktX0_nearest_6 := dk_seg dksX0_nearest_5 24 rfl rfl
theorem dksX0_nearest_7 : cX0_nearest.data.toList.drop 167 = dktX0_nearest_7 := dk_seg dksX0_nearest_6 24 rfl rfl
theorem dX0_nearest_0 : decode cX0_nearest 0 = .ok (.aload_n 0, 1) := dk_42 (dk_at dksX0_nearest_0 0 rfl rfl)
theorem dX0_nearest_1 : decode cX0_nearest 1 = .ok (.iload_n 1, 1) := dk_27 (dk_at dksX0_nearest_0 1 rfl rfl)
theorem dX0_nearest_2 : decode cX0_nearest 2 = .ok (.invokevirtual 238, 3) := dk_182 0 238 (dk_at dksX0_nearest_0 2 rfl rfl)
theorem dX0_nearest_5 : decode cX0_nearest 5 = .ok (.astore_n 3, 1) := dk_78 (dk_at dksX0_nearest_0 5 rfl rfl)
theorem dX0_nearest_6 : decode cX0_nearest 6 = .ok (.aload_n 3, 1) := dk_45 (dk_at dksX0_nearest_0 6 rfl rfl)
theorem dX0_nearest_7 : decode cX0_nearest 7 = .ok (.ifnull 10, 3) := dk_198 0 10 (dk_at dksX0_nearest_0 7 rfl rfl)
theorem dX0_nearest_10 : decode cX0_nearest 10 = .ok (.iload_n 2, 1) := dk_28 (dk_at dksX0_nearest_0 10 rfl rfl)
theorem dX0_nearest_11 : decode cX0_nearest 11 = .ok (.invokestatic 29, 3) := dk_184 0 29 (dk_at dksX0_nearest_0 11 rfl rfl)
theorem dX0_nearest_14 : decode cX0_nearest 14 = .ok (.ifCond .ne 7, 3) := dk_154 0 7 (dk_at dksX0_nearest_0 14 rfl rfl)
theorem dX0_nearest_17 : decode cX0_nearest 17 = .ok (.ldc_w 258, 3) := dk_19 1 2 (dk_at dksX0_nearest_0 17 rfl rfl)
theorem dX0_nearest_20 : decode cX0_nearest 20 = .ok (.ireturn, 1) := dk_172 (dk_at dksX0_nearest_0 20 rfl rfl)
theorem dX0_nearest_21 : decode cX0_nearest 21 = .ok (.aload_n 0, 1) := dk_42 (dk_at dksX0_nearest_0 21 rfl rfl)
theorem dX0_nearest_22 : decode cX0_nearest 22 = .ok (.aload_n 3, 1) := dk_45 (dk_at dksX0_nearest_0 22 rfl rfl)
theorem dX0_nearest_23 : decode cX0_nearest 23 = .ok (.invokevirtual 74, 3) := dk_182 0 74 (dk_at dksX0_nearest_1 0 rfl rfl)
theorem dX0_nearest_26 : decode cX0_nearest 26 = .ok (.new 317, 3) := dk_187 1 61 (dk_at dksX0_nearest_1 3 rfl rfl)
theorem dX0_nearest_29 : decode cX0_nearest 29 = .ok (.dup, 1) := dk_89 (dk_at dksX0_nearest_1 6 rfl rfl)
theorem dX0_nearest_30 : decode cX0_nearest 30 = .ok (.invokespecial 319, 3) := dk_183 1 63 (dk_at dksX0_nearest_1 7 rfl rfl)
theorem dX0_nearest_33 : decode cX0_nearest 33 = .ok (.astore 4, 2) := dk_58 4 (dk_at dksX0_nearest_1 10 rfl rfl)
theorem dX0_nearest_35 : decode cX0_nearest 35 = .ok (.iload_n 2, 1) := dk_28 (dk_at dksX0_nearest_1 12 rfl rfl)
theorem dX0_nearest_36 : decode cX0_nearest 36 = .ok (.istore 5, 2) := dk_54 5 (dk_at dksX0_nearest_1 13 rfl rfl)
theorem dX0_nearest_38 : decode cX0_nearest 38 = .ok (.iload 5, 2) := dk_21 5 (dk_at dksX0_nearest_1 15 rfl rfl)
theorem dX0_nearest_40 : decode cX0_nearest 40 = .ok (.sipush 15000, 3) := dk_17 58 152 (dk_at dksX0_nearest_1 17 rfl rfl)
theorem dX0_nearest_43 : decode cX0_nearest 43 = .ok (.if_icmp .gt 27, 3) := dk_163 0 27 (dk_at dksX0_nearest_1 20 rfl rfl)
theorem dX0_nearest_46 : decode cX0_nearest 46 = .ok (.aload_n 0, 1) := dk_42 (dk_at dksX0_nearest_1 23 rfl rfl)
theorem dX0_nearest_47 : decode cX0_nearest 47 = .ok (.getfield 37, 3) := dk_180 0 37 (dk_at dksX0_nearest_2 0 rfl rfl)
theorem dX0_nearest_50 : decode cX0_nearest 50 = .ok (.iconst 0, 1) := dk_3 (dk_at dksX0_nearest_2 3 rfl rfl)
theorem dX0_nearest_51 : decode cX0_nearest 51 = .ok (.aaload, 1) := dk_50 (dk_at dksX0_nearest_2 4 rfl rfl)
theorem dX0_nearest_52 : decode cX0_nearest 52 = .ok (.sipush 15000, 3) := dk_17 58 152 (dk_at dksX0_nearest_2 5 rfl rfl)
theorem dX0_nearest_55 : decode cX0_nearest 55 = .ok (.iload 5, 2) := dk_21 5 (dk_at dksX0_nearest_2 8 rfl rfl)
theorem dX0_nearest_57 : decode cX0_nearest 57 = .ok (.iadd, 1) := dk_96 (dk_at dksX0_nearest_2 10 rfl rfl)
theorem dX0_nearest_58 : decode cX0_nearest 58 = .ok (.laload, 1) := dk_47 (dk_at dksX0_nearest_2 11 rfl rfl)
theorem dX0_nearest_59 : decode cX0_nearest 59 = .ok (.lconst 0, 1) := dk_9 (dk_at dksX0_nearest_2 12 rfl rfl)
theorem dX0_nearest_60 : decode cX0_nearest 60 = .ok (.lcmp, 1) := dk_148 (dk_at dksX0_nearest_2 13 rfl rfl)
theorem dX0_nearest_61 : decode cX0_nearest 61 = .ok (.ifCond .ne 9, 3) := dk_154 0 9 (dk_at dksX0_nearest_2 14 rfl rfl)
theorem dX0_nearest_64 : decode cX0_nearest 64 = .ok (.iinc 5 1, 3) := dk_132 5 1 (dk_at dksX0_nearest_2 17 rfl rfl)
theorem dX0_nearest_67 : decode cX0_nearest 67 = .ok (.goto (-29), 3) := dk_167 255 227 (dk_at dksX0_nearest_2 20 rfl rfl)
theorem dX0_nearest_70 : decode cX0_nearest 70 = .ok (.iload_n 2, 1) := dk_28 (dk_at dksX0_nearest_2 23 rfl rfl)
theorem dX0_nearest_71 : decode cX0_nearest 71 = .ok (.istore 6, 2) := dk_54 6 (dk_at dksX0_nearest_3 0 rfl rfl)
theorem dX0_nearest_73 : decode cX0_nearest 73 = .ok (.iload 6, 2) := dk_21 6 (dk_at dksX0_nearest_3 2 rfl rfl)
theorem dX0_nearest_75 : decode cX0_nearest 75 = .ok (.sipush (-15000), 3) := dk_17 197 104 (dk_at dksX0_nearest_3 4 rfl rfl)
theorem dX0_nearest_78 : decode cX0_nearest 78 = .ok (.if_icmp .lt 27, 3) := dk_161 0 27 (dk_at dksX0_nearest_3 7 rfl rfl)
theorem dX0_nearest_81 : decode cX0_nearest 81 = .ok (.aload_n 0, 1) := dk_42 (dk_at dksX0_nearest_3 10 rfl rfl)
theorem dX0_nearest_82 : decode cX0_nearest 82 = .ok (.getfield 37, 3) := dk_180 0 37 (dk_at dksX0_nearest_3 11 rfl rfl)
theorem dX0_nearest_85 : decode cX0_nearest 85 = .ok (.iconst 0, 1) := dk_3 (dk_at dksX0_nearest_3 14 rfl rfl)
theorem dX0_nearest_86 : decode cX0_nearest 86 = .ok (.aaload, 1) := dk_50 (dk_at dksX0_nearest_3 15 rfl rfl)
theorem dX0_nearest_87 : decode cX0_nearest 87 = .ok (.sipush 15000, 3) := dk_17 58 152 (dk_at dksX0_nearest_3 16 rfl rfl)
theorem dX0_nearest_90 : decode cX0_nearest 90 = .ok (.iload 6, 2) := dk_21 6 (dk_at dksX0_nearest_3 19 rfl rfl)
theorem dX0_nearest_92 : decode cX0_nearest 92 = .ok (.iadd, 1) := dk_96 (dk_at dksX0_nearest_3 21 rfl rfl)
theorem dX0_nearest_93 : decode cX0_nearest 93 = .ok (.laload, 1) := dk_47 (dk_at dksX0_nearest_3 22 rfl rfl)
theorem dX0_nearest_94 : decode cX0_nearest 94 = .ok (.lconst 0, 1) := dk_9 (dk_at dksX0_nearest_3 23 rfl rfl)
theorem dX0_nearest_95 : decode cX0_nearest 95 = .ok (.lcmp, 1) := dk_148 (dk_at dksX0_nearest_4 0 rfl rfl)
theorem dX0_nearest_96 : decode cX0_nearest 96 = .ok (.ifCond .ne 9, 3) := dk_154 0 9 (dk_at dksX0_nearest_4 1 rfl rfl)
theorem dX0_nearest_99 : decode cX0_nearest 99 = .ok (.iinc 6 (-1), 3) := dk_132 6 255 (dk_at dksX0_nearest_4 4 rfl rfl)
theorem dX0_nearest_102 : decode cX0_nearest 102 = .ok (.goto (-29), 3) := dk_167 255 227 (dk_at dksX0_nearest_4 7 rfl rfl)
theorem dX0_nearest_105 : decode cX0_nearest 105 = .ok (.iload 5, 2) := dk_21 5 (dk_at dksX0_nearest_4 10 rfl rfl)
theorem dX0_nearest_107 : decode cX0_nearest 107 = .ok (.sipush 15000, 3) := dk_17 58 152 (dk_at dksX0_nearest_4 12 rfl rfl)
theorem dX0_nearest_110 : decode cX0_nearest 110 = .ok (.if_icmp .gt 19, 3) := dk_163 0 19 (dk_at dksX0_nearest_4 15 rfl rfl)
theorem dX0_nearest_113 : decode cX0_nearest 113 = .ok (.aload 4, 2) := dk_25 4 (dk_at dksX0_nearest_4 18 rfl rfl)
theorem dX0_nearest_115 : decode cX0_nearest 115 = .ok (.new 320, 3) := dk_187 1 64 (dk_at dksX0_nearest_4 20 rfl rfl)
theorem dX0_nearest_118 : decode cX0_nearest 118 = .ok (.dup, 1) := dk_89 (dk_at dksX0_nearest_4 23 rfl rfl)
theorem dX0_nearest_119 : decode cX0_nearest 119 = .ok (.iload 5, 2) := dk_21 5 (dk_at dksX0_nearest_5 0 rfl rfl)
theorem dX0_nearest_121 : decode cX0_nearest 121 = .ok (.iload_n 2, 1) := dk_28 (dk_at dksX0_nearest_5 2 rfl rfl)
theorem dX0_nearest_122 : decode cX0_nearest 122 = .ok (.invokespecial 322, 3) := dk_183 1 66 (dk_at dksX0_nearest_5 3 rfl rfl)
theorem dX0_nearest_125 : decode cX0_nearest 125 = .ok (.invokevirtual 325, 3) := dk_182 1 69 (dk_at dksX0_nearest_5 6 rfl rfl)
theorem dX0_nearest_128 : decode cX0_nearest 128 = .ok (.pop, 1) := dk_87 (dk_at dksX0_nearest_5 9 rfl rfl)
theorem dX0_nearest_129 : decode cX0_nearest 129 = .ok (.iload 6, 2) := dk_21 6 (dk_at dksX0_nearest_5 10 rfl rfl)
theorem dX0_nearest_131 : decode cX0_nearest 131 = .ok (.sipush (-15000), 3) := dk_17 197 104 (dk_at dksX0_nearest_5 12 rfl rfl)
theorem dX0_nearest_134 : decode cX0_nearest 134 = .ok (.if_icmp .lt 19, 3) := dk_161 0 19 (dk_at dksX0_nearest_5 15 rfl rfl)
theorem dX0_nearest_137 : decode cX0_nearest 137 = .ok (.aload 4, 2) := dk_25 4 (dk_at dksX0_nearest_5 18 rfl rfl)
theorem dX0_nearest_139 : decode cX0_nearest 139 = .ok (.new 320, 3) := dk_187 1 64 (dk_at dksX0_nearest_5 20 rfl rfl)
theorem dX0_nearest_142 : decode cX0_nearest 142 = .ok (.dup, 1) := dk_89 (dk_at dksX0_nearest_5 23 rfl rfl)
theorem dX0_nearest_143 : decode cX0_nearest 143 = .ok (.iload 6, 2) := dk_21 6 (dk_at dksX0_nearest_6 0 rfl rfl)
theorem dX0_nearest_145 : decode cX0_nearest 145 = .ok (.iload_n 2, 1) := dk_28 (dk_at dksX0_nearest_6 2 rfl rfl)
theorem dX0_nearest_146 : decode cX0_nearest 146 = .ok (.invokespecial 322, 3) := dk_183 1 66 (dk_at dksX0_nearest_6 3 rfl rfl)
theorem dX0_nearest_149 : decode cX0_nearest 149 = .ok (.invokevirtual 325, 3) := dk_182 1 69 (dk_at dksX0_nearest_6 6 rfl rfl)
theorem dX0_nearest_152 : decode cX0_nearest 152 = .ok (.pop, 1) := dk_87 (dk_at dksX0_nearest_6 9 rfl rfl)
theorem dX0_nearest_153 : decode cX0_nearest 153 = .ok (.aload 4, 2) := dk_25 4 (dk_at dksX0_nearest_6 10 rfl rfl)
theorem dX0_nearest_155 : decode cX0_nearest 155 = .ok (.invokevirtual 329, 3) := dk_182 1 73 (dk_at dksX0_nearest_6 12 rfl rfl)
theorem dX0_nearest_158 : decode cX0_nearest 158 = .ok (.ifCond .eq 9, 3) := dk_153 0 9 (dk_at dksX0_nearest_6 15 rfl rfl)
theorem dX0_nearest_161 : decode cX0_nearest 161 = .ok (.ldc_w 258, 3) := dk_19 1 2 (dk_at dksX0_nearest_6 18 rfl rfl)
theorem dX0_nearest_164 : decode cX0_nearest 164 = .ok (.goto 14, 3) := dk_167 0 14 (dk_at dksX0_nearest_6 21 rfl rfl)
theorem dX0_nearest_167 : decode cX0_nearest 167 = .ok (.aload 4, 2) := dk_25 4 (dk_at dksX0_nearest_7 0 rfl rfl)
theorem dX0_nearest_169 : decode cX0_nearest 169 = .ok (.invokevirtual 333, 3) := dk_182 1 77 (dk_at dksX0_nearest_7 2 rfl rfl)
theorem dX0_nearest_172 : decode cX0_nearest 172 = .ok (.checkcast 320, 3) := dk_192 1 64 (dk_at dksX0_nearest_7 5 rfl rfl)
theorem dX0_nearest_175 : decode cX0_nearest 175 = .ok (.getfield 337, 3) := dk_180 1 81 (dk_at dksX0_nearest_7 8 rfl rfl)
theorem dX0_nearest_178 : decode cX0_nearest 178 = .ok (.ireturn, 1) := dk_172 (dk_at dksX0_nearest_7 11 rfl rfl)
abbrev cX0_enough : ByteArray := prog_1_method_45_code
def yX0_enough : MethodName := ⟨RX0, "enough", "(II)I"⟩
def dkwX0_enough_7 : List UInt8 := [21, 4, 4, 96, 172, 132, 4, 1, 167, 255, 130, 2, 172]
abbrev dktX0_enough_7 : List UInt8 := dkwX0_enough_7 ++ []
def dkwX0_enough_6 : List UInt8 := [17, 117, 49, 184, 0, 91, 42, 180, 0, 84, 3, 50, 17, 58, 152, 28, 96, 47, 9, 148, 158, 0, 8]
abbrev dktX0_enough_6 : List UInt8 := dkwX0_enough_6 ++ dktX0_enough_7
def dkwX0_enough_5 : List UInt8 := [136, 184, 0, 64, 132, 5, 1, 167, 255, 209, 42, 180, 0, 84, 4, 50, 3, 42, 180, 0, 84, 3, 50, 3]
abbrev dktX0_enough_5 : List UInt8 := dkwX0_enough_5 ++ dktX0_enough_6
def dkwX0_enough_4 : List UInt8 := [180, 0, 84, 4, 50, 42, 180, 0, 84, 3, 50, 45, 180, 0, 47, 21, 4, 50, 21, 5, 133, 182, 0, 60]
abbrev dktX0_enough_4 : List UInt8 := dkwX0_enough_4 ++ dktX0_enough_5
def dkwX0_enough_3 : List UInt8 := [21, 4, 50, 180, 0, 51, 54, 5, 21, 5, 45, 180, 0, 47, 21, 4, 50, 180, 0, 57, 163, 0, 38, 42]
abbrev dktX0_enough_3 : List UInt8 := dkwX0_enough_3 ++ dktX0_enough_4
def dkwX0_enough_2 : List UInt8 := [21, 4, 45, 182, 0, 9, 162, 0, 123, 42, 180, 0, 84, 4, 50, 9, 184, 0, 41, 45, 180, 0, 47]
abbrev dktX0_enough_2 : List UInt8 := dkwX0_enough_2 ++ dktX0_enough_3
def dkwX0_enough_1 : List UInt8 := [50, 9, 184, 0, 41, 42, 1, 181, 0, 78, 42, 180, 0, 84, 3, 50, 17, 58, 152, 10, 80, 3, 54, 4]
abbrev dktX0_enough_1 : List UInt8 := dkwX0_enough_1 ++ dktX0_enough_2
def dkwX0_enough_0 : List UInt8 := [42, 27, 182, 0, 238, 78, 45, 198, 0, 10, 28, 184, 0, 29, 154, 0, 5, 2, 172, 42, 180, 0, 84, 3]
abbrev dktX0_enough_0 : List UInt8 := dkwX0_enough_0 ++ dktX0_enough_1
theorem dksX0_enough_0 : cX0_enough.data.toList.drop 0 = dktX0_enough_0 := by decide +kernel
theorem dksX0_enough_1 : cX0_enough.data.toList.drop 24 = dktX0_enough_1 := dk_seg dksX0_enough_0 24 rfl rfl
theorem dksX0_enough_2 : cX0_enough.data.toList.drop 48 = dktX0_enough_2 := dk_seg dksX0_enough_1 24 rfl rfl
theorem dksX0_enough_3 : cX0_enough.data.toList.drop 71 = dktX0_enough_3 := dk_seg dksX0_enough_2 23 rfl rfl
theorem dksX0_enough_4 : cX0_enough.data.toList.drop 95 = dktX0_enough_4 := dk_seg dksX0_enough_3 24 rfl rfl
theorem dksX0_enough_5 : cX0_enough.data.toList.drop 119 = dktX0_enough_5 := dk_seg dksX0_enough_4 24 rfl rfl
theorem dksX0_enough_6 : cX0_enough.data.toList.drop 143 = dktX0_enough_6 := dk_seg dksX0_enough_5 24 rfl rfl
theorem dksX0_enough_7 : cX0_enough.data.toList.drop 166 = dktX0_enough_7 := dk_seg dksX0_enough_6 23 rfl rfl
theorem dX0_enough_0 : decode cX0_enough 0 = .ok (.aload_n 0, 1) := dk_42 (dk_at dksX0_enough_0 0 rfl rfl)
theorem dX0_enough_1 : decode cX0_enough 1 = .ok (.iload_n 1, 1) := dk_27 (dk_at dksX0_enough_0 1 rfl rfl)
theorem dX0_enough_2 : decode cX0_enough 2 = .ok (.invokevirtual 238, 3) := dk_182 0 238 (dk_at dksX0_enough_0 2 rfl rfl)
theorem dX0_enough_5 : decode cX0_enough 5 = .ok (.astore_n 3, 1) := dk_78 (dk_at dksX0_enough_0 5 rfl rfl)
theorem dX0_enough_6 : decode cX0_enough 6 = .ok (.aload_n 3, 1) := dk_45 (dk_at dksX0_enough_0 6 rfl rfl)
theorem dX0_enough_7 : decode cX0_enough 7 = .ok (.ifnull 10, 3) := dk_198 0 10 (dk_at dksX0_enough_0 7 rfl rfl)
theorem dX0_enough_10 : decode cX0_enough 10 = .ok (.iload_n 2, 1) := dk_28 (dk_at dksX0_enough_0 10 rfl rfl)
theorem dX0_enough_11 : decode cX0_enough 11 = .ok (.invokestatic 29, 3) := dk_184 0 29 (dk_at dksX0_enough_0 11 rfl rfl)
theorem dX0_enough_14 : decode cX0_enough 14 = .ok (.ifCond .ne 5, 3) := dk_154 0 5 (dk_at dksX0_enough_0 14 rfl rfl)
theorem dX0_enough_17 : decode cX0_enough 17 = .ok (.iconst (-1), 1) := dk_2 (dk_at dksX0_enough_0 17 rfl rfl)
theorem dX0_enough_18 : decode cX0_enough 18 = .ok (.ireturn, 1) := dk_172 (dk_at dksX0_enough_0 18 rfl rfl)
theorem dX0_enough_19 : decode cX0_enough 19 = .ok (.aload_n 0, 1) := dk_42 (dk_at dksX0_enough_0 19 rfl rfl)
theorem dX0_enough_20 : decode cX0_enough 20 = .ok (.getfield 84, 3) := dk_180 0 84 (dk_at dksX0_enough_0 20 rfl rfl)
theorem dX0_enough_23 : decode cX0_enough 23 = .ok (.iconst 0, 1) := dk_3 (dk_at dksX0_enough_0 23 rfl rfl)
theorem dX0_enough_24 : decode cX0_enough 24 = .ok (.aaload, 1) := dk_50 (dk_at dksX0_enough_1 0 rfl rfl)
theorem dX0_enough_25 : decode cX0_enough 25 = .ok (.lconst 0, 1) := dk_9 (dk_at dksX0_enough_1 1 rfl rfl)
theorem dX0_enough_26 : decode cX0_enough 26 = .ok (.invokestatic 41, 3) := dk_184 0 41 (dk_at dksX0_enough_1 2 rfl rfl)
theorem dX0_enough_29 : decode cX0_enough 29 = .ok (.aload_n 0, 1) := dk_42 (dk_at dksX0_enough_1 5 rfl rfl)
theorem dX0_enough_30 : decode cX0_enough 30 = .ok (.aconst_null, 1) := dk_1 (dk_at dksX0_enough_1 6 rfl rfl)
theorem dX0_enough_31 : decode cX0_enough 31 = .ok (.putfield 78, 3) := dk_181 0 78 (dk_at dksX0_enough_1 7 rfl rfl)
theorem dX0_enough_34 : decode cX0_enough 34 = .ok (.aload_n 0, 1) := dk_42 (dk_at dksX0_enough_1 10 rfl rfl)
theorem dX0_enough_35 : decode cX0_enough 35 = .ok (.getfield 84, 3) := dk_180 0 84 (dk_at dksX0_enough_1 11 rfl rfl)
theorem dX0_enough_38 : decode cX0_enough 38 = .ok (.iconst 0, 1) := dk_3 (dk_at dksX0_enough_1 14 rfl rfl)
theorem dX0_enough_39 : decode cX0_enough 39 = .ok (.aaload, 1) := dk_50 (dk_at dksX0_enough_1 15 rfl rfl)
theorem dX0_enough_40 : decode cX0_enough 40 = .ok (.sipush 15000, 3) := dk_17 58 152 (dk_at dksX0_enough_1 16 rfl rfl)
theorem dX0_enough_43 : decode cX0_enough 43 = .ok (.lconst 1, 1) := dk_10 (dk_at dksX0_enough_1 19 rfl rfl)
theorem dX0_enough_44 : decode cX0_enough 44 = .ok (.lastore, 1) := dk_80 (dk_at dksX0_enough_1 20 rfl rfl)
theorem dX0_enough_45 : decode cX0_enough 45 = .ok (.iconst 0, 1) := dk_3 (dk_at dksX0_enough_1 21 rfl rfl)
theorem dX0_enough_46 : decode cX0_enough 46 = .ok (.istore 4, 2) := dk_54 4 (dk_at dksX0_enough_1 22 rfl rfl)
theorem dX0_enough_48 : decode cX0_enough 48 = .ok (.iload 4, 2) := dk_21 4 (dk_at dksX0_enough_2 0 rfl rfl)
theorem dX0_enough_50 : decode cX0_enough 50 = .ok (.aload_n 3, 1) := dk_45 (dk_at dksX0_enough_2 2 rfl rfl)
theorem dX0_enough_51 : decode cX0_enough 51 = .ok (.invokevirtual 9, 3) := dk_182 0 9 (dk_at dksX0_enough_2 3 rfl rfl)
theorem dX0_enough_54 : decode cX0_enough 54 = .ok (.if_icmp .ge 123, 3) := dk_162 0 123 (dk_at dksX0_enough_2 6 rfl rfl)
theorem dX0_enough_57 : decode cX0_enough 57 = .ok (.aload_n 0, 1) := dk_42 (dk_at dksX0_enough_2 9 rfl rfl)
theorem dX0_enough_58 : decode cX0_enough 58 = .ok (.getfield 84, 3) := dk_180 0 84 (dk_at dksX0_enough_2 10 rfl rfl)
theorem dX0_enough_61 : decode cX0_enough 61 = .ok (.iconst 1, 1) := dk_4 (dk_at dksX0_enough_2 13 rfl rfl)
theorem dX0_enough_62 : decode cX0_enough 62 = .ok (.aaload, 1) := dk_50 (dk_at dksX0_enough_2 14 rfl rfl)
theorem dX0_enough_63 : decode cX0_enough 63 = .ok (.lconst 0, 1) := dk_9 (dk_at dksX0_enough_2 15 rfl rfl)
theorem dX0_enough_64 : decode cX0_enough 64 = .ok (.invokestatic 41, 3) := dk_184 0 41 (dk_at dksX0_enough_2 16 rfl rfl)
theorem dX0_enough_67 : decode cX0_enough 67 = .ok (.aload_n 3, 1) := dk_45 (dk_at dksX0_enough_2 19 rfl rfl)
theorem dX0_enough_68 : decode cX0_enough 68 = .ok (.getfield 47, 3) := dk_180 0 47 (dk_at dksX0_enough_2 20 rfl rfl)
theorem dX0_enough_71 : decode cX0_enough 71 = .ok (.iload 4, 2) := dk_21 4 (dk_at dksX0_enough_3 0 rfl rfl)
theorem dX0_enough_73 : decode cX0_enough 73 = .ok (.aaload, 1) := dk_50 (dk_at dksX0_enough_3 2 rfl rfl)
theorem dX0_enough_74 : decode cX0_enough 74 = .ok (.getfield 51, 3) := dk_180 0 51 (dk_at dksX0_enough_3 3 rfl rfl)
theorem dX0_enough_77 : decode cX0_enough 77 = .ok (.istore 5, 2) := dk_54 5 (dk_at dksX0_enough_3 6 rfl rfl)
theorem dX0_enough_79 : decode cX0_enough 79 = .ok (.iload 5, 2) := dk_21 5 (dk_at dksX0_enough_3 8 rfl rfl)
theorem dX0_enough_81 : decode cX0_enough 81 = .ok (.aload_n 3, 1) := dk_45 (dk_at dksX0_enough_3 10 rfl rfl)
theorem dX0_enough_82 : decode cX0_enough 82 = .ok (.getfield 47, 3) := dk_180 0 47 (dk_at dksX0_enough_3 11 rfl rfl)
theorem dX0_enough_85 : decode cX0_enough 85 = .ok (.iload 4, 2) := dk_21 4 (dk_at dksX0_enough_3 14 rfl rfl)
theorem dX0_enough_87 : decode cX0_enough 87 = .ok (.aaload, 1) := dk_50 (dk_at dksX0_enough_3 16 rfl rfl)
theorem dX0_enough_88 : decode cX0_enough 88 = .ok (.getfield 57, 3) := dk_180 0 57 (dk_at dksX0_enough_3 17 rfl rfl)
theorem dX0_enough_91 : decode cX0_enough 91 = .ok (.if_icmp .gt 38, 3) := dk_163 0 38 (dk_at dksX0_enough_3 20 rfl rfl)
theorem dX0_enough_94 : decode cX0_enough 94 = .ok (.aload_n 0, 1) := dk_42 (dk_at dksX0_enough_3 23 rfl rfl)
theorem dX0_enough_95 : decode cX0_enough 95 = .ok (.getfield 84, 3) := dk_180 0 84 (dk_at dksX0_enough_4 0 rfl rfl)
theorem dX0_enough_98 : decode cX0_enough 98 = .ok (.iconst 1, 1) := dk_4 (dk_at dksX0_enough_4 3 rfl rfl)
theorem dX0_enough_99 : decode cX0_enough 99 = .ok (.aaload, 1) := dk_50 (dk_at dksX0_enough_4 4 rfl rfl)
theorem dX0_enough_100 : decode cX0_enough 100 = .ok (.aload_n 0, 1) := dk_42 (dk_at dksX0_enough_4 5 rfl rfl)
theorem dX0_enough_101 : decode cX0_enough 101 = .ok (.getfield 84, 3) := dk_180 0 84 (dk_at dksX0_enough_4 6 rfl rfl)
theorem dX0_enough_104 : decode cX0_enough 104 = .ok (.iconst 0, 1) := dk_3 (dk_at dksX0_enough_4 9 rfl rfl)
theorem dX0_enough_105 : decode cX0_enough 105 = .ok (.aaload, 1) := dk_50 (dk_at dksX0_enough_4 10 rfl rfl)
theorem dX0_enough_106 : decode cX0_enough 106 = .ok (.aload_n 3, 1) := dk_45 (dk_at dksX0_enough_4 11 rfl rfl)
theorem dX0_enough_107 : decode cX0_enough 107 = .ok (.getfield 47, 3) := dk_180 0 47 (dk_at dksX0_enough_4 12 rfl rfl)
theorem dX0_enough_110 : decode cX0_enough 110 = .ok (.iload 4, 2) := dk_21 4 (dk_at dksX0_enough_4 15 rfl rfl)
theorem dX0_enough_112 : decode cX0_enough 112 = .ok (.aaload, 1) := dk_50 (dk_at dksX0_enough_4 17 rfl rfl)
theorem dX0_enough_113 : decode cX0_enough 113 = .ok (.iload 5, 2) := dk_21 5 (dk_at dksX0_enough_4 18 rfl rfl)
theorem dX0_enough_115 : decode cX0_enough 115 = .ok (.i2l, 1) := dk_133 (dk_at dksX0_enough_4 20 rfl rfl)
theorem dX0_enough_116 : decode cX0_enough 116 = .ok (.invokevirtual 60, 3) := dk_182 0 60 (dk_at dksX0_enough_4 21 rfl rfl)
theorem dX0_enough_119 : decode cX0_enough 119 = .ok (.l2i, 1) := dk_136 (dk_at dksX0_enough_5 0 rfl rfl)
theorem dX0_enough_120 : decode cX0_enough 120 = .ok (.invokestatic 64, 3) := dk_184 0 64 (dk_at dksX0_enough_5 1 rfl rfl)
theorem dX0_enough_123 : decode cX0_enough 123 = .ok (.iinc 5 1, 3) := dk_132 5 1 (dk_at dksX0_enough_5 4 rfl rfl)
theorem dX0_enough_126 : decode cX0_enough 126 = .ok (.goto (-47), 3) := dk_167 255 209 (dk_at dksX0_enough_5 7 rfl rfl)
theorem dX0_enough_129 : decode cX0_enough 129 = .ok (.aload_n 0, 1) := dk_42 (dk_at dksX0_enough_5 10 rfl rfl)
theorem dX0_enough_130 : decode cX0_enough 130 = .ok (.getfield 84, 3) := dk_180 0 84 (dk_at dksX0_enough_5 11 rfl rfl)
theorem dX0_enough_133 : decode cX0_enough 133 = .ok (.iconst 1, 1) := dk_4 (dk_at dksX0_enough_5 14 rfl rfl)
theorem dX0_enough_134 : decode cX0_enough 134 = .ok (.aaload, 1) := dk_50 (dk_at dksX0_enough_5 15 rfl rfl)
theorem dX0_enough_135 : decode cX0_enough 135 = .ok (.iconst 0, 1) := dk_3 (dk_at dksX0_enough_5 16 rfl rfl)
theorem dX0_enough_136 : decode cX0_enough 136 = .ok (.aload_n 0, 1) := dk_42 (dk_at dksX0_enough_5 17 rfl rfl)
theorem dX0_enough_137 : decode cX0_enough 137 = .ok (.getfield 84, 3) := dk_180 0 84 (dk_at dksX0_enough_5 18 rfl rfl)
theorem dX0_enough_140 : decode cX0_enough 140 = .ok (.iconst 0, 1) := dk_3 (dk_at dksX0_enough_5 21 rfl rfl)
theorem dX0_enough_141 : decode cX0_enough 141 = .ok (.aaload, 1) := dk_50 (dk_at dksX0_enough_5 22 rfl rfl)
theorem dX0_enough_142 : decode cX0_enough 142 = .ok (.iconst 0, 1) := dk_3 (dk_at dksX0_enough_5 23 rfl rfl)
theorem dX0_enough_143 : decode cX0_enough 143 = .ok (.sipush 30001, 3) := dk_17 117 49 (dk_at dksX0_enough_6 0 rfl rfl)
theorem dX0_enough_146 : decode cX0_enough 146 = .ok (.invokestatic 91, 3) := dk_184 0 91 (dk_at dksX0_enough_6 3 rfl rfl)
theorem dX0_enough_149 : decode cX0_enough 149 = .ok (.aload_n 0, 1) := dk_42 (dk_at dksX0_enough_6 6 rfl rfl)
theorem dX0_enough_150 : decode cX0_enough 150 = .ok (.getfield 84, 3) := dk_180 0 84 (dk_at dksX0_enough_6 7 rfl rfl)
theorem dX0_enough_153 : decode cX0_enough 153 = .ok (.iconst 0, 1) := dk_3 (dk_at dksX0_enough_6 10 rfl rfl)
theorem dX0_enough_154 : decode cX0_enough 154 = .ok (.aaload, 1) := dk_50 (dk_at dksX0_enough_6 11 rfl rfl)
theorem dX0_enough_155 : decode cX0_enough 155 = .ok (.sipush 15000, 3) := dk_17 58 152 (dk_at dksX0_enough_6 12 rfl rfl)
theorem dX0_enough_158 : decode cX0_enough 158 = .ok (.iload_n 2, 1) := dk_28 (dk_at dksX0_enough_6 15 rfl rfl)
theorem dX0_enough_159 : decode cX0_enough 159 = .ok (.iadd, 1) := dk_96 (dk_at dksX0_enough_6 16 rfl rfl)
theorem dX0_enough_160 : decode cX0_enough 160 = .ok (.laload, 1) := dk_47 (dk_at dksX0_enough_6 17 rfl rfl)
theorem dX0_enough_161 : decode cX0_enough 161 = .ok (.lconst 0, 1) := dk_9 (dk_at dksX0_enough_6 18 rfl rfl)
theorem dX0_enough_162 : decode cX0_enough 162 = .ok (.lcmp, 1) := dk_148 (dk_at dksX0_enough_6 19 rfl rfl)
theorem dX0_enough_163 : decode cX0_enough 163 = .ok (.ifCond .le 8, 3) := dk_158 0 8 (dk_at dksX0_enough_6 20 rfl rfl)
theorem dX0_enough_166 : decode cX0_enough 166 = .ok (.iload 4, 2) := dk_21 4 (dk_at dksX0_enough_7 0 rfl rfl)
theorem dX0_enough_168 : decode cX0_enough 168 = .ok (.iconst 1, 1) := dk_4 (dk_at dksX0_enough_7 2 rfl rfl)
theorem dX0_enough_169 : decode cX0_enough 169 = .ok (.iadd, 1) := dk_96 (dk_at dksX0_enough_7 3 rfl rfl)
theorem dX0_enough_170 : decode cX0_enough 170 = .ok (.ireturn, 1) := dk_172 (dk_at dksX0_enough_7 4 rfl rfl)
theorem dX0_enough_171 : decode cX0_enough 171 = .ok (.iinc 4 1, 3) := dk_132 4 1 (dk_at dksX0_enough_7 5 rfl rfl)
theorem dX0_enough_174 : decode cX0_enough 174 = .ok (.goto (-126), 3) := dk_167 255 130 (dk_at dksX0_enough_7 8 rfl rfl)
theorem dX0_enough_177 : decode cX0_enough 177 = .ok (.iconst (-1), 1) := dk_2 (dk_at dksX0_enough_7 11 rfl rfl)
theorem dX0_enough_178 : decode cX0_enough 178 = .ok (.ireturn, 1) := dk_172 (dk_at dksX0_enough_7 12 rfl rfl)
abbrev cX0_join : ByteArray := prog_1_method_46_code
def yX0_join : MethodName := ⟨RX0, "join", "(III)Z"⟩
def dkwX0_join_6 : List UInt8 := [21, 7, 184, 1, 84, 83, 4, 172]
abbrev dktX0_join_6 : List UInt8 := dkwX0_join_6 ++ []
def dkwX0_join_5 : List UInt8 := [184, 0, 91, 167, 0, 7, 58, 9, 3, 172, 21, 7, 154, 0, 5, 3, 172, 42, 180, 0, 5, 29, 25, 8]
abbrev dktX0_join_5 : List UInt8 := dkwX0_join_5 ++ dktX0_join_6
def dkwX0_join_4 : List UInt8 := [184, 0, 91, 25, 5, 198, 0, 21, 25, 5, 180, 0, 47, 3, 25, 8, 21, 6, 25, 5, 182, 0, 9]
abbrev dktX0_join_4 : List UInt8 := dkwX0_join_4 ++ dktX0_join_5
def dkwX0_join_3 : List UInt8 := [8, 189, 0, 52, 58, 8, 25, 4, 198, 0, 17, 25, 4, 180, 0, 47, 3, 25, 8, 3, 21, 6]
abbrev dktX0_join_3 : List UInt8 := dkwX0_join_3 ++ dktX0_join_4
def dkwX0_join_2 : List UInt8 := [182, 0, 9, 54, 6, 21, 6, 25, 5, 199, 0, 7, 3, 167, 0, 8, 25, 5, 182, 0, 9, 96, 54, 7]
abbrev dktX0_join_2 : List UInt8 := dkwX0_join_2 ++ dktX0_join_3
def dkwX0_join_1 : List UInt8 := [27, 182, 0, 238, 58, 4, 42, 28, 182, 0, 238, 58, 5, 25, 4, 199, 0, 7, 3, 167, 0, 8, 25, 4]
abbrev dktX0_join_1 : List UInt8 := dkwX0_join_1 ++ dktX0_join_2
def dkwX0_join_0 : List UInt8 := [27, 184, 0, 226, 153, 0, 17, 28, 184, 0, 226, 153, 0, 10, 29, 184, 0, 226, 154, 0, 5, 3, 172, 42]
abbrev dktX0_join_0 : List UInt8 := dkwX0_join_0 ++ dktX0_join_1
theorem dksX0_join_0 : cX0_join.data.toList.drop 0 = dktX0_join_0 := by decide +kernel
theorem dksX0_join_1 : cX0_join.data.toList.drop 24 = dktX0_join_1 := dk_seg dksX0_join_0 24 rfl rfl
theorem dksX0_join_2 : cX0_join.data.toList.drop 48 = dktX0_join_2 := dk_seg dksX0_join_1 24 rfl rfl
theorem dksX0_join_3 : cX0_join.data.toList.drop 72 = dktX0_join_3 := dk_seg dksX0_join_2 24 rfl rfl
theorem dksX0_join_4 : cX0_join.data.toList.drop 94 = dktX0_join_4 := dk_seg dksX0_join_3 22 rfl rfl
theorem dksX0_join_5 : cX0_join.data.toList.drop 117 = dktX0_join_5 := dk_seg dksX0_join_4 23 rfl rfl
theorem dksX0_join_6 : cX0_join.data.toList.drop 141 = dktX0_join_6 := dk_seg dksX0_join_5 24 rfl rfl
theorem dX0_join_0 : decode cX0_join 0 = .ok (.iload_n 1, 1) := dk_27 (dk_at dksX0_join_0 0 rfl rfl)
theorem dX0_join_1 : decode cX0_join 1 = .ok (.invokestatic 226, 3) := dk_184 0 226 (dk_at dksX0_join_0 1 rfl rfl)
theorem dX0_join_4 : decode cX0_join 4 = .ok (.ifCond .eq 17, 3) := dk_153 0 17 (dk_at dksX0_join_0 4 rfl rfl)
theorem dX0_join_7 : decode cX0_join 7 = .ok (.iload_n 2, 1) := dk_28 (dk_at dksX0_join_0 7 rfl rfl)
theorem dX0_join_8 : decode cX0_join 8 = .ok (.invokestatic 226, 3) := dk_184 0 226 (dk_at dksX0_join_0 8 rfl rfl)
theorem dX0_join_11 : decode cX0_join 11 = .ok (.ifCond .eq 10, 3) := dk_153 0 10 (dk_at dksX0_join_0 11 rfl rfl)
theorem dX0_join_14 : decode cX0_join 14 = .ok (.iload_n 3, 1) := dk_29 (dk_at dksX0_join_0 14 rfl rfl)
theorem dX0_join_15 : decode cX0_join 15 = .ok (.invokestatic 226, 3) := dk_184 0 226 (dk_at dksX0_join_0 15 rfl rfl)
theorem dX0_join_18 : decode cX0_join 18 = .ok (.ifCond .ne 5, 3) := dk_154 0 5 (dk_at dksX0_join_0 18 rfl rfl)
theorem dX0_join_21 : decode cX0_join 21 = .ok (.iconst 0, 1) := dk_3 (dk_at dksX0_join_0 21 rfl rfl)
theorem dX0_join_22 : decode cX0_join 22 = .ok (.ireturn, 1) := dk_172 (dk_at dksX0_join_0 22 rfl rfl)
theorem dX0_join_23 : decode cX0_join 23 = .ok (.aload_n 0, 1) := dk_42 (dk_at dksX0_join_0 23 rfl rfl)
theorem dX0_join_24 : decode cX0_join 24 = .ok (.iload_n 1, 1) := dk_27 (dk_at dksX0_join_1 0 rfl rfl)
theorem dX0_join_25 : decode cX0_join 25 = .ok (.invokevirtual 238, 3) := dk_182 0 238 (dk_at dksX0_join_1 1 rfl rfl)
theorem dX0_join_28 : decode cX0_join 28 = .ok (.astore 4, 2) := dk_58 4 (dk_at dksX0_join_1 4 rfl rfl)
theorem dX0_join_30 : decode cX0_join 30 = .ok (.aload_n 0, 1) := dk_42 (dk_at dksX0_join_1 6 rfl rfl)
theorem dX0_join_31 : decode cX0_join 31 = .ok (.iload_n 2, 1) := dk_28 (dk_at dksX0_join_1 7 rfl rfl)
theorem dX0_join_32 : decode cX0_join 32 = .ok (.invokevirtual 238, 3) := dk_182 0 238 (dk_at dksX0_join_1 8 rfl rfl)
theorem dX0_join_35 : decode cX0_join 35 = .ok (.astore 5, 2) := dk_58 5 (dk_at dksX0_join_1 11 rfl rfl)
theorem dX0_join_37 : decode cX0_join 37 = .ok (.aload 4, 2) := dk_25 4 (dk_at dksX0_join_1 13 rfl rfl)
theorem dX0_join_39 : decode cX0_join 39 = .ok (.ifnonnull 7, 3) := dk_199 0 7 (dk_at dksX0_join_1 15 rfl rfl)
theorem dX0_join_42 : decode cX0_join 42 = .ok (.iconst 0, 1) := dk_3 (dk_at dksX0_join_1 18 rfl rfl)
theorem dX0_join_43 : decode cX0_join 43 = .ok (.goto 8, 3) := dk_167 0 8 (dk_at dksX0_join_1 19 rfl rfl)
theorem dX0_join_46 : decode cX0_join 46 = .ok (.aload 4, 2) := dk_25 4 (dk_at dksX0_join_1 22 rfl rfl)
theorem dX0_join_48 : decode cX0_join 48 = .ok (.invokevirtual 9, 3) := dk_182 0 9 (dk_at dksX0_join_2 0 rfl rfl)
theorem dX0_join_51 : decode cX0_join 51 = .ok (.istore 6, 2) := dk_54 6 (dk_at dksX0_join_2 3 rfl rfl)
theorem dX0_join_53 : decode cX0_join 53 = .ok (.iload 6, 2) := dk_21 6 (dk_at dksX0_join_2 5 rfl rfl)
theorem dX0_join_55 : decode cX0_join 55 = .ok (.aload 5, 2) := dk_25 5 (dk_at dksX0_join_2 7 rfl rfl)
theorem dX0_join_57 : decode cX0_join 57 = .ok (.ifnonnull 7, 3) := dk_199 0 7 (dk_at dksX0_join_2 9 rfl rfl)
theorem dX0_join_60 : decode cX0_join 60 = .ok (.iconst 0, 1) := dk_3 (dk_at dksX0_join_2 12 rfl rfl)
theorem dX0_join_61 : decode cX0_join 61 = .ok (.goto 8, 3) := dk_167 0 8 (dk_at dksX0_join_2 13 rfl rfl)
theorem dX0_join_64 : decode cX0_join 64 = .ok (.aload 5, 2) := dk_25 5 (dk_at dksX0_join_2 16 rfl rfl)
theorem dX0_join_66 : decode cX0_join 66 = .ok (.invokevirtual 9, 3) := dk_182 0 9 (dk_at dksX0_join_2 18 rfl rfl)
theorem dX0_join_69 : decode cX0_join 69 = .ok (.iadd, 1) := dk_96 (dk_at dksX0_join_2 21 rfl rfl)
theorem dX0_join_70 : decode cX0_join 70 = .ok (.istore 7, 2) := dk_54 7 (dk_at dksX0_join_2 22 rfl rfl)
theorem dX0_join_72 : decode cX0_join 72 = .ok (.iconst 5, 1) := dk_8 (dk_at dksX0_join_3 0 rfl rfl)
theorem dX0_join_73 : decode cX0_join 73 = .ok (.anewarray 52, 3) := dk_189 0 52 (dk_at dksX0_join_3 1 rfl rfl)
theorem dX0_join_76 : decode cX0_join 76 = .ok (.astore 8, 2) := dk_58 8 (dk_at dksX0_join_3 4 rfl rfl)
theorem dX0_join_78 : decode cX0_join 78 = .ok (.aload 4, 2) := dk_25 4 (dk_at dksX0_join_3 6 rfl rfl)
theorem dX0_join_80 : decode cX0_join 80 = .ok (.ifnull 17, 3) := dk_198 0 17 (dk_at dksX0_join_3 8 rfl rfl)
theorem dX0_join_83 : decode cX0_join 83 = .ok (.aload 4, 2) := dk_25 4 (dk_at dksX0_join_3 11 rfl rfl)
theorem dX0_join_85 : decode cX0_join 85 = .ok (.getfield 47, 3) := dk_180 0 47 (dk_at dksX0_join_3 13 rfl rfl)
theorem dX0_join_88 : decode cX0_join 88 = .ok (.iconst 0, 1) := dk_3 (dk_at dksX0_join_3 16 rfl rfl)
theorem dX0_join_89 : decode cX0_join 89 = .ok (.aload 8, 2) := dk_25 8 (dk_at dksX0_join_3 17 rfl rfl)
theorem dX0_join_91 : decode cX0_join 91 = .ok (.iconst 0, 1) := dk_3 (dk_at dksX0_join_3 19 rfl rfl)
theorem dX0_join_92 : decode cX0_join 92 = .ok (.iload 6, 2) := dk_21 6 (dk_at dksX0_join_3 20 rfl rfl)
theorem dX0_join_94 : decode cX0_join 94 = .ok (.invokestatic 91, 3) := dk_184 0 91 (dk_at dksX0_join_4 0 rfl rfl)
theorem dX0_join_97 : decode cX0_join 97 = .ok (.aload 5, 2) := dk_25 5 (dk_at dksX0_join_4 3 rfl rfl)
theorem dX0_join_99 : decode cX0_join 99 = .ok (.ifnull 21, 3) := dk_198 0 21 (dk_at dksX0_join_4 5 rfl rfl)
theorem dX0_join_102 : decode cX0_join 102 = .ok (.aload 5, 2) := dk_25 5 (dk_at dksX0_join_4 8 rfl rfl)
theorem dX0_join_104 : decode cX0_join 104 = .ok (.getfield 47, 3) := dk_180 0 47 (dk_at dksX0_join_4 10 rfl rfl)
theorem dX0_join_107 : decode cX0_join 107 = .ok (.iconst 0, 1) := dk_3 (dk_at dksX0_join_4 13 rfl rfl)
theorem dX0_join_108 : decode cX0_join 108 = .ok (.aload 8, 2) := dk_25 8 (dk_at dksX0_join_4 14 rfl rfl)
theorem dX0_join_110 : decode cX0_join 110 = .ok (.iload 6, 2) := dk_21 6 (dk_at dksX0_join_4 16 rfl rfl)
theorem dX0_join_112 : decode cX0_join 112 = .ok (.aload 5, 2) := dk_25 5 (dk_at dksX0_join_4 18 rfl rfl)
theorem dX0_join_114 : decode cX0_join 114 = .ok (.invokevirtual 9, 3) := dk_182 0 9 (dk_at dksX0_join_4 20 rfl rfl)
theorem dX0_join_117 : decode cX0_join 117 = .ok (.invokestatic 91, 3) := dk_184 0 91 (dk_at dksX0_join_5 0 rfl rfl)
theorem dX0_join_120 : decode cX0_join 120 = .ok (.goto 7, 3) := dk_167 0 7 (dk_at dksX0_join_5 3 rfl rfl)
theorem dX0_join_123 : decode cX0_join 123 = .ok (.astore 9, 2) := dk_58 9 (dk_at dksX0_join_5 6 rfl rfl)
theorem dX0_join_125 : decode cX0_join 125 = .ok (.iconst 0, 1) := dk_3 (dk_at dksX0_join_5 8 rfl rfl)
theorem dX0_join_126 : decode cX0_join 126 = .ok (.ireturn, 1) := dk_172 (dk_at dksX0_join_5 9 rfl rfl)
theorem dX0_join_127 : decode cX0_join 127 = .ok (.iload 7, 2) := dk_21 7 (dk_at dksX0_join_5 10 rfl rfl)
theorem dX0_join_129 : decode cX0_join 129 = .ok (.ifCond .ne 5, 3) := dk_154 0 5 (dk_at dksX0_join_5 12 rfl rfl)
theorem dX0_join_132 : decode cX0_join 132 = .ok (.iconst 0, 1) := dk_3 (dk_at dksX0_join_5 15 rfl rfl)
theorem dX0_join_133 : decode cX0_join 133 = .ok (.ireturn, 1) := dk_172 (dk_at dksX0_join_5 16 rfl rfl)
theorem dX0_join_134 : decode cX0_join 134 = .ok (.aload_n 0, 1) := dk_42 (dk_at dksX0_join_5 17 rfl rfl)
theorem dX0_join_135 : decode cX0_join 135 = .ok (.getfield 5, 3) := dk_180 0 5 (dk_at dksX0_join_5 18 rfl rfl)
theorem dX0_join_138 : decode cX0_join 138 = .ok (.iload_n 3, 1) := dk_29 (dk_at dksX0_join_5 21 rfl rfl)
theorem dX0_join_139 : decode cX0_join 139 = .ok (.aload 8, 2) := dk_25 8 (dk_at dksX0_join_5 22 rfl rfl)
theorem dX0_join_141 : decode cX0_join 141 = .ok (.iload 7, 2) := dk_21 7 (dk_at dksX0_join_6 0 rfl rfl)
theorem dX0_join_143 : decode cX0_join 143 = .ok (.invokestatic 340, 3) := dk_184 1 84 (dk_at dksX0_join_6 2 rfl rfl)
theorem dX0_join_146 : decode cX0_join 146 = .ok (.aastore, 1) := dk_83 (dk_at dksX0_join_6 5 rfl rfl)
theorem dX0_join_147 : decode cX0_join 147 = .ok (.iconst 1, 1) := dk_4 (dk_at dksX0_join_6 6 rfl rfl)
theorem dX0_join_148 : decode cX0_join 148 = .ok (.ireturn, 1) := dk_172 (dk_at dksX0_join_6 7 rfl rfl)
abbrev cX0_formOf : ByteArray := prog_1_method_47_code
def yX0_formOf : MethodName := ⟨RX0, "formOf", "([LToldPowers$Term;I)LToldPowers$Form;"⟩
def dkwX0_formOf_0 : List UInt8 := [27, 189, 0, 52, 77, 42, 3, 44, 3, 27, 184, 0, 91, 187, 0, 10, 89, 44, 183, 1, 88, 176]
abbrev dktX0_formOf_0 : List UInt8 := dkwX0_formOf_0 ++ []
theorem dksX0_formOf_0 : cX0_formOf.data.toList.drop 0 = dktX0_formOf_0 := by decide +kernel
theorem dX0_formOf_0 : decode cX0_formOf 0 = .ok (.iload_n 1, 1) := dk_27 (dk_at dksX0_formOf_0 0 rfl rfl)
theorem dX0_formOf_1 : decode cX0_formOf 1 = .ok (.anewarray 52, 3) := dk_189 0 52 (dk_at dksX0_formOf_0 1 rfl rfl)
theorem dX0_formOf_4 : decode cX0_formOf 4 = .ok (.astore_n 2, 1) := dk_77 (dk_at dksX0_formOf_0 4 rfl rfl)
theorem dX0_formOf_5 : decode cX0_formOf 5 = .ok (.aload_n 0, 1) := dk_42 (dk_at dksX0_formOf_0 5 rfl rfl)
theorem dX0_formOf_6 : decode cX0_formOf 6 = .ok (.iconst 0, 1) := dk_3 (dk_at dksX0_formOf_0 6 rfl rfl)
theorem dX0_formOf_7 : decode cX0_formOf 7 = .ok (.aload_n 2, 1) := dk_44 (dk_at dksX0_formOf_0 7 rfl rfl)
theorem dX0_formOf_8 : decode cX0_formOf 8 = .ok (.iconst 0, 1) := dk_3 (dk_at dksX0_formOf_0 8 rfl rfl)
theorem dX0_formOf_9 : decode cX0_formOf 9 = .ok (.iload_n 1, 1) := dk_27 (dk_at dksX0_formOf_0 9 rfl rfl)
theorem dX0_formOf_10 : decode cX0_formOf 10 = .ok (.invokestatic 91, 3) := dk_184 0 91 (dk_at dksX0_formOf_0 10 rfl rfl)
theorem dX0_formOf_13 : decode cX0_formOf 13 = .ok (.new 10, 3) := dk_187 0 10 (dk_at dksX0_formOf_0 13 rfl rfl)
theorem dX0_formOf_16 : decode cX0_formOf 16 = .ok (.dup, 1) := dk_89 (dk_at dksX0_formOf_0 16 rfl rfl)
theorem dX0_formOf_17 : decode cX0_formOf 17 = .ok (.aload_n 2, 1) := dk_44 (dk_at dksX0_formOf_0 17 rfl rfl)
theorem dX0_formOf_18 : decode cX0_formOf 18 = .ok (.invokespecial 344, 3) := dk_183 1 88 (dk_at dksX0_formOf_0 18 rfl rfl)
theorem dX0_formOf_21 : decode cX0_formOf 21 = .ok (.areturn, 1) := dk_176 (dk_at dksX0_formOf_0 21 rfl rfl)
abbrev cX0_drop : ByteArray := prog_1_method_48_code
def yX0_drop : MethodName := ⟨RX0, "drop", "(II)Z"⟩
def dkwX0_drop_3 : List UInt8 := [27, 25, 4, 45, 182, 0, 9, 4, 100, 184, 1, 84, 83, 4, 172]
abbrev dktX0_drop_3 : List UInt8 := dkwX0_drop_3 ++ []
def dkwX0_drop_2 : List UInt8 := [180, 0, 47, 28, 4, 96, 25, 4, 28, 45, 182, 0, 9, 28, 100, 4, 100, 184, 0, 91, 42, 180, 0, 5]
abbrev dktX0_drop_2 : List UInt8 := dkwX0_drop_2 ++ dktX0_drop_3
def dkwX0_drop_1 : List UInt8 := [154, 0, 5, 3, 172, 8, 189, 0, 52, 58, 4, 45, 180, 0, 47, 3, 25, 4, 3, 28, 184, 0, 91, 45]
abbrev dktX0_drop_1 : List UInt8 := dkwX0_drop_1 ++ dktX0_drop_2
def dkwX0_drop_0 : List UInt8 := [42, 27, 182, 0, 238, 78, 45, 198, 0, 19, 28, 133, 9, 45, 182, 0, 9, 4, 100, 133, 184, 0, 21]
abbrev dktX0_drop_0 : List UInt8 := dkwX0_drop_0 ++ dktX0_drop_1
theorem dksX0_drop_0 : cX0_drop.data.toList.drop 0 = dktX0_drop_0 := by decide +kernel
theorem dksX0_drop_1 : cX0_drop.data.toList.drop 23 = dktX0_drop_1 := dk_seg dksX0_drop_0 23 rfl rfl
theorem dksX0_drop_2 : cX0_drop.data.toList.drop 47 = dktX0_drop_2 := dk_seg dksX0_drop_1 24 rfl rfl
theorem dksX0_drop_3 : cX0_drop.data.toList.drop 71 = dktX0_drop_3 := dk_seg dksX0_drop_2 24 rfl rfl
theorem dX0_drop_0 : decode cX0_drop 0 = .ok (.aload_n 0, 1) := dk_42 (dk_at dksX0_drop_0 0 rfl rfl)
theorem dX0_drop_1 : decode cX0_drop 1 = .ok (.iload_n 1, 1) := dk_27 (dk_at dksX0_drop_0 1 rfl rfl)
theorem dX0_drop_2 : decode cX0_drop 2 = .ok (.invokevirtual 238, 3) := dk_182 0 238 (dk_at dksX0_drop_0 2 rfl rfl)
theorem dX0_drop_5 : decode cX0_drop 5 = .ok (.astore_n 3, 1) := dk_78 (dk_at dksX0_drop_0 5 rfl rfl)
theorem dX0_drop_6 : decode cX0_drop 6 = .ok (.aload_n 3, 1) := dk_45 (dk_at dksX0_drop_0 6 rfl rfl)
theorem dX0_drop_7 : decode cX0_drop 7 = .ok (.ifnull 19, 3) := dk_198 0 19 (dk_at dksX0_drop_0 7 rfl rfl)
theorem dX0_drop_10 : decode cX0_drop 10 = .ok (.iload_n 2, 1) := dk_28 (dk_at dksX0_drop_0 10 rfl rfl)
theorem dX0_drop_11 : decode cX0_drop 11 = .ok (.i2l, 1) := dk_133 (dk_at dksX0_drop_0 11 rfl rfl)
theorem dX0_drop_12 : decode cX0_drop 12 = .ok (.lconst 0, 1) := dk_9 (dk_at dksX0_drop_0 12 rfl rfl)
theorem dX0_drop_13 : decode cX0_drop 13 = .ok (.aload_n 3, 1) := dk_45 (dk_at dksX0_drop_0 13 rfl rfl)
theorem dX0_drop_14 : decode cX0_drop 14 = .ok (.invokevirtual 9, 3) := dk_182 0 9 (dk_at dksX0_drop_0 14 rfl rfl)
theorem dX0_drop_17 : decode cX0_drop 17 = .ok (.iconst 1, 1) := dk_4 (dk_at dksX0_drop_0 17 rfl rfl)
theorem dX0_drop_18 : decode cX0_drop 18 = .ok (.isub, 1) := dk_100 (dk_at dksX0_drop_0 18 rfl rfl)
theorem dX0_drop_19 : decode cX0_drop 19 = .ok (.i2l, 1) := dk_133 (dk_at dksX0_drop_0 19 rfl rfl)
theorem dX0_drop_20 : decode cX0_drop 20 = .ok (.invokestatic 21, 3) := dk_184 0 21 (dk_at dksX0_drop_0 20 rfl rfl)
theorem dX0_drop_23 : decode cX0_drop 23 = .ok (.ifCond .ne 5, 3) := dk_154 0 5 (dk_at dksX0_drop_1 0 rfl rfl)
theorem dX0_drop_26 : decode cX0_drop 26 = .ok (.iconst 0, 1) := dk_3 (dk_at dksX0_drop_1 3 rfl rfl)
theorem dX0_drop_27 : decode cX0_drop 27 = .ok (.ireturn, 1) := dk_172 (dk_at dksX0_drop_1 4 rfl rfl)
theorem dX0_drop_28 : decode cX0_drop 28 = .ok (.iconst 5, 1) := dk_8 (dk_at dksX0_drop_1 5 rfl rfl)
theorem dX0_drop_29 : decode cX0_drop 29 = .ok (.anewarray 52, 3) := dk_189 0 52 (dk_at dksX0_drop_1 6 rfl rfl)
theorem dX0_drop_32 : decode cX0_drop 32 = .ok (.astore 4, 2) := dk_58 4 (dk_at dksX0_drop_1 9 rfl rfl)
theorem dX0_drop_34 : decode cX0_drop 34 = .ok (.aload_n 3, 1) := dk_45 (dk_at dksX0_drop_1 11 rfl rfl)
theorem dX0_drop_35 : decode cX0_drop 35 = .ok (.getfield 47, 3) := dk_180 0 47 (dk_at dksX0_drop_1 12 rfl rfl)
theorem dX0_drop_38 : decode cX0_drop 38 = .ok (.iconst 0, 1) := dk_3 (dk_at dksX0_drop_1 15 rfl rfl)
theorem dX0_drop_39 : decode cX0_drop 39 = .ok (.aload 4, 2) := dk_25 4 (dk_at dksX0_drop_1 16 rfl rfl)
theorem dX0_drop_41 : decode cX0_drop 41 = .ok (.iconst 0, 1) := dk_3 (dk_at dksX0_drop_1 18 rfl rfl)
theorem dX0_drop_42 : decode cX0_drop 42 = .ok (.iload_n 2, 1) := dk_28 (dk_at dksX0_drop_1 19 rfl rfl)
theorem dX0_drop_43 : decode cX0_drop 43 = .ok (.invokestatic 91, 3) := dk_184 0 91 (dk_at dksX0_drop_1 20 rfl rfl)
theorem dX0_drop_46 : decode cX0_drop 46 = .ok (.aload_n 3, 1) := dk_45 (dk_at dksX0_drop_1 23 rfl rfl)
theorem dX0_drop_47 : decode cX0_drop 47 = .ok (.getfield 47, 3) := dk_180 0 47 (dk_at dksX0_drop_2 0 rfl rfl)
theorem dX0_drop_50 : decode cX0_drop 50 = .ok (.iload_n 2, 1) := dk_28 (dk_at dksX0_drop_2 3 rfl rfl)
theorem dX0_drop_51 : decode cX0_drop 51 = .ok (.iconst 1, 1) := dk_4 (dk_at dksX0_drop_2 4 rfl rfl)
theorem dX0_drop_52 : decode cX0_drop 52 = .ok (.iadd, 1) := dk_96 (dk_at dksX0_drop_2 5 rfl rfl)
theorem dX0_drop_53 : decode cX0_drop 53 = .ok (.aload 4, 2) := dk_25 4 (dk_at dksX0_drop_2 6 rfl rfl)
theorem dX0_drop_55 : decode cX0_drop 55 = .ok (.iload_n 2, 1) := dk_28 (dk_at dksX0_drop_2 8 rfl rfl)
theorem dX0_drop_56 : decode cX0_drop 56 = .ok (.aload_n 3, 1) := dk_45 (dk_at dksX0_drop_2 9 rfl rfl)
theorem dX0_drop_57 : decode cX0_drop 57 = .ok (.invokevirtual 9, 3) := dk_182 0 9 (dk_at dksX0_drop_2 10 rfl rfl)
theorem dX0_drop_60 : decode cX0_drop 60 = .ok (.iload_n 2, 1) := dk_28 (dk_at dksX0_drop_2 13 rfl rfl)
theorem dX0_drop_61 : decode cX0_drop 61 = .ok (.isub, 1) := dk_100 (dk_at dksX0_drop_2 14 rfl rfl)
theorem dX0_drop_62 : decode cX0_drop 62 = .ok (.iconst 1, 1) := dk_4 (dk_at dksX0_drop_2 15 rfl rfl)
theorem dX0_drop_63 : decode cX0_drop 63 = .ok (.isub, 1) := dk_100 (dk_at dksX0_drop_2 16 rfl rfl)
theorem dX0_drop_64 : decode cX0_drop 64 = .ok (.invokestatic 91, 3) := dk_184 0 91 (dk_at dksX0_drop_2 17 rfl rfl)
theorem dX0_drop_67 : decode cX0_drop 67 = .ok (.aload_n 0, 1) := dk_42 (dk_at dksX0_drop_2 20 rfl rfl)
theorem dX0_drop_68 : decode cX0_drop 68 = .ok (.getfield 5, 3) := dk_180 0 5 (dk_at dksX0_drop_2 21 rfl rfl)
theorem dX0_drop_71 : decode cX0_drop 71 = .ok (.iload_n 1, 1) := dk_27 (dk_at dksX0_drop_3 0 rfl rfl)
theorem dX0_drop_72 : decode cX0_drop 72 = .ok (.aload 4, 2) := dk_25 4 (dk_at dksX0_drop_3 1 rfl rfl)
theorem dX0_drop_74 : decode cX0_drop 74 = .ok (.aload_n 3, 1) := dk_45 (dk_at dksX0_drop_3 3 rfl rfl)
theorem dX0_drop_75 : decode cX0_drop 75 = .ok (.invokevirtual 9, 3) := dk_182 0 9 (dk_at dksX0_drop_3 4 rfl rfl)
theorem dX0_drop_78 : decode cX0_drop 78 = .ok (.iconst 1, 1) := dk_4 (dk_at dksX0_drop_3 7 rfl rfl)
theorem dX0_drop_79 : decode cX0_drop 79 = .ok (.isub, 1) := dk_100 (dk_at dksX0_drop_3 8 rfl rfl)
theorem dX0_drop_80 : decode cX0_drop 80 = .ok (.invokestatic 340, 3) := dk_184 1 84 (dk_at dksX0_drop_3 9 rfl rfl)
theorem dX0_drop_83 : decode cX0_drop 83 = .ok (.aastore, 1) := dk_83 (dk_at dksX0_drop_3 12 rfl rfl)
theorem dX0_drop_84 : decode cX0_drop 84 = .ok (.iconst 1, 1) := dk_4 (dk_at dksX0_drop_3 13 rfl rfl)
theorem dX0_drop_85 : decode cX0_drop 85 = .ok (.ireturn, 1) := dk_172 (dk_at dksX0_drop_3 14 rfl rfl)
abbrev cX0_lead : ByteArray := prog_1_method_49_code
def yX0_lead : MethodName := ⟨RX0, "lead", "(II)Z"⟩
def dkwX0_lead_4 : List UInt8 := [180, 0, 5, 27, 187, 0, 10, 89, 25, 4, 183, 1, 88, 83, 4, 172]
abbrev dktX0_lead_4 : List UInt8 := dkwX0_lead_4 ++ []
def dkwX0_lead_3 : List UInt8 := [21, 5, 28, 162, 0, 8, 21, 5, 167, 0, 7, 21, 5, 4, 96, 50, 83, 132, 5, 1, 167, 255, 215, 42]
abbrev dktX0_lead_3 : List UInt8 := dkwX0_lead_3 ++ dktX0_lead_4
def dkwX0_lead_2 : List UInt8 := [3, 54, 5, 21, 5, 45, 182, 0, 9, 4, 100, 162, 0, 36, 25, 4, 21, 5, 4, 96, 45, 180, 0, 47]
abbrev dktX0_lead_2 : List UInt8 := dkwX0_lead_2 ++ dktX0_lead_3
def dkwX0_lead_1 : List UInt8 := [154, 0, 5, 3, 172, 45, 182, 0, 9, 189, 0, 52, 58, 4, 25, 4, 3, 45, 180, 0, 47, 28, 50, 83]
abbrev dktX0_lead_1 : List UInt8 := dkwX0_lead_1 ++ dktX0_lead_2
def dkwX0_lead_0 : List UInt8 := [42, 27, 182, 0, 238, 78, 45, 198, 0, 19, 28, 133, 9, 45, 182, 0, 9, 4, 100, 133, 184, 0, 21]
abbrev dktX0_lead_0 : List UInt8 := dkwX0_lead_0 ++ dktX0_lead_1
theorem dksX0_lead_0 : cX0_lead.data.toList.drop 0 = dktX0_lead_0 := by decide +kernel
theorem dksX0_lead_1 : cX0_lead.data.toList.drop 23 = dktX0_lead_1 := dk_seg dksX0_lead_0 23 rfl rfl
theorem dksX0_lead_2 : cX0_lead.data.toList.drop 47 = dktX0_lead_2 := dk_seg dksX0_lead_1 24 rfl rfl
theorem dksX0_lead_3 : cX0_lead.data.toList.drop 71 = dktX0_lead_3 := dk_seg dksX0_lead_2 24 rfl rfl
theorem dksX0_lead_4 : cX0_lead.data.toList.drop 95 = dktX0_lead_4 := dk_seg dksX0_lead_3 24 rfl rfl
theorem dX0_lead_0 : decode cX0_lead 0 = .ok (.aload_n 0, 1) := dk_42 (dk_at dksX0_lead_0 0 rfl rfl)
theorem dX0_lead_1 : decode cX0_lead 1 = .ok (.iload_n 1, 1) := dk_27 (dk_at dksX0_lead_0 1 rfl rfl)
theorem dX0_lead_2 : decode cX0_lead 2 = .ok (.invokevirtual 238, 3) := dk_182 0 238 (dk_at dksX0_lead_0 2 rfl rfl)
theorem dX0_lead_5 : decode cX0_lead 5 = .ok (.astore_n 3, 1) := dk_78 (dk_at dksX0_lead_0 5 rfl rfl)
theorem dX0_lead_6 : decode cX0_lead 6 = .ok (.aload_n 3, 1) := dk_45 (dk_at dksX0_lead_0 6 rfl rfl)
theorem dX0_lead_7 : decode cX0_lead 7 = .ok (.ifnull 19, 3) := dk_198 0 19 (dk_at dksX0_lead_0 7 rfl rfl)
theorem dX0_lead_10 : decode cX0_lead 10 = .ok (.iload_n 2, 1) := dk_28 (dk_at dksX0_lead_0 10 rfl rfl)
theorem dX0_lead_11 : decode cX0_lead 11 = .ok (.i2l, 1) := dk_133 (dk_at dksX0_lead_0 11 rfl rfl)
theorem dX0_lead_12 : decode cX0_lead 12 = .ok (.lconst 0, 1) := dk_9 (dk_at dksX0_lead_0 12 rfl rfl)
theorem dX0_lead_13 : decode cX0_lead 13 = .ok (.aload_n 3, 1) := dk_45 (dk_at dksX0_lead_0 13 rfl rfl)
theorem dX0_lead_14 : decode cX0_lead 14 = .ok (.invokevirtual 9, 3) := dk_182 0 9 (dk_at dksX0_lead_0 14 rfl rfl)
theorem dX0_lead_17 : decode cX0_lead 17 = .ok (.iconst 1, 1) := dk_4 (dk_at dksX0_lead_0 17 rfl rfl)
theorem dX0_lead_18 : decode cX0_lead 18 = .ok (.isub, 1) := dk_100 (dk_at dksX0_lead_0 18 rfl rfl)
theorem dX0_lead_19 : decode cX0_lead 19 = .ok (.i2l, 1) := dk_133 (dk_at dksX0_lead_0 19 rfl rfl)
theorem dX0_lead_20 : decode cX0_lead 20 = .ok (.invokestatic 21, 3) := dk_184 0 21 (dk_at dksX0_lead_0 20 rfl rfl)
theorem dX0_lead_23 : decode cX0_lead 23 = .ok (.ifCond .ne 5, 3) := dk_154 0 5 (dk_at dksX0_lead_1 0 rfl rfl)
theorem dX0_lead_26 : decode cX0_lead 26 = .ok (.iconst 0, 1) := dk_3 (dk_at dksX0_lead_1 3 rfl rfl)
theorem dX0_lead_27 : decode cX0_lead 27 = .ok (.ireturn, 1) := dk_172 (dk_at dksX0_lead_1 4 rfl rfl)
theorem dX0_lead_28 : decode cX0_lead 28 = .ok (.aload_n 3, 1) := dk_45 (dk_at dksX0_lead_1 5 rfl rfl)
theorem dX0_lead_29 : decode cX0_lead 29 = .ok (.invokevirtual 9, 3) := dk_182 0 9 (dk_at dksX0_lead_1 6 rfl rfl)
theorem dX0_lead_32 : decode cX0_lead 32 = .ok (.anewarray 52, 3) := dk_189 0 52 (dk_at dksX0_lead_1 9 rfl rfl)
theorem dX0_lead_35 : decode cX0_lead 35 = .ok (.astore 4, 2) := dk_58 4 (dk_at dksX0_lead_1 12 rfl rfl)
theorem dX0_lead_37 : decode cX0_lead 37 = .ok (.aload 4, 2) := dk_25 4 (dk_at dksX0_lead_1 14 rfl rfl)
theorem dX0_lead_39 : decode cX0_lead 39 = .ok (.iconst 0, 1) := dk_3 (dk_at dksX0_lead_1 16 rfl rfl)
theorem dX0_lead_40 : decode cX0_lead 40 = .ok (.aload_n 3, 1) := dk_45 (dk_at dksX0_lead_1 17 rfl rfl)
theorem dX0_lead_41 : decode cX0_lead 41 = .ok (.getfield 47, 3) := dk_180 0 47 (dk_at dksX0_lead_1 18 rfl rfl)
theorem dX0_lead_44 : decode cX0_lead 44 = .ok (.iload_n 2, 1) := dk_28 (dk_at dksX0_lead_1 21 rfl rfl)
theorem dX0_lead_45 : decode cX0_lead 45 = .ok (.aaload, 1) := dk_50 (dk_at dksX0_lead_1 22 rfl rfl)
theorem dX0_lead_46 : decode cX0_lead 46 = .ok (.aastore, 1) := dk_83 (dk_at dksX0_lead_1 23 rfl rfl)
theorem dX0_lead_47 : decode cX0_lead 47 = .ok (.iconst 0, 1) := dk_3 (dk_at dksX0_lead_2 0 rfl rfl)
theorem dX0_lead_48 : decode cX0_lead 48 = .ok (.istore 5, 2) := dk_54 5 (dk_at dksX0_lead_2 1 rfl rfl)
theorem dX0_lead_50 : decode cX0_lead 50 = .ok (.iload 5, 2) := dk_21 5 (dk_at dksX0_lead_2 3 rfl rfl)
theorem dX0_lead_52 : decode cX0_lead 52 = .ok (.aload_n 3, 1) := dk_45 (dk_at dksX0_lead_2 5 rfl rfl)
theorem dX0_lead_53 : decode cX0_lead 53 = .ok (.invokevirtual 9, 3) := dk_182 0 9 (dk_at dksX0_lead_2 6 rfl rfl)
theorem dX0_lead_56 : decode cX0_lead 56 = .ok (.iconst 1, 1) := dk_4 (dk_at dksX0_lead_2 9 rfl rfl)
theorem dX0_lead_57 : decode cX0_lead 57 = .ok (.isub, 1) := dk_100 (dk_at dksX0_lead_2 10 rfl rfl)
theorem dX0_lead_58 : decode cX0_lead 58 = .ok (.if_icmp .ge 36, 3) := dk_162 0 36 (dk_at dksX0_lead_2 11 rfl rfl)
theorem dX0_lead_61 : decode cX0_lead 61 = .ok (.aload 4, 2) := dk_25 4 (dk_at dksX0_lead_2 14 rfl rfl)
theorem dX0_lead_63 : decode cX0_lead 63 = .ok (.iload 5, 2) := dk_21 5 (dk_at dksX0_lead_2 16 rfl rfl)
theorem dX0_lead_65 : decode cX0_lead 65 = .ok (.iconst 1, 1) := dk_4 (dk_at dksX0_lead_2 18 rfl rfl)
theorem dX0_lead_66 : decode cX0_lead 66 = .ok (.iadd, 1) := dk_96 (dk_at dksX0_lead_2 19 rfl rfl)
theorem dX0_lead_67 : decode cX0_lead 67 = .ok (.aload_n 3, 1) := dk_45 (dk_at dksX0_lead_2 20 rfl rfl)
theorem dX0_lead_68 : decode cX0_lead 68 = .ok (.getfield 47, 3) := dk_180 0 47 (dk_at dksX0_lead_2 21 rfl rfl)
theorem dX0_lead_71 : decode cX0_lead 71 = .ok (.iload 5, 2) := dk_21 5 (dk_at dksX0_lead_3 0 rfl rfl)
theorem dX0_lead_73 : decode cX0_lead 73 = .ok (.iload_n 2, 1) := dk_28 (dk_at dksX0_lead_3 2 rfl rfl)
theorem dX0_lead_74 : decode cX0_lead 74 = .ok (.if_icmp .ge 8, 3) := dk_162 0 8 (dk_at dksX0_lead_3 3 rfl rfl)
theorem dX0_lead_77 : decode cX0_lead 77 = .ok (.iload 5, 2) := dk_21 5 (dk_at dksX0_lead_3 6 rfl rfl)
theorem dX0_lead_79 : decode cX0_lead 79 = .ok (.goto 7, 3) := dk_167 0 7 (dk_at dksX0_lead_3 8 rfl rfl)
theorem dX0_lead_82 : decode cX0_lead 82 = .ok (.iload 5, 2) := dk_21 5 (dk_at dksX0_lead_3 11 rfl rfl)
theorem dX0_lead_84 : decode cX0_lead 84 = .ok (.iconst 1, 1) := dk_4 (dk_at dksX0_lead_3 13 rfl rfl)
theorem dX0_lead_85 : decode cX0_lead 85 = .ok (.iadd, 1) := dk_96 (dk_at dksX0_lead_3 14 rfl rfl)
theorem dX0_lead_86 : decode cX0_lead 86 = .ok (.aaload, 1) := dk_50 (dk_at dksX0_lead_3 15 rfl rfl)
theorem dX0_lead_87 : decode cX0_lead 87 = .ok (.aastore, 1) := dk_83 (dk_at dksX0_lead_3 16 rfl rfl)
theorem dX0_lead_88 : decode cX0_lead 88 = .ok (.iinc 5 1, 3) := dk_132 5 1 (dk_at dksX0_lead_3 17 rfl rfl)
theorem dX0_lead_91 : decode cX0_lead 91 = .ok (.goto (-41), 3) := dk_167 255 215 (dk_at dksX0_lead_3 20 rfl rfl)
theorem dX0_lead_94 : decode cX0_lead 94 = .ok (.aload_n 0, 1) := dk_42 (dk_at dksX0_lead_3 23 rfl rfl)
theorem dX0_lead_95 : decode cX0_lead 95 = .ok (.getfield 5, 3) := dk_180 0 5 (dk_at dksX0_lead_4 0 rfl rfl)
theorem dX0_lead_98 : decode cX0_lead 98 = .ok (.iload_n 1, 1) := dk_27 (dk_at dksX0_lead_4 3 rfl rfl)
theorem dX0_lead_99 : decode cX0_lead 99 = .ok (.new 10, 3) := dk_187 0 10 (dk_at dksX0_lead_4 4 rfl rfl)
theorem dX0_lead_102 : decode cX0_lead 102 = .ok (.dup, 1) := dk_89 (dk_at dksX0_lead_4 7 rfl rfl)
theorem dX0_lead_103 : decode cX0_lead 103 = .ok (.aload 4, 2) := dk_25 4 (dk_at dksX0_lead_4 8 rfl rfl)
theorem dX0_lead_105 : decode cX0_lead 105 = .ok (.invokespecial 344, 3) := dk_183 1 88 (dk_at dksX0_lead_4 10 rfl rfl)
theorem dX0_lead_108 : decode cX0_lead 108 = .ok (.aastore, 1) := dk_83 (dk_at dksX0_lead_4 13 rfl rfl)
theorem dX0_lead_109 : decode cX0_lead 109 = .ok (.iconst 1, 1) := dk_4 (dk_at dksX0_lead_4 14 rfl rfl)
theorem dX0_lead_110 : decode cX0_lead 110 = .ok (.ireturn, 1) := dk_172 (dk_at dksX0_lead_4 15 rfl rfl)
abbrev cX0_common : ByteArray := prog_1_method_50_code
def yX0_common : MethodName := ⟨RX0, "common", "(IIIII)I"⟩
def dkwX0_common_6 : List UInt8 := [132, 10, 1, 167, 255, 205, 21, 5, 2, 160, 0, 8, 21, 9, 167, 0, 6, 19, 1, 2, 172]
abbrev dktX0_common_6 : List UInt8 := dkwX0_common_6 ++ []
def dkwX0_common_5 : List UInt8 := [182, 1, 11, 9, 148, 154, 0, 6, 167, 0, 16, 21, 9, 21, 5, 160, 0, 6, 21, 10, 172, 132, 9, 1]
abbrev dktX0_common_5 : List UInt8 := dkwX0_common_5 ++ dktX0_common_6
def dkwX0_common_4 : List UInt8 := [21, 4, 163, 0, 50, 25, 8, 17, 11, 184, 21, 10, 96, 51, 153, 0, 32, 42, 25, 7, 21, 10]
abbrev dktX0_common_4 : List UInt8 := dkwX0_common_4 ++ dktX0_common_5
def dkwX0_common_3 : List UInt8 := [148, 158, 0, 7, 4, 167, 0, 4, 3, 84, 132, 9, 1, 167, 255, 219, 3, 54, 9, 29, 54, 10, 21, 10]
abbrev dktX0_common_3 : List UInt8 := dkwX0_common_3 ++ dktX0_common_4
def dkwX0_common_2 : List UInt8 := [21, 9, 21, 4, 163, 0, 36, 25, 8, 17, 11, 184, 21, 9, 96, 42, 25, 6, 21, 9, 182, 1, 11, 9]
abbrev dktX0_common_2 : List UInt8 := dkwX0_common_2 ++ dktX0_common_3
def dkwX0_common_1 : List UInt8 := [29, 21, 4, 184, 1, 26, 154, 0, 7, 19, 1, 2, 172, 17, 23, 113, 188, 4, 58, 8, 29, 54, 9]
abbrev dktX0_common_1 : List UInt8 := dkwX0_common_1 ++ dktX0_common_2
def dkwX0_common_0 : List UInt8 := [42, 27, 182, 0, 238, 58, 6, 42, 28, 182, 0, 238, 58, 7, 25, 6, 198, 0, 17, 25, 7, 198, 0, 12]
abbrev dktX0_common_0 : List UInt8 := dkwX0_common_0 ++ dktX0_common_1
theorem dksX0_common_0 : cX0_common.data.toList.drop 0 = dktX0_common_0 := by decide +kernel
theorem dksX0_common_1 : cX0_common.data.toList.drop 24 = dktX0_common_1 := dk_seg dksX0_common_0 24 rfl rfl
theorem dksX0_common_2 : cX0_common.data.toList.drop 47 = dktX0_common_2 := dk_seg dksX0_common_1 23 rfl rfl
theorem dksX0_common_3 : cX0_common.data.toList.drop 71 = dktX0_common_3 := dk_seg dksX0_common_2 24 rfl rfl
theorem dksX0_common_4 : cX0_common.data.toList.drop 95 = dktX0_common_4 := dk_seg dksX0_common_3 24 rfl rfl
theorem dksX0_common_5 : cX0_common.data.toList.drop 117 = dktX0_common_5 := dk_seg dksX0_common_4 22 rfl rfl
theorem dksX0_common_6 : cX0_common.data.toList.drop 141 = dktX0_common_6 := dk_seg dksX0_common_5 24 rfl rfl
theorem dX0_common_0 : decode cX0_common 0 = .ok (.aload_n 0, 1) := dk_42 (dk_at dksX0_common_0 0 rfl rfl)
theorem dX0_common_1 : decode cX0_common 1 = .ok (.iload_n 1, 1) := dk_27 (dk_at dksX0_common_0 1 rfl rfl)
theorem dX0_common_2 : decode cX0_common 2 = .ok (.invokevirtual 238, 3) := dk_182 0 238 (dk_at dksX0_common_0 2 rfl rfl)
theorem dX0_common_5 : decode cX0_common 5 = .ok (.astore 6, 2) := dk_58 6 (dk_at dksX0_common_0 5 rfl rfl)
theorem dX0_common_7 : decode cX0_common 7 = .ok (.aload_n 0, 1) := dk_42 (dk_at dksX0_common_0 7 rfl rfl)
theorem dX0_common_8 : decode cX0_common 8 = .ok (.iload_n 2, 1) := dk_28 (dk_at dksX0_common_0 8 rfl rfl)
theorem dX0_common_9 : decode cX0_common 9 = .ok (.invokevirtual 238, 3) := dk_182 0 238 (dk_at dksX0_common_0 9 rfl rfl)
theorem dX0_common_12 : decode cX0_common 12 = .ok (.astore 7, 2) := dk_58 7 (dk_at dksX0_common_0 12 rfl rfl)
theorem dX0_common_14 : decode cX0_common 14 = .ok (.aload 6, 2) := dk_25 6 (dk_at dksX0_common_0 14 rfl rfl)
theorem dX0_common_16 : decode cX0_common 16 = .ok (.ifnull 17, 3) := dk_198 0 17 (dk_at dksX0_common_0 16 rfl rfl)
theorem dX0_common_19 : decode cX0_common 19 = .ok (.aload 7, 2) := dk_25 7 (dk_at dksX0_common_0 19 rfl rfl)
theorem dX0_common_21 : decode cX0_common 21 = .ok (.ifnull 12, 3) := dk_198 0 12 (dk_at dksX0_common_0 21 rfl rfl)
theorem dX0_common_24 : decode cX0_common 24 = .ok (.iload_n 3, 1) := dk_29 (dk_at dksX0_common_1 0 rfl rfl)
theorem dX0_common_25 : decode cX0_common 25 = .ok (.iload 4, 2) := dk_21 4 (dk_at dksX0_common_1 1 rfl rfl)
theorem dX0_common_27 : decode cX0_common 27 = .ok (.invokestatic 282, 3) := dk_184 1 26 (dk_at dksX0_common_1 3 rfl rfl)
theorem dX0_common_30 : decode cX0_common 30 = .ok (.ifCond .ne 7, 3) := dk_154 0 7 (dk_at dksX0_common_1 6 rfl rfl)
theorem dX0_common_33 : decode cX0_common 33 = .ok (.ldc_w 258, 3) := dk_19 1 2 (dk_at dksX0_common_1 9 rfl rfl)
theorem dX0_common_36 : decode cX0_common 36 = .ok (.ireturn, 1) := dk_172 (dk_at dksX0_common_1 12 rfl rfl)
theorem dX0_common_37 : decode cX0_common 37 = .ok (.sipush 6001, 3) := dk_17 23 113 (dk_at dksX0_common_1 13 rfl rfl)
theorem dX0_common_40 : decode cX0_common 40 = .ok (.newarray .boolean, 2) := dk_188_4 (dk_at dksX0_common_1 16 rfl rfl)
theorem dX0_common_42 : decode cX0_common 42 = .ok (.astore 8, 2) := dk_58 8 (dk_at dksX0_common_1 18 rfl rfl)
theorem dX0_common_44 : decode cX0_common 44 = .ok (.iload_n 3, 1) := dk_29 (dk_at dksX0_common_1 20 rfl rfl)
theorem dX0_common_45 : decode cX0_common 45 = .ok (.istore 9, 2) := dk_54 9 (dk_at dksX0_common_1 21 rfl rfl)
theorem dX0_common_47 : decode cX0_common 47 = .ok (.iload 9, 2) := dk_21 9 (dk_at dksX0_common_2 0 rfl rfl)
theorem dX0_common_49 : decode cX0_common 49 = .ok (.iload 4, 2) := dk_21 4 (dk_at dksX0_common_2 2 rfl rfl)
theorem dX0_common_51 : decode cX0_common 51 = .ok (.if_icmp .gt 36, 3) := dk_163 0 36 (dk_at dksX0_common_2 4 rfl rfl)
theorem dX0_common_54 : decode cX0_common 54 = .ok (.aload 8, 2) := dk_25 8 (dk_at dksX0_common_2 7 rfl rfl)
theorem dX0_common_56 : decode cX0_common 56 = .ok (.sipush 3000, 3) := dk_17 11 184 (dk_at dksX0_common_2 9 rfl rfl)
theorem dX0_common_59 : decode cX0_common 59 = .ok (.iload 9, 2) := dk_21 9 (dk_at dksX0_common_2 12 rfl rfl)
theorem dX0_common_61 : decode cX0_common 61 = .ok (.iadd, 1) := dk_96 (dk_at dksX0_common_2 14 rfl rfl)
theorem dX0_common_62 : decode cX0_common 62 = .ok (.aload_n 0, 1) := dk_42 (dk_at dksX0_common_2 15 rfl rfl)
theorem dX0_common_63 : decode cX0_common 63 = .ok (.aload 6, 2) := dk_25 6 (dk_at dksX0_common_2 16 rfl rfl)
theorem dX0_common_65 : decode cX0_common 65 = .ok (.iload 9, 2) := dk_21 9 (dk_at dksX0_common_2 18 rfl rfl)
theorem dX0_common_67 : decode cX0_common 67 = .ok (.invokevirtual 267, 3) := dk_182 1 11 (dk_at dksX0_common_2 20 rfl rfl)
theorem dX0_common_70 : decode cX0_common 70 = .ok (.lconst 0, 1) := dk_9 (dk_at dksX0_common_2 23 rfl rfl)
theorem dX0_common_71 : decode cX0_common 71 = .ok (.lcmp, 1) := dk_148 (dk_at dksX0_common_3 0 rfl rfl)
theorem dX0_common_72 : decode cX0_common 72 = .ok (.ifCond .le 7, 3) := dk_158 0 7 (dk_at dksX0_common_3 1 rfl rfl)
theorem dX0_common_75 : decode cX0_common 75 = .ok (.iconst 1, 1) := dk_4 (dk_at dksX0_common_3 4 rfl rfl)
theorem dX0_common_76 : decode cX0_common 76 = .ok (.goto 4, 3) := dk_167 0 4 (dk_at dksX0_common_3 5 rfl rfl)
theorem dX0_common_79 : decode cX0_common 79 = .ok (.iconst 0, 1) := dk_3 (dk_at dksX0_common_3 8 rfl rfl)
theorem dX0_common_80 : decode cX0_common 80 = .ok (.bastore, 1) := dk_84 (dk_at dksX0_common_3 9 rfl rfl)
theorem dX0_common_81 : decode cX0_common 81 = .ok (.iinc 9 1, 3) := dk_132 9 1 (dk_at dksX0_common_3 10 rfl rfl)
theorem dX0_common_84 : decode cX0_common 84 = .ok (.goto (-37), 3) := dk_167 255 219 (dk_at dksX0_common_3 13 rfl rfl)
theorem dX0_common_87 : decode cX0_common 87 = .ok (.iconst 0, 1) := dk_3 (dk_at dksX0_common_3 16 rfl rfl)
theorem dX0_common_88 : decode cX0_common 88 = .ok (.istore 9, 2) := dk_54 9 (dk_at dksX0_common_3 17 rfl rfl)
theorem dX0_common_90 : decode cX0_common 90 = .ok (.iload_n 3, 1) := dk_29 (dk_at dksX0_common_3 19 rfl rfl)
theorem dX0_common_91 : decode cX0_common 91 = .ok (.istore 10, 2) := dk_54 10 (dk_at dksX0_common_3 20 rfl rfl)
theorem dX0_common_93 : decode cX0_common 93 = .ok (.iload 10, 2) := dk_21 10 (dk_at dksX0_common_3 22 rfl rfl)
theorem dX0_common_95 : decode cX0_common 95 = .ok (.iload 4, 2) := dk_21 4 (dk_at dksX0_common_4 0 rfl rfl)
theorem dX0_common_97 : decode cX0_common 97 = .ok (.if_icmp .gt 50, 3) := dk_163 0 50 (dk_at dksX0_common_4 2 rfl rfl)
theorem dX0_common_100 : decode cX0_common 100 = .ok (.aload 8, 2) := dk_25 8 (dk_at dksX0_common_4 5 rfl rfl)
theorem dX0_common_102 : decode cX0_common 102 = .ok (.sipush 3000, 3) := dk_17 11 184 (dk_at dksX0_common_4 7 rfl rfl)
theorem dX0_common_105 : decode cX0_common 105 = .ok (.iload 10, 2) := dk_21 10 (dk_at dksX0_common_4 10 rfl rfl)
theorem dX0_common_107 : decode cX0_common 107 = .ok (.iadd, 1) := dk_96 (dk_at dksX0_common_4 12 rfl rfl)
theorem dX0_common_108 : decode cX0_common 108 = .ok (.baload, 1) := dk_51 (dk_at dksX0_common_4 13 rfl rfl)
theorem dX0_common_109 : decode cX0_common 109 = .ok (.ifCond .eq 32, 3) := dk_153 0 32 (dk_at dksX0_common_4 14 rfl rfl)
theorem dX0_common_112 : decode cX0_common 112 = .ok (.aload_n 0, 1) := dk_42 (dk_at dksX0_common_4 17 rfl rfl)
theorem dX0_common_113 : decode cX0_common 113 = .ok (.aload 7, 2) := dk_25 7 (dk_at dksX0_common_4 18 rfl rfl)
theorem dX0_common_115 : decode cX0_common 115 = .ok (.iload 10, 2) := dk_21 10 (dk_at dksX0_common_4 20 rfl rfl)
theorem dX0_common_117 : decode cX0_common 117 = .ok (.invokevirtual 267, 3) := dk_182 1 11 (dk_at dksX0_common_5 0 rfl rfl)
theorem dX0_common_120 : decode cX0_common 120 = .ok (.lconst 0, 1) := dk_9 (dk_at dksX0_common_5 3 rfl rfl)
theorem dX0_common_121 : decode cX0_common 121 = .ok (.lcmp, 1) := dk_148 (dk_at dksX0_common_5 4 rfl rfl)
theorem dX0_common_122 : decode cX0_common 122 = .ok (.ifCond .ne 6, 3) := dk_154 0 6 (dk_at dksX0_common_5 5 rfl rfl)
theorem dX0_common_125 : decode cX0_common 125 = .ok (.goto 16, 3) := dk_167 0 16 (dk_at dksX0_common_5 8 rfl rfl)
theorem dX0_common_128 : decode cX0_common 128 = .ok (.iload 9, 2) := dk_21 9 (dk_at dksX0_common_5 11 rfl rfl)
theorem dX0_common_130 : decode cX0_common 130 = .ok (.iload 5, 2) := dk_21 5 (dk_at dksX0_common_5 13 rfl rfl)
theorem dX0_common_132 : decode cX0_common 132 = .ok (.if_icmp .ne 6, 3) := dk_160 0 6 (dk_at dksX0_common_5 15 rfl rfl)
theorem dX0_common_135 : decode cX0_common 135 = .ok (.iload 10, 2) := dk_21 10 (dk_at dksX0_common_5 18 rfl rfl)
theorem dX0_common_137 : decode cX0_common 137 = .ok (.ireturn, 1) := dk_172 (dk_at dksX0_common_5 20 rfl rfl)
theorem dX0_common_138 : decode cX0_common 138 = .ok (.iinc 9 1, 3) := dk_132 9 1 (dk_at dksX0_common_5 21 rfl rfl)
theorem dX0_common_141 : decode cX0_common 141 = .ok (.iinc 10 1, 3) := dk_132 10 1 (dk_at dksX0_common_6 0 rfl rfl)
theorem dX0_common_144 : decode cX0_common 144 = .ok (.goto (-51), 3) := dk_167 255 205 (dk_at dksX0_common_6 3 rfl rfl)
theorem dX0_common_147 : decode cX0_common 147 = .ok (.iload 5, 2) := dk_21 5 (dk_at dksX0_common_6 6 rfl rfl)
theorem dX0_common_149 : decode cX0_common 149 = .ok (.iconst (-1), 1) := dk_2 (dk_at dksX0_common_6 8 rfl rfl)
theorem dX0_common_150 : decode cX0_common 150 = .ok (.if_icmp .ne 8, 3) := dk_160 0 8 (dk_at dksX0_common_6 9 rfl rfl)
theorem dX0_common_153 : decode cX0_common 153 = .ok (.iload 9, 2) := dk_21 9 (dk_at dksX0_common_6 12 rfl rfl)
theorem dX0_common_155 : decode cX0_common 155 = .ok (.goto 6, 3) := dk_167 0 6 (dk_at dksX0_common_6 14 rfl rfl)
theorem dX0_common_158 : decode cX0_common 158 = .ok (.ldc_w 258, 3) := dk_19 1 2 (dk_at dksX0_common_6 17 rfl rfl)
theorem dX0_common_161 : decode cX0_common 161 = .ok (.ireturn, 1) := dk_172 (dk_at dksX0_common_6 20 rfl rfl)
abbrev cX0_spell : ByteArray := prog_1_method_52_code
def yX0_spell : MethodName := ⟨RX0, "spell", "(I)I"⟩
def dkwX0_spell_7 : List UInt8 := [42, 45, 182, 1, 115, 172]
abbrev dktX0_spell_7 : List UInt8 := dkwX0_spell_7 ++ []
def dkwX0_spell_6 : List UInt8 := [182, 1, 105, 19, 1, 113, 182, 1, 108, 25, 5, 180, 0, 57, 182, 1, 105, 87, 132, 4, 1, 167, 255, 116]
abbrev dktX0_spell_6 : List UInt8 := dkwX0_spell_6 ++ dktX0_spell_7
def dkwX0_spell_5 : List UInt8 := [167, 0, 4, 3, 54, 6, 21, 6, 154, 0, 33, 45, 19, 1, 111, 182, 1, 108, 25, 5, 180, 0, 51]
abbrev dktX0_spell_5 : List UInt8 := dkwX0_spell_5 ++ dktX0_spell_6
def dkwX0_spell_4 : List UInt8 := [154, 0, 27, 25, 5, 25, 5, 180, 0, 57, 4, 96, 133, 182, 0, 60, 20, 0, 27, 148, 158, 0, 7, 4]
abbrev dktX0_spell_4 : List UInt8 := dkwX0_spell_4 ++ dktX0_spell_5
def dkwX0_spell_3 : List UInt8 := [87, 45, 42, 180, 0, 196, 25, 5, 180, 1, 6, 182, 1, 8, 50, 182, 1, 108, 87, 25, 5, 180, 0, 51]
abbrev dktX0_spell_3 : List UInt8 := dkwX0_spell_3 ++ dktX0_spell_4
def dkwX0_spell_2 : List UInt8 := [16, 43, 182, 1, 101, 87, 25, 5, 180, 1, 3, 4, 164, 0, 13, 45, 25, 5, 180, 1, 3, 182, 1, 105]
abbrev dktX0_spell_2 : List UInt8 := dkwX0_spell_2 ++ dktX0_spell_3
def dkwX0_spell_1 : List UInt8 := [21, 4, 44, 182, 0, 9, 162, 0, 137, 44, 180, 0, 47, 21, 4, 50, 58, 5, 21, 4, 158, 0, 10, 45]
abbrev dktX0_spell_1 : List UInt8 := dkwX0_spell_1 ++ dktX0_spell_2
def dkwX0_spell_0 : List UInt8 := [42, 27, 182, 0, 238, 77, 44, 199, 0, 5, 2, 172, 187, 1, 92, 89, 183, 1, 100, 78, 3, 54, 4]
abbrev dktX0_spell_0 : List UInt8 := dkwX0_spell_0 ++ dktX0_spell_1
theorem dksX0_spell_0 : cX0_spell.data.toList.drop 0 = dktX0_spell_0 := by decide +kernel
theorem dksX0_spell_1 : cX0_spell.data.toList.drop 23 = dktX0_spell_1 := dk_seg dksX0_spell_0 23 rfl rfl
theorem dksX0_spell_2 : cX0_spell.data.toList.drop 47 = dktX0_spell_2 := dk_seg dksX0_spell_1 24 rfl rfl
theorem dksX0_spell_3 : cX0_spell.data.toList.drop 71 = dktX0_spell_3 := dk_seg dksX0_spell_2 24 rfl rfl
theorem dksX0_spell_4 : cX0_spell.data.toList.drop 95 = dktX0_spell_4 := dk_seg dksX0_spell_3 24 rfl rfl
theorem dksX0_spell_5 : cX0_spell.data.toList.drop 119 = dktX0_spell_5 := dk_seg dksX0_spell_4 24 rfl rfl
theorem dksX0_spell_6 : cX0_spell.data.toList.drop 142 = dktX0_spell_6 := dk_seg dksX0_spell_5 23 rfl rfl
theorem dksX0_spell_7 : cX0_spell.data.toList.drop 166 = dktX0_spell_7 := dk_seg dksX0_spell_6 24 rfl rfl
theorem dX0_spell_0 : decode cX0_spell 0 = .ok (.aload_n 0, 1) := dk_42 (dk_at dksX0_spell_0 0 rfl rfl)
theorem dX0_spell_1 : decode cX0_spell 1 = .ok (.iload_n 1, 1) := dk_27 (dk_at dksX0_spell_0 1 rfl rfl)
theorem dX0_spell_2 : decode cX0_spell 2 = .ok (.invokevirtual 238, 3) := dk_182 0 238 (dk_at dksX0_spell_0 2 rfl rfl)
theorem dX0_spell_5 : decode cX0_spell 5 = .ok (.astore_n 2, 1) := dk_77 (dk_at dksX0_spell_0 5 rfl rfl)
theorem dX0_spell_6 : decode cX0_spell 6 = .ok (.aload_n 2, 1) := dk_44 (dk_at dksX0_spell_0 6 rfl rfl)
theorem dX0_spell_7 : decode cX0_spell 7 = .ok (.ifnonnull 5, 3) := dk_199 0 5 (dk_at dksX0_spell_0 7 rfl rfl)
theorem dX0_spell_10 : decode cX0_spell 10 = .ok (.iconst (-1), 1) := dk_2 (dk_at dksX0_spell_0 10 rfl rfl)
theorem dX0_spell_11 : decode cX0_spell 11 = .ok (.ireturn, 1) := dk_172 (dk_at dksX0_spell_0 11 rfl rfl)
theorem dX0_spell_12 : decode cX0_spell 12 = .ok (.new 348, 3) := dk_187 1 92 (dk_at dksX0_spell_0 12 rfl rfl)
theorem dX0_spell_15 : decode cX0_spell 15 = .ok (.dup, 1) := dk_89 (dk_at dksX0_spell_0 15 rfl rfl)
theorem dX0_spell_16 : decode cX0_spell 16 = .ok (.invokespecial 356, 3) := dk_183 1 100 (dk_at dksX0_spell_0 16 rfl rfl)
theorem dX0_spell_19 : decode cX0_spell 19 = .ok (.astore_n 3, 1) := dk_78 (dk_at dksX0_spell_0 19 rfl rfl)
theorem dX0_spell_20 : decode cX0_spell 20 = .ok (.iconst 0, 1) := dk_3 (dk_at dksX0_spell_0 20 rfl rfl)
theorem dX0_spell_21 : decode cX0_spell 21 = .ok (.istore 4, 2) := dk_54 4 (dk_at dksX0_spell_0 21 rfl rfl)
theorem dX0_spell_23 : decode cX0_spell 23 = .ok (.iload 4, 2) := dk_21 4 (dk_at dksX0_spell_1 0 rfl rfl)
theorem dX0_spell_25 : decode cX0_spell 25 = .ok (.aload_n 2, 1) := dk_44 (dk_at dksX0_spell_1 2 rfl rfl)
theorem dX0_spell_26 : decode cX0_spell 26 = .ok (.invokevirtual 9, 3) := dk_182 0 9 (dk_at dksX0_spell_1 3 rfl rfl)
theorem dX0_spell_29 : decode cX0_spell 29 = .ok (.if_icmp .ge 137, 3) := dk_162 0 137 (dk_at dksX0_spell_1 6 rfl rfl)
theorem dX0_spell_32 : decode cX0_spell 32 = .ok (.aload_n 2, 1) := dk_44 (dk_at dksX0_spell_1 9 rfl rfl)
theorem dX0_spell_33 : decode cX0_spell 33 = .ok (.getfield 47, 3) := dk_180 0 47 (dk_at dksX0_spell_1 10 rfl rfl)
theorem dX0_spell_36 : decode cX0_spell 36 = .ok (.iload 4, 2) := dk_21 4 (dk_at dksX0_spell_1 13 rfl rfl)
theorem dX0_spell_38 : decode cX0_spell 38 = .ok (.aaload, 1) := dk_50 (dk_at dksX0_spell_1 15 rfl rfl)
theorem dX0_spell_39 : decode cX0_spell 39 = .ok (.astore 5, 2) := dk_58 5 (dk_at dksX0_spell_1 16 rfl rfl)
theorem dX0_spell_41 : decode cX0_spell 41 = .ok (.iload 4, 2) := dk_21 4 (dk_at dksX0_spell_1 18 rfl rfl)
theorem dX0_spell_43 : decode cX0_spell 43 = .ok (.ifCond .le 10, 3) := dk_158 0 10 (dk_at dksX0_spell_1 20 rfl rfl)
theorem dX0_spell_46 : decode cX0_spell 46 = .ok (.aload_n 3, 1) := dk_45 (dk_at dksX0_spell_1 23 rfl rfl)
theorem dX0_spell_47 : decode cX0_spell 47 = .ok (.bipush 43, 2) := dk_16 43 (dk_at dksX0_spell_2 0 rfl rfl)
theorem dX0_spell_49 : decode cX0_spell 49 = .ok (.invokevirtual 357, 3) := dk_182 1 101 (dk_at dksX0_spell_2 2 rfl rfl)
theorem dX0_spell_52 : decode cX0_spell 52 = .ok (.pop, 1) := dk_87 (dk_at dksX0_spell_2 5 rfl rfl)
theorem dX0_spell_53 : decode cX0_spell 53 = .ok (.aload 5, 2) := dk_25 5 (dk_at dksX0_spell_2 6 rfl rfl)
theorem dX0_spell_55 : decode cX0_spell 55 = .ok (.getfield 259, 3) := dk_180 1 3 (dk_at dksX0_spell_2 8 rfl rfl)
theorem dX0_spell_58 : decode cX0_spell 58 = .ok (.iconst 1, 1) := dk_4 (dk_at dksX0_spell_2 11 rfl rfl)
theorem dX0_spell_59 : decode cX0_spell 59 = .ok (.if_icmp .le 13, 3) := dk_164 0 13 (dk_at dksX0_spell_2 12 rfl rfl)
theorem dX0_spell_62 : decode cX0_spell 62 = .ok (.aload_n 3, 1) := dk_45 (dk_at dksX0_spell_2 15 rfl rfl)
theorem dX0_spell_63 : decode cX0_spell 63 = .ok (.aload 5, 2) := dk_25 5 (dk_at dksX0_spell_2 16 rfl rfl)
theorem dX0_spell_65 : decode cX0_spell 65 = .ok (.getfield 259, 3) := dk_180 1 3 (dk_at dksX0_spell_2 18 rfl rfl)
theorem dX0_spell_68 : decode cX0_spell 68 = .ok (.invokevirtual 361, 3) := dk_182 1 105 (dk_at dksX0_spell_2 21 rfl rfl)
theorem dX0_spell_71 : decode cX0_spell 71 = .ok (.pop, 1) := dk_87 (dk_at dksX0_spell_3 0 rfl rfl)
theorem dX0_spell_72 : decode cX0_spell 72 = .ok (.aload_n 3, 1) := dk_45 (dk_at dksX0_spell_3 1 rfl rfl)
theorem dX0_spell_73 : decode cX0_spell 73 = .ok (.aload_n 0, 1) := dk_42 (dk_at dksX0_spell_3 2 rfl rfl)
theorem dX0_spell_74 : decode cX0_spell 74 = .ok (.getfield 196, 3) := dk_180 0 196 (dk_at dksX0_spell_3 3 rfl rfl)
theorem dX0_spell_77 : decode cX0_spell 77 = .ok (.aload 5, 2) := dk_25 5 (dk_at dksX0_spell_3 6 rfl rfl)
theorem dX0_spell_79 : decode cX0_spell 79 = .ok (.getfield 262, 3) := dk_180 1 6 (dk_at dksX0_spell_3 8 rfl rfl)
theorem dX0_spell_82 : decode cX0_spell 82 = .ok (.invokevirtual 264, 3) := dk_182 1 8 (dk_at dksX0_spell_3 11 rfl rfl)
theorem dX0_spell_85 : decode cX0_spell 85 = .ok (.aaload, 1) := dk_50 (dk_at dksX0_spell_3 14 rfl rfl)
theorem dX0_spell_86 : decode cX0_spell 86 = .ok (.invokevirtual 364, 3) := dk_182 1 108 (dk_at dksX0_spell_3 15 rfl rfl)
theorem dX0_spell_89 : decode cX0_spell 89 = .ok (.pop, 1) := dk_87 (dk_at dksX0_spell_3 18 rfl rfl)
theorem dX0_spell_90 : decode cX0_spell 90 = .ok (.aload 5, 2) := dk_25 5 (dk_at dksX0_spell_3 19 rfl rfl)
theorem dX0_spell_92 : decode cX0_spell 92 = .ok (.getfield 51, 3) := dk_180 0 51 (dk_at dksX0_spell_3 21 rfl rfl)
theorem dX0_spell_95 : decode cX0_spell 95 = .ok (.ifCond .ne 27, 3) := dk_154 0 27 (dk_at dksX0_spell_4 0 rfl rfl)
theorem dX0_spell_98 : decode cX0_spell 98 = .ok (.aload 5, 2) := dk_25 5 (dk_at dksX0_spell_4 3 rfl rfl)
theorem dX0_spell_100 : decode cX0_spell 100 = .ok (.aload 5, 2) := dk_25 5 (dk_at dksX0_spell_4 5 rfl rfl)
theorem dX0_spell_102 : decode cX0_spell 102 = .ok (.getfield 57, 3) := dk_180 0 57 (dk_at dksX0_spell_4 7 rfl rfl)
theorem dX0_spell_105 : decode cX0_spell 105 = .ok (.iconst 1, 1) := dk_4 (dk_at dksX0_spell_4 10 rfl rfl)
theorem dX0_spell_106 : decode cX0_spell 106 = .ok (.iadd, 1) := dk_96 (dk_at dksX0_spell_4 11 rfl rfl)
theorem dX0_spell_107 : decode cX0_spell 107 = .ok (.i2l, 1) := dk_133 (dk_at dksX0_spell_4 12 rfl rfl)
theorem dX0_spell_108 : decode cX0_spell 108 = .ok (.invokevirtual 60, 3) := dk_182 0 60 (dk_at dksX0_spell_4 13 rfl rfl)
theorem dX0_spell_111 : decode cX0_spell 111 = .ok (.ldc2_w 27, 3) := dk_20 0 27 (dk_at dksX0_spell_4 16 rfl rfl)
theorem dX0_spell_114 : decode cX0_spell 114 = .ok (.lcmp, 1) := dk_148 (dk_at dksX0_spell_4 19 rfl rfl)
theorem dX0_spell_115 : decode cX0_spell 115 = .ok (.ifCond .le 7, 3) := dk_158 0 7 (dk_at dksX0_spell_4 20 rfl rfl)
theorem dX0_spell_118 : decode cX0_spell 118 = .ok (.iconst 1, 1) := dk_4 (dk_at dksX0_spell_4 23 rfl rfl)
theorem dX0_spell_119 : decode cX0_spell 119 = .ok (.goto 4, 3) := dk_167 0 4 (dk_at dksX0_spell_5 0 rfl rfl)
theorem dX0_spell_122 : decode cX0_spell 122 = .ok (.iconst 0, 1) := dk_3 (dk_at dksX0_spell_5 3 rfl rfl)
theorem dX0_spell_123 : decode cX0_spell 123 = .ok (.istore 6, 2) := dk_54 6 (dk_at dksX0_spell_5 4 rfl rfl)
theorem dX0_spell_125 : decode cX0_spell 125 = .ok (.iload 6, 2) := dk_21 6 (dk_at dksX0_spell_5 6 rfl rfl)
theorem dX0_spell_127 : decode cX0_spell 127 = .ok (.ifCond .ne 33, 3) := dk_154 0 33 (dk_at dksX0_spell_5 8 rfl rfl)
theorem dX0_spell_130 : decode cX0_spell 130 = .ok (.aload_n 3, 1) := dk_45 (dk_at dksX0_spell_5 11 rfl rfl)
theorem dX0_spell_131 : decode cX0_spell 131 = .ok (.ldc_w 367, 3) := dk_19 1 111 (dk_at dksX0_spell_5 12 rfl rfl)
theorem dX0_spell_134 : decode cX0_spell 134 = .ok (.invokevirtual 364, 3) := dk_182 1 108 (dk_at dksX0_spell_5 15 rfl rfl)
theorem dX0_spell_137 : decode cX0_spell 137 = .ok (.aload 5, 2) := dk_25 5 (dk_at dksX0_spell_5 18 rfl rfl)
theorem dX0_spell_139 : decode cX0_spell 139 = .ok (.getfield 51, 3) := dk_180 0 51 (dk_at dksX0_spell_5 20 rfl rfl)
theorem dX0_spell_142 : decode cX0_spell 142 = .ok (.invokevirtual 361, 3) := dk_182 1 105 (dk_at dksX0_spell_6 0 rfl rfl)
theorem dX0_spell_145 : decode cX0_spell 145 = .ok (.ldc_w 369, 3) := dk_19 1 113 (dk_at dksX0_spell_6 3 rfl rfl)
theorem dX0_spell_148 : decode cX0_spell 148 = .ok (.invokevirtual 364, 3) := dk_182 1 108 (dk_at dksX0_spell_6 6 rfl rfl)
theorem dX0_spell_151 : decode cX0_spell 151 = .ok (.aload 5, 2) := dk_25 5 (dk_at dksX0_spell_6 9 rfl rfl)
theorem dX0_spell_153 : decode cX0_spell 153 = .ok (.getfield 57, 3) := dk_180 0 57 (dk_at dksX0_spell_6 11 rfl rfl)
theorem dX0_spell_156 : decode cX0_spell 156 = .ok (.invokevirtual 361, 3) := dk_182 1 105 (dk_at dksX0_spell_6 14 rfl rfl)
theorem dX0_spell_159 : decode cX0_spell 159 = .ok (.pop, 1) := dk_87 (dk_at dksX0_spell_6 17 rfl rfl)
theorem dX0_spell_160 : decode cX0_spell 160 = .ok (.iinc 4 1, 3) := dk_132 4 1 (dk_at dksX0_spell_6 18 rfl rfl)
theorem dX0_spell_163 : decode cX0_spell 163 = .ok (.goto (-140), 3) := dk_167 255 116 (dk_at dksX0_spell_6 21 rfl rfl)
theorem dX0_spell_166 : decode cX0_spell 166 = .ok (.aload_n 0, 1) := dk_42 (dk_at dksX0_spell_7 0 rfl rfl)
theorem dX0_spell_167 : decode cX0_spell 167 = .ok (.aload_n 3, 1) := dk_45 (dk_at dksX0_spell_7 1 rfl rfl)
theorem dX0_spell_168 : decode cX0_spell 168 = .ok (.invokevirtual 371, 3) := dk_182 1 115 (dk_at dksX0_spell_7 2 rfl rfl)
theorem dX0_spell_171 : decode cX0_spell 171 = .ok (.ireturn, 1) := dk_172 (dk_at dksX0_spell_7 5 rfl rfl)
abbrev cX0_shows : ByteArray := prog_1_method_51_code
def yX0_shows : MethodName := ⟨RX0, "shows", "(Ljava/lang/StringBuilder;)I"⟩
def dkwX0_shows_0 : List UInt8 := [42, 43, 182, 1, 91, 181, 0, 219, 42, 180, 0, 219, 182, 1, 97, 172]
abbrev dktX0_shows_0 : List UInt8 := dkwX0_shows_0 ++ []
theorem dksX0_shows_0 : cX0_shows.data.toList.drop 0 = dktX0_shows_0 := by decide +kernel
theorem dX0_shows_0 : decode cX0_shows 0 = .ok (.aload_n 0, 1) := dk_42 (dk_at dksX0_shows_0 0 rfl rfl)
theorem dX0_shows_1 : decode cX0_shows 1 = .ok (.aload_n 1, 1) := dk_43 (dk_at dksX0_shows_0 1 rfl rfl)
theorem dX0_shows_2 : decode cX0_shows 2 = .ok (.invokevirtual 347, 3) := dk_182 1 91 (dk_at dksX0_shows_0 2 rfl rfl)
theorem dX0_shows_5 : decode cX0_shows 5 = .ok (.putfield 219, 3) := dk_181 0 219 (dk_at dksX0_shows_0 5 rfl rfl)
theorem dX0_shows_8 : decode cX0_shows 8 = .ok (.aload_n 0, 1) := dk_42 (dk_at dksX0_shows_0 8 rfl rfl)
theorem dX0_shows_9 : decode cX0_shows 9 = .ok (.getfield 219, 3) := dk_180 0 219 (dk_at dksX0_shows_0 9 rfl rfl)
theorem dX0_shows_12 : decode cX0_shows 12 = .ok (.invokevirtual 353, 3) := dk_182 1 97 (dk_at dksX0_shows_0 12 rfl rfl)
theorem dX0_shows_15 : decode cX0_shows 15 = .ok (.ireturn, 1) := dk_172 (dk_at dksX0_shows_0 15 rfl rfl)
abbrev cX0_write : ByteArray := prog_1_method_53_code
def yX0_write : MethodName := ⟨RX0, "write", "(III)I"⟩
def dkwX0_write_6 : List UInt8 := [167, 255, 199, 25, 5, 16, 59, 182, 1, 101, 87, 132, 6, 1, 167, 255, 146, 42, 25, 5, 182, 1, 115, 172]
abbrev dktX0_write_6 : List UInt8 := dkwX0_write_6 ++ []
def dkwX0_write_5 : List UInt8 := [16, 44, 182, 1, 101, 42, 27, 21, 6, 9, 21, 7, 182, 1, 121, 182, 1, 105, 87, 132, 7, 1]
abbrev dktX0_write_5 : List UInt8 := dkwX0_write_5 ++ dktX0_write_6
def dkwX0_write_4 : List UInt8 := [25, 4, 21, 6, 182, 1, 11, 9, 148, 158, 0, 40, 25, 5, 21, 7, 154, 0, 8, 16, 61, 167, 0, 5]
abbrev dktX0_write_4 : List UInt8 := dkwX0_write_4 ++ dktX0_write_5
def dkwX0_write_3 : List UInt8 := [25, 5, 19, 1, 119, 182, 1, 108, 87, 3, 54, 7, 21, 7, 25, 4, 182, 0, 9, 162, 0, 53, 42]
abbrev dktX0_write_3 : List UInt8 := dkwX0_write_3 ++ dktX0_write_4
def dkwX0_write_2 : List UInt8 := [163, 0, 110, 25, 5, 21, 6, 182, 1, 105, 87, 42, 25, 4, 21, 6, 182, 1, 11, 9, 148, 154, 0, 12]
abbrev dktX0_write_2 : List UInt8 := dkwX0_write_2 ++ dktX0_write_3
def dkwX0_write_1 : List UInt8 := [16, 60, 161, 0, 5, 2, 172, 187, 1, 92, 89, 183, 1, 100, 58, 5, 28, 54, 6, 21, 6, 29]
abbrev dktX0_write_1 : List UInt8 := dkwX0_write_1 ++ dktX0_write_2
def dkwX0_write_0 : List UInt8 := [42, 27, 182, 0, 238, 58, 4, 25, 4, 198, 0, 19, 28, 29, 184, 1, 26, 153, 0, 11, 29, 28, 100]
abbrev dktX0_write_0 : List UInt8 := dkwX0_write_0 ++ dktX0_write_1
theorem dksX0_write_0 : cX0_write.data.toList.drop 0 = dktX0_write_0 := by decide +kernel
theorem dksX0_write_1 : cX0_write.data.toList.drop 23 = dktX0_write_1 := dk_seg dksX0_write_0 23 rfl rfl
theorem dksX0_write_2 : cX0_write.data.toList.drop 45 = dktX0_write_2 := dk_seg dksX0_write_1 22 rfl rfl
theorem dksX0_write_3 : cX0_write.data.toList.drop 69 = dktX0_write_3 := dk_seg dksX0_write_2 24 rfl rfl
theorem dksX0_write_4 : cX0_write.data.toList.drop 92 = dktX0_write_4 := dk_seg dksX0_write_3 23 rfl rfl
theorem dksX0_write_5 : cX0_write.data.toList.drop 116 = dktX0_write_5 := dk_seg dksX0_write_4 24 rfl rfl
theorem dksX0_write_6 : cX0_write.data.toList.drop 138 = dktX0_write_6 := dk_seg dksX0_write_5 22 rfl rfl
theorem dX0_write_0 : decode cX0_write 0 = .ok (.aload_n 0, 1) := dk_42 (dk_at dksX0_write_0 0 rfl rfl)
theorem dX0_write_1 : decode cX0_write 1 = .ok (.iload_n 1, 1) := dk_27 (dk_at dksX0_write_0 1 rfl rfl)
theorem dX0_write_2 : decode cX0_write 2 = .ok (.invokevirtual 238, 3) := dk_182 0 238 (dk_at dksX0_write_0 2 rfl rfl)
theorem dX0_write_5 : decode cX0_write 5 = .ok (.astore 4, 2) := dk_58 4 (dk_at dksX0_write_0 5 rfl rfl)
theorem dX0_write_7 : decode cX0_write 7 = .ok (.aload 4, 2) := dk_25 4 (dk_at dksX0_write_0 7 rfl rfl)
theorem dX0_write_9 : decode cX0_write 9 = .ok (.ifnull 19, 3) := dk_198 0 19 (dk_at dksX0_write_0 9 rfl rfl)
theorem dX0_write_12 : decode cX0_write 12 = .ok (.iload_n 2, 1) := dk_28 (dk_at dksX0_write_0 12 rfl rfl)
theorem dX0_write_13 : decode cX0_write 13 = .ok (.iload_n 3, 1) := dk_29 (dk_at dksX0_write_0 13 rfl rfl)
theorem dX0_write_14 : decode cX0_write 14 = .ok (.invokestatic 282, 3) := dk_184 1 26 (dk_at dksX0_write_0 14 rfl rfl)
theorem dX0_write_17 : decode cX0_write 17 = .ok (.ifCond .eq 11, 3) := dk_153 0 11 (dk_at dksX0_write_0 17 rfl rfl)
theorem dX0_write_20 : decode cX0_write 20 = .ok (.iload_n 3, 1) := dk_29 (dk_at dksX0_write_0 20 rfl rfl)
theorem dX0_write_21 : decode cX0_write 21 = .ok (.iload_n 2, 1) := dk_28 (dk_at dksX0_write_0 21 rfl rfl)
theorem dX0_write_22 : decode cX0_write 22 = .ok (.isub, 1) := dk_100 (dk_at dksX0_write_0 22 rfl rfl)
theorem dX0_write_23 : decode cX0_write 23 = .ok (.bipush 60, 2) := dk_16 60 (dk_at dksX0_write_1 0 rfl rfl)
theorem dX0_write_25 : decode cX0_write 25 = .ok (.if_icmp .lt 5, 3) := dk_161 0 5 (dk_at dksX0_write_1 2 rfl rfl)
theorem dX0_write_28 : decode cX0_write 28 = .ok (.iconst (-1), 1) := dk_2 (dk_at dksX0_write_1 5 rfl rfl)
theorem dX0_write_29 : decode cX0_write 29 = .ok (.ireturn, 1) := dk_172 (dk_at dksX0_write_1 6 rfl rfl)
theorem dX0_write_30 : decode cX0_write 30 = .ok (.new 348, 3) := dk_187 1 92 (dk_at dksX0_write_1 7 rfl rfl)
theorem dX0_write_33 : decode cX0_write 33 = .ok (.dup, 1) := dk_89 (dk_at dksX0_write_1 10 rfl rfl)
theorem dX0_write_34 : decode cX0_write 34 = .ok (.invokespecial 356, 3) := dk_183 1 100 (dk_at dksX0_write_1 11 rfl rfl)
theorem dX0_write_37 : decode cX0_write 37 = .ok (.astore 5, 2) := dk_58 5 (dk_at dksX0_write_1 14 rfl rfl)
theorem dX0_write_39 : decode cX0_write 39 = .ok (.iload_n 2, 1) := dk_28 (dk_at dksX0_write_1 16 rfl rfl)
theorem dX0_write_40 : decode cX0_write 40 = .ok (.istore 6, 2) := dk_54 6 (dk_at dksX0_write_1 17 rfl rfl)
theorem dX0_write_42 : decode cX0_write 42 = .ok (.iload 6, 2) := dk_21 6 (dk_at dksX0_write_1 19 rfl rfl)
theorem dX0_write_44 : decode cX0_write 44 = .ok (.iload_n 3, 1) := dk_29 (dk_at dksX0_write_1 21 rfl rfl)
theorem dX0_write_45 : decode cX0_write 45 = .ok (.if_icmp .gt 110, 3) := dk_163 0 110 (dk_at dksX0_write_2 0 rfl rfl)
theorem dX0_write_48 : decode cX0_write 48 = .ok (.aload 5, 2) := dk_25 5 (dk_at dksX0_write_2 3 rfl rfl)
theorem dX0_write_50 : decode cX0_write 50 = .ok (.iload 6, 2) := dk_21 6 (dk_at dksX0_write_2 5 rfl rfl)
theorem dX0_write_52 : decode cX0_write 52 = .ok (.invokevirtual 361, 3) := dk_182 1 105 (dk_at dksX0_write_2 7 rfl rfl)
theorem dX0_write_55 : decode cX0_write 55 = .ok (.pop, 1) := dk_87 (dk_at dksX0_write_2 10 rfl rfl)
theorem dX0_write_56 : decode cX0_write 56 = .ok (.aload_n 0, 1) := dk_42 (dk_at dksX0_write_2 11 rfl rfl)
theorem dX0_write_57 : decode cX0_write 57 = .ok (.aload 4, 2) := dk_25 4 (dk_at dksX0_write_2 12 rfl rfl)
theorem dX0_write_59 : decode cX0_write 59 = .ok (.iload 6, 2) := dk_21 6 (dk_at dksX0_write_2 14 rfl rfl)
theorem dX0_write_61 : decode cX0_write 61 = .ok (.invokevirtual 267, 3) := dk_182 1 11 (dk_at dksX0_write_2 16 rfl rfl)
theorem dX0_write_64 : decode cX0_write 64 = .ok (.lconst 0, 1) := dk_9 (dk_at dksX0_write_2 19 rfl rfl)
theorem dX0_write_65 : decode cX0_write 65 = .ok (.lcmp, 1) := dk_148 (dk_at dksX0_write_2 20 rfl rfl)
theorem dX0_write_66 : decode cX0_write 66 = .ok (.ifCond .ne 12, 3) := dk_154 0 12 (dk_at dksX0_write_2 21 rfl rfl)
theorem dX0_write_69 : decode cX0_write 69 = .ok (.aload 5, 2) := dk_25 5 (dk_at dksX0_write_3 0 rfl rfl)
theorem dX0_write_71 : decode cX0_write 71 = .ok (.ldc_w 375, 3) := dk_19 1 119 (dk_at dksX0_write_3 2 rfl rfl)
theorem dX0_write_74 : decode cX0_write 74 = .ok (.invokevirtual 364, 3) := dk_182 1 108 (dk_at dksX0_write_3 5 rfl rfl)
theorem dX0_write_77 : decode cX0_write 77 = .ok (.pop, 1) := dk_87 (dk_at dksX0_write_3 8 rfl rfl)
theorem dX0_write_78 : decode cX0_write 78 = .ok (.iconst 0, 1) := dk_3 (dk_at dksX0_write_3 9 rfl rfl)
theorem dX0_write_79 : decode cX0_write 79 = .ok (.istore 7, 2) := dk_54 7 (dk_at dksX0_write_3 10 rfl rfl)
theorem dX0_write_81 : decode cX0_write 81 = .ok (.iload 7, 2) := dk_21 7 (dk_at dksX0_write_3 12 rfl rfl)
theorem dX0_write_83 : decode cX0_write 83 = .ok (.aload 4, 2) := dk_25 4 (dk_at dksX0_write_3 14 rfl rfl)
theorem dX0_write_85 : decode cX0_write 85 = .ok (.invokevirtual 9, 3) := dk_182 0 9 (dk_at dksX0_write_3 16 rfl rfl)
theorem dX0_write_88 : decode cX0_write 88 = .ok (.if_icmp .ge 53, 3) := dk_162 0 53 (dk_at dksX0_write_3 19 rfl rfl)
theorem dX0_write_91 : decode cX0_write 91 = .ok (.aload_n 0, 1) := dk_42 (dk_at dksX0_write_3 22 rfl rfl)
theorem dX0_write_92 : decode cX0_write 92 = .ok (.aload 4, 2) := dk_25 4 (dk_at dksX0_write_4 0 rfl rfl)
theorem dX0_write_94 : decode cX0_write 94 = .ok (.iload 6, 2) := dk_21 6 (dk_at dksX0_write_4 2 rfl rfl)
theorem dX0_write_96 : decode cX0_write 96 = .ok (.invokevirtual 267, 3) := dk_182 1 11 (dk_at dksX0_write_4 4 rfl rfl)
theorem dX0_write_99 : decode cX0_write 99 = .ok (.lconst 0, 1) := dk_9 (dk_at dksX0_write_4 7 rfl rfl)
theorem dX0_write_100 : decode cX0_write 100 = .ok (.lcmp, 1) := dk_148 (dk_at dksX0_write_4 8 rfl rfl)
theorem dX0_write_101 : decode cX0_write 101 = .ok (.ifCond .le 40, 3) := dk_158 0 40 (dk_at dksX0_write_4 9 rfl rfl)
theorem dX0_write_104 : decode cX0_write 104 = .ok (.aload 5, 2) := dk_25 5 (dk_at dksX0_write_4 12 rfl rfl)
theorem dX0_write_106 : decode cX0_write 106 = .ok (.iload 7, 2) := dk_21 7 (dk_at dksX0_write_4 14 rfl rfl)
theorem dX0_write_108 : decode cX0_write 108 = .ok (.ifCond .ne 8, 3) := dk_154 0 8 (dk_at dksX0_write_4 16 rfl rfl)
theorem dX0_write_111 : decode cX0_write 111 = .ok (.bipush 61, 2) := dk_16 61 (dk_at dksX0_write_4 19 rfl rfl)
theorem dX0_write_113 : decode cX0_write 113 = .ok (.goto 5, 3) := dk_167 0 5 (dk_at dksX0_write_4 21 rfl rfl)
theorem dX0_write_116 : decode cX0_write 116 = .ok (.bipush 44, 2) := dk_16 44 (dk_at dksX0_write_5 0 rfl rfl)
theorem dX0_write_118 : decode cX0_write 118 = .ok (.invokevirtual 357, 3) := dk_182 1 101 (dk_at dksX0_write_5 2 rfl rfl)
theorem dX0_write_121 : decode cX0_write 121 = .ok (.aload_n 0, 1) := dk_42 (dk_at dksX0_write_5 5 rfl rfl)
theorem dX0_write_122 : decode cX0_write 122 = .ok (.iload_n 1, 1) := dk_27 (dk_at dksX0_write_5 6 rfl rfl)
theorem dX0_write_123 : decode cX0_write 123 = .ok (.iload 6, 2) := dk_21 6 (dk_at dksX0_write_5 7 rfl rfl)
theorem dX0_write_125 : decode cX0_write 125 = .ok (.lconst 0, 1) := dk_9 (dk_at dksX0_write_5 9 rfl rfl)
theorem dX0_write_126 : decode cX0_write 126 = .ok (.iload 7, 2) := dk_21 7 (dk_at dksX0_write_5 10 rfl rfl)
theorem dX0_write_128 : decode cX0_write 128 = .ok (.invokevirtual 377, 3) := dk_182 1 121 (dk_at dksX0_write_5 12 rfl rfl)
theorem dX0_write_131 : decode cX0_write 131 = .ok (.invokevirtual 361, 3) := dk_182 1 105 (dk_at dksX0_write_5 15 rfl rfl)
theorem dX0_write_134 : decode cX0_write 134 = .ok (.pop, 1) := dk_87 (dk_at dksX0_write_5 18 rfl rfl)
theorem dX0_write_135 : decode cX0_write 135 = .ok (.iinc 7 1, 3) := dk_132 7 1 (dk_at dksX0_write_5 19 rfl rfl)
theorem dX0_write_138 : decode cX0_write 138 = .ok (.goto (-57), 3) := dk_167 255 199 (dk_at dksX0_write_6 0 rfl rfl)
theorem dX0_write_141 : decode cX0_write 141 = .ok (.aload 5, 2) := dk_25 5 (dk_at dksX0_write_6 3 rfl rfl)
theorem dX0_write_143 : decode cX0_write 143 = .ok (.bipush 59, 2) := dk_16 59 (dk_at dksX0_write_6 5 rfl rfl)
theorem dX0_write_145 : decode cX0_write 145 = .ok (.invokevirtual 357, 3) := dk_182 1 101 (dk_at dksX0_write_6 7 rfl rfl)
theorem dX0_write_148 : decode cX0_write 148 = .ok (.pop, 1) := dk_87 (dk_at dksX0_write_6 10 rfl rfl)
theorem dX0_write_149 : decode cX0_write 149 = .ok (.iinc 6 1, 3) := dk_132 6 1 (dk_at dksX0_write_6 11 rfl rfl)
theorem dX0_write_152 : decode cX0_write 152 = .ok (.goto (-110), 3) := dk_167 255 146 (dk_at dksX0_write_6 14 rfl rfl)
theorem dX0_write_155 : decode cX0_write 155 = .ok (.aload_n 0, 1) := dk_42 (dk_at dksX0_write_6 17 rfl rfl)
theorem dX0_write_156 : decode cX0_write 156 = .ok (.aload 5, 2) := dk_25 5 (dk_at dksX0_write_6 18 rfl rfl)
theorem dX0_write_158 : decode cX0_write 158 = .ok (.invokevirtual 371, 3) := dk_182 1 115 (dk_at dksX0_write_6 20 rfl rfl)
theorem dX0_write_161 : decode cX0_write 161 = .ok (.ireturn, 1) := dk_172 (dk_at dksX0_write_6 23 rfl rfl)
abbrev cX0_out : ByteArray := prog_1_method_54_code
def yX0_out : MethodName := ⟨RX0, "out", "(I)I"⟩
def dkwX0_out_1 : List UInt8 := [182, 1, 125, 167, 0, 4, 2, 172]
abbrev dktX0_out_1 : List UInt8 := dkwX0_out_1 ++ []
def dkwX0_out_0 : List UInt8 := [27, 133, 9, 42, 180, 0, 219, 182, 1, 97, 4, 100, 133, 184, 0, 21, 153, 0, 14, 42, 180, 0, 219, 27]
abbrev dktX0_out_0 : List UInt8 := dkwX0_out_0 ++ dktX0_out_1
theorem dksX0_out_0 : cX0_out.data.toList.drop 0 = dktX0_out_0 := by decide +kernel
theorem dksX0_out_1 : cX0_out.data.toList.drop 24 = dktX0_out_1 := dk_seg dksX0_out_0 24 rfl rfl
theorem dX0_out_0 : decode cX0_out 0 = .ok (.iload_n 1, 1) := dk_27 (dk_at dksX0_out_0 0 rfl rfl)
theorem dX0_out_1 : decode cX0_out 1 = .ok (.i2l, 1) := dk_133 (dk_at dksX0_out_0 1 rfl rfl)
theorem dX0_out_2 : decode cX0_out 2 = .ok (.lconst 0, 1) := dk_9 (dk_at dksX0_out_0 2 rfl rfl)
theorem dX0_out_3 : decode cX0_out 3 = .ok (.aload_n 0, 1) := dk_42 (dk_at dksX0_out_0 3 rfl rfl)
theorem dX0_out_4 : decode cX0_out 4 = .ok (.getfield 219, 3) := dk_180 0 219 (dk_at dksX0_out_0 4 rfl rfl)
theorem dX0_out_7 : decode cX0_out 7 = .ok (.invokevirtual 353, 3) := dk_182 1 97 (dk_at dksX0_out_0 7 rfl rfl)
theorem dX0_out_10 : decode cX0_out 10 = .ok (.iconst 1, 1) := dk_4 (dk_at dksX0_out_0 10 rfl rfl)
theorem dX0_out_11 : decode cX0_out 11 = .ok (.isub, 1) := dk_100 (dk_at dksX0_out_0 11 rfl rfl)
theorem dX0_out_12 : decode cX0_out 12 = .ok (.i2l, 1) := dk_133 (dk_at dksX0_out_0 12 rfl rfl)
theorem dX0_out_13 : decode cX0_out 13 = .ok (.invokestatic 21, 3) := dk_184 0 21 (dk_at dksX0_out_0 13 rfl rfl)
theorem dX0_out_16 : decode cX0_out 16 = .ok (.ifCond .eq 14, 3) := dk_153 0 14 (dk_at dksX0_out_0 16 rfl rfl)
theorem dX0_out_19 : decode cX0_out 19 = .ok (.aload_n 0, 1) := dk_42 (dk_at dksX0_out_0 19 rfl rfl)
theorem dX0_out_20 : decode cX0_out 20 = .ok (.getfield 219, 3) := dk_180 0 219 (dk_at dksX0_out_0 20 rfl rfl)
theorem dX0_out_23 : decode cX0_out 23 = .ok (.iload_n 1, 1) := dk_27 (dk_at dksX0_out_0 23 rfl rfl)
theorem dX0_out_24 : decode cX0_out 24 = .ok (.invokevirtual 381, 3) := dk_182 1 125 (dk_at dksX0_out_1 0 rfl rfl)
theorem dX0_out_27 : decode cX0_out 27 = .ok (.goto 4, 3) := dk_167 0 4 (dk_at dksX0_out_1 3 rfl rfl)
theorem dX0_out_30 : decode cX0_out 30 = .ok (.iconst (-1), 1) := dk_2 (dk_at dksX0_out_1 6 rfl rfl)
theorem dX0_out_31 : decode cX0_out 31 = .ok (.ireturn, 1) := dk_172 (dk_at dksX0_out_1 7 rfl rfl)
abbrev cX0_gap : ByteArray := prog_1_method_55_code
def yX0_gap : MethodName := ⟨RX0, "gap", "(IIII)I"⟩
def dkwX0_gap_5 : List UInt8 := [21, 7, 172]
abbrev dktX0_gap_5 : List UInt8 := dkwX0_gap_5 ++ []
def dkwX0_gap_4 : List UInt8 := [21, 8, 100, 4, 96, 54, 7, 132, 9, 1, 167, 255, 201, 21, 4, 154, 0, 8, 21, 6, 167, 0, 5]
abbrev dktX0_gap_4 : List UInt8 := dkwX0_gap_4 ++ dktX0_gap_5
def dkwX0_gap_3 : List UInt8 := [96, 167, 0, 4, 3, 54, 8, 21, 8, 21, 6, 163, 0, 6, 167, 0, 16, 21, 8, 54, 6, 21, 9]
abbrev dktX0_gap_3 : List UInt8 := dkwX0_gap_3 ++ dktX0_gap_4
def dkwX0_gap_2 : List UInt8 := [54, 9, 21, 9, 29, 163, 0, 55, 42, 25, 5, 21, 9, 182, 1, 11, 9, 148, 154, 0, 10, 21, 8, 4]
abbrev dktX0_gap_2 : List UInt8 := dkwX0_gap_2 ++ dktX0_gap_3
def dkwX0_gap_1 : List UInt8 := [10, 184, 0, 21, 154, 0, 7, 19, 1, 2, 172, 3, 54, 6, 19, 1, 2, 54, 7, 3, 54, 8, 28]
abbrev dktX0_gap_1 : List UInt8 := dkwX0_gap_1 ++ dktX0_gap_2
def dkwX0_gap_0 : List UInt8 := [42, 27, 182, 0, 238, 58, 5, 25, 5, 198, 0, 22, 28, 29, 184, 1, 26, 153, 0, 14, 21, 4, 133, 9]
abbrev dktX0_gap_0 : List UInt8 := dkwX0_gap_0 ++ dktX0_gap_1
theorem dksX0_gap_0 : cX0_gap.data.toList.drop 0 = dktX0_gap_0 := by decide +kernel
theorem dksX0_gap_1 : cX0_gap.data.toList.drop 24 = dktX0_gap_1 := dk_seg dksX0_gap_0 24 rfl rfl
theorem dksX0_gap_2 : cX0_gap.data.toList.drop 47 = dktX0_gap_2 := dk_seg dksX0_gap_1 23 rfl rfl
theorem dksX0_gap_3 : cX0_gap.data.toList.drop 71 = dktX0_gap_3 := dk_seg dksX0_gap_2 24 rfl rfl
theorem dksX0_gap_4 : cX0_gap.data.toList.drop 94 = dktX0_gap_4 := dk_seg dksX0_gap_3 23 rfl rfl
theorem dksX0_gap_5 : cX0_gap.data.toList.drop 117 = dktX0_gap_5 := dk_seg dksX0_gap_4 23 rfl rfl
theorem dX0_gap_0 : decode cX0_gap 0 = .ok (.aload_n 0, 1) := dk_42 (dk_at dksX0_gap_0 0 rfl rfl)
theorem dX0_gap_1 : decode cX0_gap 1 = .ok (.iload_n 1, 1) := dk_27 (dk_at dksX0_gap_0 1 rfl rfl)
theorem dX0_gap_2 : decode cX0_gap 2 = .ok (.invokevirtual 238, 3) := dk_182 0 238 (dk_at dksX0_gap_0 2 rfl rfl)
theorem dX0_gap_5 : decode cX0_gap 5 = .ok (.astore 5, 2) := dk_58 5 (dk_at dksX0_gap_0 5 rfl rfl)
theorem dX0_gap_7 : decode cX0_gap 7 = .ok (.aload 5, 2) := dk_25 5 (dk_at dksX0_gap_0 7 rfl rfl)
theorem dX0_gap_9 : decode cX0_gap 9 = .ok (.ifnull 22, 3) := dk_198 0 22 (dk_at dksX0_gap_0 9 rfl rfl)
theorem dX0_gap_12 : decode cX0_gap 12 = .ok (.iload_n 2, 1) := dk_28 (dk_at dksX0_gap_0 12 rfl rfl)
theorem dX0_gap_13 : decode cX0_gap 13 = .ok (.iload_n 3, 1) := dk_29 (dk_at dksX0_gap_0 13 rfl rfl)
theorem dX0_gap_14 : decode cX0_gap 14 = .ok (.invokestatic 282, 3) := dk_184 1 26 (dk_at dksX0_gap_0 14 rfl rfl)
theorem dX0_gap_17 : decode cX0_gap 17 = .ok (.ifCond .eq 14, 3) := dk_153 0 14 (dk_at dksX0_gap_0 17 rfl rfl)
theorem dX0_gap_20 : decode cX0_gap 20 = .ok (.iload 4, 2) := dk_21 4 (dk_at dksX0_gap_0 20 rfl rfl)
theorem dX0_gap_22 : decode cX0_gap 22 = .ok (.i2l, 1) := dk_133 (dk_at dksX0_gap_0 22 rfl rfl)
theorem dX0_gap_23 : decode cX0_gap 23 = .ok (.lconst 0, 1) := dk_9 (dk_at dksX0_gap_0 23 rfl rfl)
theorem dX0_gap_24 : decode cX0_gap 24 = .ok (.lconst 1, 1) := dk_10 (dk_at dksX0_gap_1 0 rfl rfl)
theorem dX0_gap_25 : decode cX0_gap 25 = .ok (.invokestatic 21, 3) := dk_184 0 21 (dk_at dksX0_gap_1 1 rfl rfl)
theorem dX0_gap_28 : decode cX0_gap 28 = .ok (.ifCond .ne 7, 3) := dk_154 0 7 (dk_at dksX0_gap_1 4 rfl rfl)
theorem dX0_gap_31 : decode cX0_gap 31 = .ok (.ldc_w 258, 3) := dk_19 1 2 (dk_at dksX0_gap_1 7 rfl rfl)
theorem dX0_gap_34 : decode cX0_gap 34 = .ok (.ireturn, 1) := dk_172 (dk_at dksX0_gap_1 10 rfl rfl)
theorem dX0_gap_35 : decode cX0_gap 35 = .ok (.iconst 0, 1) := dk_3 (dk_at dksX0_gap_1 11 rfl rfl)
theorem dX0_gap_36 : decode cX0_gap 36 = .ok (.istore 6, 2) := dk_54 6 (dk_at dksX0_gap_1 12 rfl rfl)
theorem dX0_gap_38 : decode cX0_gap 38 = .ok (.ldc_w 258, 3) := dk_19 1 2 (dk_at dksX0_gap_1 14 rfl rfl)
theorem dX0_gap_41 : decode cX0_gap 41 = .ok (.istore 7, 2) := dk_54 7 (dk_at dksX0_gap_1 17 rfl rfl)
theorem dX0_gap_43 : decode cX0_gap 43 = .ok (.iconst 0, 1) := dk_3 (dk_at dksX0_gap_1 19 rfl rfl)
theorem dX0_gap_44 : decode cX0_gap 44 = .ok (.istore 8, 2) := dk_54 8 (dk_at dksX0_gap_1 20 rfl rfl)
theorem dX0_gap_46 : decode cX0_gap 46 = .ok (.iload_n 2, 1) := dk_28 (dk_at dksX0_gap_1 22 rfl rfl)
theorem dX0_gap_47 : decode cX0_gap 47 = .ok (.istore 9, 2) := dk_54 9 (dk_at dksX0_gap_2 0 rfl rfl)
theorem dX0_gap_49 : decode cX0_gap 49 = .ok (.iload 9, 2) := dk_21 9 (dk_at dksX0_gap_2 2 rfl rfl)
theorem dX0_gap_51 : decode cX0_gap 51 = .ok (.iload_n 3, 1) := dk_29 (dk_at dksX0_gap_2 4 rfl rfl)
theorem dX0_gap_52 : decode cX0_gap 52 = .ok (.if_icmp .gt 55, 3) := dk_163 0 55 (dk_at dksX0_gap_2 5 rfl rfl)
theorem dX0_gap_55 : decode cX0_gap 55 = .ok (.aload_n 0, 1) := dk_42 (dk_at dksX0_gap_2 8 rfl rfl)
theorem dX0_gap_56 : decode cX0_gap 56 = .ok (.aload 5, 2) := dk_25 5 (dk_at dksX0_gap_2 9 rfl rfl)
theorem dX0_gap_58 : decode cX0_gap 58 = .ok (.iload 9, 2) := dk_21 9 (dk_at dksX0_gap_2 11 rfl rfl)
theorem dX0_gap_60 : decode cX0_gap 60 = .ok (.invokevirtual 267, 3) := dk_182 1 11 (dk_at dksX0_gap_2 13 rfl rfl)
theorem dX0_gap_63 : decode cX0_gap 63 = .ok (.lconst 0, 1) := dk_9 (dk_at dksX0_gap_2 16 rfl rfl)
theorem dX0_gap_64 : decode cX0_gap 64 = .ok (.lcmp, 1) := dk_148 (dk_at dksX0_gap_2 17 rfl rfl)
theorem dX0_gap_65 : decode cX0_gap 65 = .ok (.ifCond .ne 10, 3) := dk_154 0 10 (dk_at dksX0_gap_2 18 rfl rfl)
theorem dX0_gap_68 : decode cX0_gap 68 = .ok (.iload 8, 2) := dk_21 8 (dk_at dksX0_gap_2 21 rfl rfl)
theorem dX0_gap_70 : decode cX0_gap 70 = .ok (.iconst 1, 1) := dk_4 (dk_at dksX0_gap_2 23 rfl rfl)
theorem dX0_gap_71 : decode cX0_gap 71 = .ok (.iadd, 1) := dk_96 (dk_at dksX0_gap_3 0 rfl rfl)
theorem dX0_gap_72 : decode cX0_gap 72 = .ok (.goto 4, 3) := dk_167 0 4 (dk_at dksX0_gap_3 1 rfl rfl)
theorem dX0_gap_75 : decode cX0_gap 75 = .ok (.iconst 0, 1) := dk_3 (dk_at dksX0_gap_3 4 rfl rfl)
theorem dX0_gap_76 : decode cX0_gap 76 = .ok (.istore 8, 2) := dk_54 8 (dk_at dksX0_gap_3 5 rfl rfl)
theorem dX0_gap_78 : decode cX0_gap 78 = .ok (.iload 8, 2) := dk_21 8 (dk_at dksX0_gap_3 7 rfl rfl)
theorem dX0_gap_80 : decode cX0_gap 80 = .ok (.iload 6, 2) := dk_21 6 (dk_at dksX0_gap_3 9 rfl rfl)
theorem dX0_gap_82 : decode cX0_gap 82 = .ok (.if_icmp .gt 6, 3) := dk_163 0 6 (dk_at dksX0_gap_3 11 rfl rfl)
theorem dX0_gap_85 : decode cX0_gap 85 = .ok (.goto 16, 3) := dk_167 0 16 (dk_at dksX0_gap_3 14 rfl rfl)
theorem dX0_gap_88 : decode cX0_gap 88 = .ok (.iload 8, 2) := dk_21 8 (dk_at dksX0_gap_3 17 rfl rfl)
theorem dX0_gap_90 : decode cX0_gap 90 = .ok (.istore 6, 2) := dk_54 6 (dk_at dksX0_gap_3 19 rfl rfl)
theorem dX0_gap_92 : decode cX0_gap 92 = .ok (.iload 9, 2) := dk_21 9 (dk_at dksX0_gap_3 21 rfl rfl)
theorem dX0_gap_94 : decode cX0_gap 94 = .ok (.iload 8, 2) := dk_21 8 (dk_at dksX0_gap_4 0 rfl rfl)
theorem dX0_gap_96 : decode cX0_gap 96 = .ok (.isub, 1) := dk_100 (dk_at dksX0_gap_4 2 rfl rfl)
theorem dX0_gap_97 : decode cX0_gap 97 = .ok (.iconst 1, 1) := dk_4 (dk_at dksX0_gap_4 3 rfl rfl)
theorem dX0_gap_98 : decode cX0_gap 98 = .ok (.iadd, 1) := dk_96 (dk_at dksX0_gap_4 4 rfl rfl)
theorem dX0_gap_99 : decode cX0_gap 99 = .ok (.istore 7, 2) := dk_54 7 (dk_at dksX0_gap_4 5 rfl rfl)
theorem dX0_gap_101 : decode cX0_gap 101 = .ok (.iinc 9 1, 3) := dk_132 9 1 (dk_at dksX0_gap_4 7 rfl rfl)
theorem dX0_gap_104 : decode cX0_gap 104 = .ok (.goto (-55), 3) := dk_167 255 201 (dk_at dksX0_gap_4 10 rfl rfl)
theorem dX0_gap_107 : decode cX0_gap 107 = .ok (.iload 4, 2) := dk_21 4 (dk_at dksX0_gap_4 13 rfl rfl)
theorem dX0_gap_109 : decode cX0_gap 109 = .ok (.ifCond .ne 8, 3) := dk_154 0 8 (dk_at dksX0_gap_4 15 rfl rfl)
theorem dX0_gap_112 : decode cX0_gap 112 = .ok (.iload 6, 2) := dk_21 6 (dk_at dksX0_gap_4 18 rfl rfl)
theorem dX0_gap_114 : decode cX0_gap 114 = .ok (.goto 5, 3) := dk_167 0 5 (dk_at dksX0_gap_4 20 rfl rfl)
theorem dX0_gap_117 : decode cX0_gap 117 = .ok (.iload 7, 2) := dk_21 7 (dk_at dksX0_gap_5 0 rfl rfl)
theorem dX0_gap_119 : decode cX0_gap 119 = .ok (.ireturn, 1) := dk_172 (dk_at dksX0_gap_5 2 rfl rfl)
abbrev cX0_rank : ByteArray := prog_1_method_56_code
def yX0_rank : MethodName := ⟨RX0, "rank", "(IIII)I"⟩
def dkwX0_rank_5 : List UInt8 := [167, 255, 234, 25, 6, 182, 1, 138, 192, 1, 129, 180, 1, 141, 172]
abbrev dktX0_rank_5 : List UInt8 := dkwX0_rank_5 ++ []
def dkwX0_rank_4 : List UInt8 := [54, 7, 21, 7, 21, 4, 162, 0, 21, 42, 25, 6, 182, 1, 77, 192, 1, 129, 181, 1, 134, 132, 7, 1]
abbrev dktX0_rank_4 : List UInt8 := dkwX0_rank_4 ++ dktX0_rank_5
def dkwX0_rank_3 : List UInt8 := [21, 7, 42, 25, 5, 21, 7, 182, 1, 11, 183, 1, 131, 182, 1, 69, 87, 132, 7, 1, 167, 255, 224, 3]
abbrev dktX0_rank_3 : List UInt8 := dkwX0_rank_3 ++ dktX0_rank_4
def dkwX0_rank_2 : List UInt8 := [187, 1, 61, 89, 183, 1, 63, 58, 6, 28, 54, 7, 21, 7, 29, 163, 0, 32, 25, 6, 187, 1, 129, 89]
abbrev dktX0_rank_2 : List UInt8 := dkwX0_rank_2 ++ dktX0_rank_3
def dkwX0_rank_1 : List UInt8 := [17, 0, 200, 162, 0, 17, 21, 4, 133, 9, 29, 28, 100, 133, 184, 0, 21, 154, 0, 7, 19, 1, 2, 172]
abbrev dktX0_rank_1 : List UInt8 := dkwX0_rank_1 ++ dktX0_rank_2
def dkwX0_rank_0 : List UInt8 := [42, 27, 182, 0, 238, 58, 5, 25, 5, 198, 0, 34, 28, 29, 184, 1, 26, 153, 0, 26, 29, 28, 100]
abbrev dktX0_rank_0 : List UInt8 := dkwX0_rank_0 ++ dktX0_rank_1
theorem dksX0_rank_0 : cX0_rank.data.toList.drop 0 = dktX0_rank_0 := by decide +kernel
theorem dksX0_rank_1 : cX0_rank.data.toList.drop 23 = dktX0_rank_1 := dk_seg dksX0_rank_0 23 rfl rfl
theorem dksX0_rank_2 : cX0_rank.data.toList.drop 47 = dktX0_rank_2 := dk_seg dksX0_rank_1 24 rfl rfl
theorem dksX0_rank_3 : cX0_rank.data.toList.drop 71 = dktX0_rank_3 := dk_seg dksX0_rank_2 24 rfl rfl
theorem dksX0_rank_4 : cX0_rank.data.toList.drop 95 = dktX0_rank_4 := dk_seg dksX0_rank_3 24 rfl rfl
theorem dksX0_rank_5 : cX0_rank.data.toList.drop 119 = dktX0_rank_5 := dk_seg dksX0_rank_4 24 rfl rfl
theorem dX0_rank_0 : decode cX0_rank 0 = .ok (.aload_n 0, 1) := dk_42 (dk_at dksX0_rank_0 0 rfl rfl)
theorem dX0_rank_1 : decode cX0_rank 1 = .ok (.iload_n 1, 1) := dk_27 (dk_at dksX0_rank_0 1 rfl rfl)
theorem dX0_rank_2 : decode cX0_rank 2 = .ok (.invokevirtual 238, 3) := dk_182 0 238 (dk_at dksX0_rank_0 2 rfl rfl)
theorem dX0_rank_5 : decode cX0_rank 5 = .ok (.astore 5, 2) := dk_58 5 (dk_at dksX0_rank_0 5 rfl rfl)
theorem dX0_rank_7 : decode cX0_rank 7 = .ok (.aload 5, 2) := dk_25 5 (dk_at dksX0_rank_0 7 rfl rfl)
theorem dX0_rank_9 : decode cX0_rank 9 = .ok (.ifnull 34, 3) := dk_198 0 34 (dk_at dksX0_rank_0 9 rfl rfl)
theorem dX0_rank_12 : decode cX0_rank 12 = .ok (.iload_n 2, 1) := dk_28 (dk_at dksX0_rank_0 12 rfl rfl)
theorem dX0_rank_13 : decode cX0_rank 13 = .ok (.iload_n 3, 1) := dk_29 (dk_at dksX0_rank_0 13 rfl rfl)
theorem dX0_rank_14 : decode cX0_rank 14 = .ok (.invokestatic 282, 3) := dk_184 1 26 (dk_at dksX0_rank_0 14 rfl rfl)
theorem dX0_rank_17 : decode cX0_rank 17 = .ok (.ifCond .eq 26, 3) := dk_153 0 26 (dk_at dksX0_rank_0 17 rfl rfl)
theorem dX0_rank_20 : decode cX0_rank 20 = .ok (.iload_n 3, 1) := dk_29 (dk_at dksX0_rank_0 20 rfl rfl)
theorem dX0_rank_21 : decode cX0_rank 21 = .ok (.iload_n 2, 1) := dk_28 (dk_at dksX0_rank_0 21 rfl rfl)
theorem dX0_rank_22 : decode cX0_rank 22 = .ok (.isub, 1) := dk_100 (dk_at dksX0_rank_0 22 rfl rfl)
theorem dX0_rank_23 : decode cX0_rank 23 = .ok (.sipush 200, 3) := dk_17 0 200 (dk_at dksX0_rank_1 0 rfl rfl)
theorem dX0_rank_26 : decode cX0_rank 26 = .ok (.if_icmp .ge 17, 3) := dk_162 0 17 (dk_at dksX0_rank_1 3 rfl rfl)
theorem dX0_rank_29 : decode cX0_rank 29 = .ok (.iload 4, 2) := dk_21 4 (dk_at dksX0_rank_1 6 rfl rfl)
theorem dX0_rank_31 : decode cX0_rank 31 = .ok (.i2l, 1) := dk_133 (dk_at dksX0_rank_1 8 rfl rfl)
theorem dX0_rank_32 : decode cX0_rank 32 = .ok (.lconst 0, 1) := dk_9 (dk_at dksX0_rank_1 9 rfl rfl)
theorem dX0_rank_33 : decode cX0_rank 33 = .ok (.iload_n 3, 1) := dk_29 (dk_at dksX0_rank_1 10 rfl rfl)
theorem dX0_rank_34 : decode cX0_rank 34 = .ok (.iload_n 2, 1) := dk_28 (dk_at dksX0_rank_1 11 rfl rfl)
theorem dX0_rank_35 : decode cX0_rank 35 = .ok (.isub, 1) := dk_100 (dk_at dksX0_rank_1 12 rfl rfl)
theorem dX0_rank_36 : decode cX0_rank 36 = .ok (.i2l, 1) := dk_133 (dk_at dksX0_rank_1 13 rfl rfl)
theorem dX0_rank_37 : decode cX0_rank 37 = .ok (.invokestatic 21, 3) := dk_184 0 21 (dk_at dksX0_rank_1 14 rfl rfl)
theorem dX0_rank_40 : decode cX0_rank 40 = .ok (.ifCond .ne 7, 3) := dk_154 0 7 (dk_at dksX0_rank_1 17 rfl rfl)
theorem dX0_rank_43 : decode cX0_rank 43 = .ok (.ldc_w 258, 3) := dk_19 1 2 (dk_at dksX0_rank_1 20 rfl rfl)
theorem dX0_rank_46 : decode cX0_rank 46 = .ok (.ireturn, 1) := dk_172 (dk_at dksX0_rank_1 23 rfl rfl)
theorem dX0_rank_47 : decode cX0_rank 47 = .ok (.new 317, 3) := dk_187 1 61 (dk_at dksX0_rank_2 0 rfl rfl)
theorem dX0_rank_50 : decode cX0_rank 50 = .ok (.dup, 1) := dk_89 (dk_at dksX0_rank_2 3 rfl rfl)
theorem dX0_rank_51 : decode cX0_rank 51 = .ok (.invokespecial 319, 3) := dk_183 1 63 (dk_at dksX0_rank_2 4 rfl rfl)
theorem dX0_rank_54 : decode cX0_rank 54 = .ok (.astore 6, 2) := dk_58 6 (dk_at dksX0_rank_2 7 rfl rfl)
theorem dX0_rank_56 : decode cX0_rank 56 = .ok (.iload_n 2, 1) := dk_28 (dk_at dksX0_rank_2 9 rfl rfl)
theorem dX0_rank_57 : decode cX0_rank 57 = .ok (.istore 7, 2) := dk_54 7 (dk_at dksX0_rank_2 10 rfl rfl)
theorem dX0_rank_59 : decode cX0_rank 59 = .ok (.iload 7, 2) := dk_21 7 (dk_at dksX0_rank_2 12 rfl rfl)
theorem dX0_rank_61 : decode cX0_rank 61 = .ok (.iload_n 3, 1) := dk_29 (dk_at dksX0_rank_2 14 rfl rfl)
theorem dX0_rank_62 : decode cX0_rank 62 = .ok (.if_icmp .gt 32, 3) := dk_163 0 32 (dk_at dksX0_rank_2 15 rfl rfl)
theorem dX0_rank_65 : decode cX0_rank 65 = .ok (.aload 6, 2) := dk_25 6 (dk_at dksX0_rank_2 18 rfl rfl)
theorem dX0_rank_67 : decode cX0_rank 67 = .ok (.new 385, 3) := dk_187 1 129 (dk_at dksX0_rank_2 20 rfl rfl)
theorem dX0_rank_70 : decode cX0_rank 70 = .ok (.dup, 1) := dk_89 (dk_at dksX0_rank_2 23 rfl rfl)
theorem dX0_rank_71 : decode cX0_rank 71 = .ok (.iload 7, 2) := dk_21 7 (dk_at dksX0_rank_3 0 rfl rfl)
theorem dX0_rank_73 : decode cX0_rank 73 = .ok (.aload_n 0, 1) := dk_42 (dk_at dksX0_rank_3 2 rfl rfl)
theorem dX0_rank_74 : decode cX0_rank 74 = .ok (.aload 5, 2) := dk_25 5 (dk_at dksX0_rank_3 3 rfl rfl)
theorem dX0_rank_76 : decode cX0_rank 76 = .ok (.iload 7, 2) := dk_21 7 (dk_at dksX0_rank_3 5 rfl rfl)
theorem dX0_rank_78 : decode cX0_rank 78 = .ok (.invokevirtual 267, 3) := dk_182 1 11 (dk_at dksX0_rank_3 7 rfl rfl)
theorem dX0_rank_81 : decode cX0_rank 81 = .ok (.invokespecial 387, 3) := dk_183 1 131 (dk_at dksX0_rank_3 10 rfl rfl)
theorem dX0_rank_84 : decode cX0_rank 84 = .ok (.invokevirtual 325, 3) := dk_182 1 69 (dk_at dksX0_rank_3 13 rfl rfl)
theorem dX0_rank_87 : decode cX0_rank 87 = .ok (.pop, 1) := dk_87 (dk_at dksX0_rank_3 16 rfl rfl)
theorem dX0_rank_88 : decode cX0_rank 88 = .ok (.iinc 7 1, 3) := dk_132 7 1 (dk_at dksX0_rank_3 17 rfl rfl)
theorem dX0_rank_91 : decode cX0_rank 91 = .ok (.goto (-32), 3) := dk_167 255 224 (dk_at dksX0_rank_3 20 rfl rfl)
theorem dX0_rank_94 : decode cX0_rank 94 = .ok (.iconst 0, 1) := dk_3 (dk_at dksX0_rank_3 23 rfl rfl)
theorem dX0_rank_95 : decode cX0_rank 95 = .ok (.istore 7, 2) := dk_54 7 (dk_at dksX0_rank_4 0 rfl rfl)
theorem dX0_rank_97 : decode cX0_rank 97 = .ok (.iload 7, 2) := dk_21 7 (dk_at dksX0_rank_4 2 rfl rfl)
theorem dX0_rank_99 : decode cX0_rank 99 = .ok (.iload 4, 2) := dk_21 4 (dk_at dksX0_rank_4 4 rfl rfl)
theorem dX0_rank_101 : decode cX0_rank 101 = .ok (.if_icmp .ge 21, 3) := dk_162 0 21 (dk_at dksX0_rank_4 6 rfl rfl)
theorem dX0_rank_104 : decode cX0_rank 104 = .ok (.aload_n 0, 1) := dk_42 (dk_at dksX0_rank_4 9 rfl rfl)
theorem dX0_rank_105 : decode cX0_rank 105 = .ok (.aload 6, 2) := dk_25 6 (dk_at dksX0_rank_4 10 rfl rfl)
theorem dX0_rank_107 : decode cX0_rank 107 = .ok (.invokevirtual 333, 3) := dk_182 1 77 (dk_at dksX0_rank_4 12 rfl rfl)
theorem dX0_rank_110 : decode cX0_rank 110 = .ok (.checkcast 385, 3) := dk_192 1 129 (dk_at dksX0_rank_4 15 rfl rfl)
theorem dX0_rank_113 : decode cX0_rank 113 = .ok (.putfield 390, 3) := dk_181 1 134 (dk_at dksX0_rank_4 18 rfl rfl)
theorem dX0_rank_116 : decode cX0_rank 116 = .ok (.iinc 7 1, 3) := dk_132 7 1 (dk_at dksX0_rank_4 21 rfl rfl)
theorem dX0_rank_119 : decode cX0_rank 119 = .ok (.goto (-22), 3) := dk_167 255 234 (dk_at dksX0_rank_5 0 rfl rfl)
theorem dX0_rank_122 : decode cX0_rank 122 = .ok (.aload 6, 2) := dk_25 6 (dk_at dksX0_rank_5 3 rfl rfl)
theorem dX0_rank_124 : decode cX0_rank 124 = .ok (.invokevirtual 394, 3) := dk_182 1 138 (dk_at dksX0_rank_5 5 rfl rfl)
theorem dX0_rank_127 : decode cX0_rank 127 = .ok (.checkcast 385, 3) := dk_192 1 129 (dk_at dksX0_rank_5 8 rfl rfl)
theorem dX0_rank_130 : decode cX0_rank 130 = .ok (.getfield 397, 3) := dk_180 1 141 (dk_at dksX0_rank_5 11 rfl rfl)
theorem dX0_rank_133 : decode cX0_rank 133 = .ok (.ireturn, 1) := dk_172 (dk_at dksX0_rank_5 14 rfl rfl)
abbrev cX0_tried : ByteArray := prog_1_method_60_code
def yX0_tried : MethodName := ⟨RX0, "tried", "(II)I"⟩
def dkwX0_tried_6 : List UInt8 := [28, 154, 0, 8, 21, 4, 167, 0, 6, 19, 1, 2, 172]
abbrev dktX0_tried_6 : List UInt8 := dkwX0_tried_6 ++ []
def dkwX0_tried_5 : List UInt8 := [182, 1, 163, 153, 0, 7, 4, 167, 0, 4, 3, 172, 132, 4, 1, 42, 45, 27, 182, 1, 166, 154, 255, 204]
abbrev dktX0_tried_5 : List UInt8 := dkwX0_tried_5 ++ dktX0_tried_6
def dkwX0_tried_4 : List UInt8 := [167, 0, 38, 28, 158, 0, 31, 28, 16, 7, 162, 0, 11, 45, 28, 4, 100, 46, 167, 0, 16, 42, 45]
abbrev dktX0_tried_4 : List UInt8 := dkwX0_tried_4 ++ dktX0_tried_5
def dkwX0_tried_3 : List UInt8 := [167, 0, 4, 3, 79, 132, 4, 1, 167, 255, 223, 3, 54, 4, 42, 45, 182, 1, 159, 154, 0, 6]
abbrev dktX0_tried_3 : List UInt8 := dkwX0_tried_3 ++ dktX0_tried_4
def dkwX0_tried_2 : List UInt8 := [16, 6, 162, 0, 32, 45, 21, 4, 42, 180, 0, 249, 21, 4, 122, 4, 126, 4, 160, 0, 8, 27, 116]
abbrev dktX0_tried_2 : List UInt8 := dkwX0_tried_2 ++ dktX0_tried_3
def dkwX0_tried_1 : List UInt8 := [20, 1, 157, 184, 0, 21, 154, 0, 7, 19, 1, 2, 172, 16, 7, 188, 10, 78, 3, 54, 4, 21, 4]
abbrev dktX0_tried_1 : List UInt8 := dkwX0_tried_1 ++ dktX0_tried_2
def dkwX0_tried_0 : List UInt8 := [42, 180, 1, 150, 198, 0, 27, 27, 133, 9, 20, 0, 19, 184, 0, 21, 153, 0, 15, 28, 133, 9]
abbrev dktX0_tried_0 : List UInt8 := dkwX0_tried_0 ++ dktX0_tried_1
theorem dksX0_tried_0 : cX0_tried.data.toList.drop 0 = dktX0_tried_0 := by decide +kernel
theorem dksX0_tried_1 : cX0_tried.data.toList.drop 22 = dktX0_tried_1 := dk_seg dksX0_tried_0 22 rfl rfl
theorem dksX0_tried_2 : cX0_tried.data.toList.drop 45 = dktX0_tried_2 := dk_seg dksX0_tried_1 23 rfl rfl
theorem dksX0_tried_3 : cX0_tried.data.toList.drop 68 = dktX0_tried_3 := dk_seg dksX0_tried_2 23 rfl rfl
theorem dksX0_tried_4 : cX0_tried.data.toList.drop 90 = dktX0_tried_4 := dk_seg dksX0_tried_3 22 rfl rfl
theorem dksX0_tried_5 : cX0_tried.data.toList.drop 113 = dktX0_tried_5 := dk_seg dksX0_tried_4 23 rfl rfl
theorem dksX0_tried_6 : cX0_tried.data.toList.drop 137 = dktX0_tried_6 := dk_seg dksX0_tried_5 24 rfl rfl
theorem dX0_tried_0 : decode cX0_tried 0 = .ok (.aload_n 0, 1) := dk_42 (dk_at dksX0_tried_0 0 rfl rfl)
theorem dX0_tried_1 : decode cX0_tried 1 = .ok (.getfield 406, 3) := dk_180 1 150 (dk_at dksX0_tried_0 1 rfl rfl)
theorem dX0_tried_4 : decode cX0_tried 4 = .ok (.ifnull 27, 3) := dk_198 0 27 (dk_at dksX0_tried_0 4 rfl rfl)
theorem dX0_tried_7 : decode cX0_tried 7 = .ok (.iload_n 1, 1) := dk_27 (dk_at dksX0_tried_0 7 rfl rfl)
theorem dX0_tried_8 : decode cX0_tried 8 = .ok (.i2l, 1) := dk_133 (dk_at dksX0_tried_0 8 rfl rfl)
theorem dX0_tried_9 : decode cX0_tried 9 = .ok (.lconst 0, 1) := dk_9 (dk_at dksX0_tried_0 9 rfl rfl)
theorem dX0_tried_10 : decode cX0_tried 10 = .ok (.ldc2_w 19, 3) := dk_20 0 19 (dk_at dksX0_tried_0 10 rfl rfl)
theorem dX0_tried_13 : decode cX0_tried 13 = .ok (.invokestatic 21, 3) := dk_184 0 21 (dk_at dksX0_tried_0 13 rfl rfl)
theorem dX0_tried_16 : decode cX0_tried 16 = .ok (.ifCond .eq 15, 3) := dk_153 0 15 (dk_at dksX0_tried_0 16 rfl rfl)
theorem dX0_tried_19 : decode cX0_tried 19 = .ok (.iload_n 2, 1) := dk_28 (dk_at dksX0_tried_0 19 rfl rfl)
theorem dX0_tried_20 : decode cX0_tried 20 = .ok (.i2l, 1) := dk_133 (dk_at dksX0_tried_0 20 rfl rfl)
theorem dX0_tried_21 : decode cX0_tried 21 = .ok (.lconst 0, 1) := dk_9 (dk_at dksX0_tried_0 21 rfl rfl)
theorem dX0_tried_22 : decode cX0_tried 22 = .ok (.ldc2_w 413, 3) := dk_20 1 157 (dk_at dksX0_tried_1 0 rfl rfl)
theorem dX0_tried_25 : decode cX0_tried 25 = .ok (.invokestatic 21, 3) := dk_184 0 21 (dk_at dksX0_tried_1 3 rfl rfl)
theorem dX0_tried_28 : decode cX0_tried 28 = .ok (.ifCond .ne 7, 3) := dk_154 0 7 (dk_at dksX0_tried_1 6 rfl rfl)
theorem dX0_tried_31 : decode cX0_tried 31 = .ok (.ldc_w 258, 3) := dk_19 1 2 (dk_at dksX0_tried_1 9 rfl rfl)
theorem dX0_tried_34 : decode cX0_tried 34 = .ok (.ireturn, 1) := dk_172 (dk_at dksX0_tried_1 12 rfl rfl)
theorem dX0_tried_35 : decode cX0_tried 35 = .ok (.bipush 7, 2) := dk_16 7 (dk_at dksX0_tried_1 13 rfl rfl)
theorem dX0_tried_37 : decode cX0_tried 37 = .ok (.newarray .int, 2) := dk_188_10 (dk_at dksX0_tried_1 15 rfl rfl)
theorem dX0_tried_39 : decode cX0_tried 39 = .ok (.astore_n 3, 1) := dk_78 (dk_at dksX0_tried_1 17 rfl rfl)
theorem dX0_tried_40 : decode cX0_tried 40 = .ok (.iconst 0, 1) := dk_3 (dk_at dksX0_tried_1 18 rfl rfl)
theorem dX0_tried_41 : decode cX0_tried 41 = .ok (.istore 4, 2) := dk_54 4 (dk_at dksX0_tried_1 19 rfl rfl)
theorem dX0_tried_43 : decode cX0_tried 43 = .ok (.iload 4, 2) := dk_21 4 (dk_at dksX0_tried_1 21 rfl rfl)
theorem dX0_tried_45 : decode cX0_tried 45 = .ok (.bipush 6, 2) := dk_16 6 (dk_at dksX0_tried_2 0 rfl rfl)
theorem dX0_tried_47 : decode cX0_tried 47 = .ok (.if_icmp .ge 32, 3) := dk_162 0 32 (dk_at dksX0_tried_2 2 rfl rfl)
theorem dX0_tried_50 : decode cX0_tried 50 = .ok (.aload_n 3, 1) := dk_45 (dk_at dksX0_tried_2 5 rfl rfl)
theorem dX0_tried_51 : decode cX0_tried 51 = .ok (.iload 4, 2) := dk_21 4 (dk_at dksX0_tried_2 6 rfl rfl)
theorem dX0_tried_53 : decode cX0_tried 53 = .ok (.aload_n 0, 1) := dk_42 (dk_at dksX0_tried_2 8 rfl rfl)
theorem dX0_tried_54 : decode cX0_tried 54 = .ok (.getfield 249, 3) := dk_180 0 249 (dk_at dksX0_tried_2 9 rfl rfl)
theorem dX0_tried_57 : decode cX0_tried 57 = .ok (.iload 4, 2) := dk_21 4 (dk_at dksX0_tried_2 12 rfl rfl)
theorem dX0_tried_59 : decode cX0_tried 59 = .ok (.ishr, 1) := dk_122 (dk_at dksX0_tried_2 14 rfl rfl)
theorem dX0_tried_60 : decode cX0_tried 60 = .ok (.iconst 1, 1) := dk_4 (dk_at dksX0_tried_2 15 rfl rfl)
theorem dX0_tried_61 : decode cX0_tried 61 = .ok (.iand, 1) := dk_126 (dk_at dksX0_tried_2 16 rfl rfl)
theorem dX0_tried_62 : decode cX0_tried 62 = .ok (.iconst 1, 1) := dk_4 (dk_at dksX0_tried_2 17 rfl rfl)
theorem dX0_tried_63 : decode cX0_tried 63 = .ok (.if_icmp .ne 8, 3) := dk_160 0 8 (dk_at dksX0_tried_2 18 rfl rfl)
theorem dX0_tried_66 : decode cX0_tried 66 = .ok (.iload_n 1, 1) := dk_27 (dk_at dksX0_tried_2 21 rfl rfl)
theorem dX0_tried_67 : decode cX0_tried 67 = .ok (.ineg, 1) := dk_116 (dk_at dksX0_tried_2 22 rfl rfl)
theorem dX0_tried_68 : decode cX0_tried 68 = .ok (.goto 4, 3) := dk_167 0 4 (dk_at dksX0_tried_3 0 rfl rfl)
theorem dX0_tried_71 : decode cX0_tried 71 = .ok (.iconst 0, 1) := dk_3 (dk_at dksX0_tried_3 3 rfl rfl)
theorem dX0_tried_72 : decode cX0_tried 72 = .ok (.iastore, 1) := dk_79 (dk_at dksX0_tried_3 4 rfl rfl)
theorem dX0_tried_73 : decode cX0_tried 73 = .ok (.iinc 4 1, 3) := dk_132 4 1 (dk_at dksX0_tried_3 5 rfl rfl)
theorem dX0_tried_76 : decode cX0_tried 76 = .ok (.goto (-33), 3) := dk_167 255 223 (dk_at dksX0_tried_3 8 rfl rfl)
theorem dX0_tried_79 : decode cX0_tried 79 = .ok (.iconst 0, 1) := dk_3 (dk_at dksX0_tried_3 11 rfl rfl)
theorem dX0_tried_80 : decode cX0_tried 80 = .ok (.istore 4, 2) := dk_54 4 (dk_at dksX0_tried_3 12 rfl rfl)
theorem dX0_tried_82 : decode cX0_tried 82 = .ok (.aload_n 0, 1) := dk_42 (dk_at dksX0_tried_3 14 rfl rfl)
theorem dX0_tried_83 : decode cX0_tried 83 = .ok (.aload_n 3, 1) := dk_45 (dk_at dksX0_tried_3 15 rfl rfl)
theorem dX0_tried_84 : decode cX0_tried 84 = .ok (.invokevirtual 415, 3) := dk_182 1 159 (dk_at dksX0_tried_3 16 rfl rfl)
theorem dX0_tried_87 : decode cX0_tried 87 = .ok (.ifCond .ne 6, 3) := dk_154 0 6 (dk_at dksX0_tried_3 19 rfl rfl)
theorem dX0_tried_90 : decode cX0_tried 90 = .ok (.goto 38, 3) := dk_167 0 38 (dk_at dksX0_tried_4 0 rfl rfl)
theorem dX0_tried_93 : decode cX0_tried 93 = .ok (.iload_n 2, 1) := dk_28 (dk_at dksX0_tried_4 3 rfl rfl)
theorem dX0_tried_94 : decode cX0_tried 94 = .ok (.ifCond .le 31, 3) := dk_158 0 31 (dk_at dksX0_tried_4 4 rfl rfl)
theorem dX0_tried_97 : decode cX0_tried 97 = .ok (.iload_n 2, 1) := dk_28 (dk_at dksX0_tried_4 7 rfl rfl)
theorem dX0_tried_98 : decode cX0_tried 98 = .ok (.bipush 7, 2) := dk_16 7 (dk_at dksX0_tried_4 8 rfl rfl)
theorem dX0_tried_100 : decode cX0_tried 100 = .ok (.if_icmp .ge 11, 3) := dk_162 0 11 (dk_at dksX0_tried_4 10 rfl rfl)
theorem dX0_tried_103 : decode cX0_tried 103 = .ok (.aload_n 3, 1) := dk_45 (dk_at dksX0_tried_4 13 rfl rfl)
theorem dX0_tried_104 : decode cX0_tried 104 = .ok (.iload_n 2, 1) := dk_28 (dk_at dksX0_tried_4 14 rfl rfl)
theorem dX0_tried_105 : decode cX0_tried 105 = .ok (.iconst 1, 1) := dk_4 (dk_at dksX0_tried_4 15 rfl rfl)
theorem dX0_tried_106 : decode cX0_tried 106 = .ok (.isub, 1) := dk_100 (dk_at dksX0_tried_4 16 rfl rfl)
theorem dX0_tried_107 : decode cX0_tried 107 = .ok (.iaload, 1) := dk_46 (dk_at dksX0_tried_4 17 rfl rfl)
theorem dX0_tried_108 : decode cX0_tried 108 = .ok (.goto 16, 3) := dk_167 0 16 (dk_at dksX0_tried_4 18 rfl rfl)
theorem dX0_tried_111 : decode cX0_tried 111 = .ok (.aload_n 0, 1) := dk_42 (dk_at dksX0_tried_4 21 rfl rfl)
theorem dX0_tried_112 : decode cX0_tried 112 = .ok (.aload_n 3, 1) := dk_45 (dk_at dksX0_tried_4 22 rfl rfl)
theorem dX0_tried_113 : decode cX0_tried 113 = .ok (.invokevirtual 419, 3) := dk_182 1 163 (dk_at dksX0_tried_5 0 rfl rfl)
theorem dX0_tried_116 : decode cX0_tried 116 = .ok (.ifCond .eq 7, 3) := dk_153 0 7 (dk_at dksX0_tried_5 3 rfl rfl)
theorem dX0_tried_119 : decode cX0_tried 119 = .ok (.iconst 1, 1) := dk_4 (dk_at dksX0_tried_5 6 rfl rfl)
theorem dX0_tried_120 : decode cX0_tried 120 = .ok (.goto 4, 3) := dk_167 0 4 (dk_at dksX0_tried_5 7 rfl rfl)
theorem dX0_tried_123 : decode cX0_tried 123 = .ok (.iconst 0, 1) := dk_3 (dk_at dksX0_tried_5 10 rfl rfl)
theorem dX0_tried_124 : decode cX0_tried 124 = .ok (.ireturn, 1) := dk_172 (dk_at dksX0_tried_5 11 rfl rfl)
theorem dX0_tried_125 : decode cX0_tried 125 = .ok (.iinc 4 1, 3) := dk_132 4 1 (dk_at dksX0_tried_5 12 rfl rfl)
theorem dX0_tried_128 : decode cX0_tried 128 = .ok (.aload_n 0, 1) := dk_42 (dk_at dksX0_tried_5 15 rfl rfl)
theorem dX0_tried_129 : decode cX0_tried 129 = .ok (.aload_n 3, 1) := dk_45 (dk_at dksX0_tried_5 16 rfl rfl)
theorem dX0_tried_130 : decode cX0_tried 130 = .ok (.iload_n 1, 1) := dk_27 (dk_at dksX0_tried_5 17 rfl rfl)
theorem dX0_tried_131 : decode cX0_tried 131 = .ok (.invokevirtual 422, 3) := dk_182 1 166 (dk_at dksX0_tried_5 18 rfl rfl)
theorem dX0_tried_134 : decode cX0_tried 134 = .ok (.ifCond .ne (-52), 3) := dk_154 255 204 (dk_at dksX0_tried_5 21 rfl rfl)
theorem dX0_tried_137 : decode cX0_tried 137 = .ok (.iload_n 2, 1) := dk_28 (dk_at dksX0_tried_6 0 rfl rfl)
theorem dX0_tried_138 : decode cX0_tried 138 = .ok (.ifCond .ne 8, 3) := dk_154 0 8 (dk_at dksX0_tried_6 1 rfl rfl)
theorem dX0_tried_141 : decode cX0_tried 141 = .ok (.iload 4, 2) := dk_21 4 (dk_at dksX0_tried_6 4 rfl rfl)
theorem dX0_tried_143 : decode cX0_tried 143 = .ok (.goto 6, 3) := dk_167 0 6 (dk_at dksX0_tried_6 6 rfl rfl)
theorem dX0_tried_146 : decode cX0_tried 146 = .ok (.ldc_w 258, 3) := dk_19 1 2 (dk_at dksX0_tried_6 9 rfl rfl)
theorem dX0_tried_149 : decode cX0_tried 149 = .ok (.ireturn, 1) := dk_172 (dk_at dksX0_tried_6 12 rfl rfl)
abbrev cX0_isBroken : ByteArray := prog_1_method_58_code
def yX0_isBroken : MethodName := ⟨RX0, "isBroken", "([I)Z"⟩
def dkwX0_isBroken_2 : List UInt8 := [167, 0, 4, 3, 172]
abbrev dktX0_isBroken_2 : List UInt8 := dkwX0_isBroken_2 ++ []
def dkwX0_isBroken_1 : List UInt8 := [153, 0, 7, 4, 167, 0, 4, 3, 61, 28, 154, 0, 11, 43, 16, 6, 46, 4, 160, 0, 7, 4]
abbrev dktX0_isBroken_1 : List UInt8 := dkwX0_isBroken_1 ++ dktX0_isBroken_2
def dkwX0_isBroken_0 : List UInt8 := [43, 16, 6, 3, 79, 42, 180, 1, 150, 43, 182, 1, 144, 42, 180, 1, 154, 43, 182, 1, 144, 148]
abbrev dktX0_isBroken_0 : List UInt8 := dkwX0_isBroken_0 ++ dktX0_isBroken_1
theorem dksX0_isBroken_0 : cX0_isBroken.data.toList.drop 0 = dktX0_isBroken_0 := by decide +kernel
theorem dksX0_isBroken_1 : cX0_isBroken.data.toList.drop 22 = dktX0_isBroken_1 := dk_seg dksX0_isBroken_0 22 rfl rfl
theorem dksX0_isBroken_2 : cX0_isBroken.data.toList.drop 44 = dktX0_isBroken_2 := dk_seg dksX0_isBroken_1 22 rfl rfl
theorem dX0_isBroken_0 : decode cX0_isBroken 0 = .ok (.aload_n 1, 1) := dk_43 (dk_at dksX0_isBroken_0 0 rfl rfl)
theorem dX0_isBroken_1 : decode cX0_isBroken 1 = .ok (.bipush 6, 2) := dk_16 6 (dk_at dksX0_isBroken_0 1 rfl rfl)
theorem dX0_isBroken_3 : decode cX0_isBroken 3 = .ok (.iconst 0, 1) := dk_3 (dk_at dksX0_isBroken_0 3 rfl rfl)
theorem dX0_isBroken_4 : decode cX0_isBroken 4 = .ok (.iastore, 1) := dk_79 (dk_at dksX0_isBroken_0 4 rfl rfl)
theorem dX0_isBroken_5 : decode cX0_isBroken 5 = .ok (.aload_n 0, 1) := dk_42 (dk_at dksX0_isBroken_0 5 rfl rfl)
theorem dX0_isBroken_6 : decode cX0_isBroken 6 = .ok (.getfield 406, 3) := dk_180 1 150 (dk_at dksX0_isBroken_0 6 rfl rfl)
theorem dX0_isBroken_9 : decode cX0_isBroken 9 = .ok (.aload_n 1, 1) := dk_43 (dk_at dksX0_isBroken_0 9 rfl rfl)
theorem dX0_isBroken_10 : decode cX0_isBroken 10 = .ok (.invokevirtual 400, 3) := dk_182 1 144 (dk_at dksX0_isBroken_0 10 rfl rfl)
theorem dX0_isBroken_13 : decode cX0_isBroken 13 = .ok (.aload_n 0, 1) := dk_42 (dk_at dksX0_isBroken_0 13 rfl rfl)
theorem dX0_isBroken_14 : decode cX0_isBroken 14 = .ok (.getfield 410, 3) := dk_180 1 154 (dk_at dksX0_isBroken_0 14 rfl rfl)
theorem dX0_isBroken_17 : decode cX0_isBroken 17 = .ok (.aload_n 1, 1) := dk_43 (dk_at dksX0_isBroken_0 17 rfl rfl)
theorem dX0_isBroken_18 : decode cX0_isBroken 18 = .ok (.invokevirtual 400, 3) := dk_182 1 144 (dk_at dksX0_isBroken_0 18 rfl rfl)
theorem dX0_isBroken_21 : decode cX0_isBroken 21 = .ok (.lcmp, 1) := dk_148 (dk_at dksX0_isBroken_0 21 rfl rfl)
theorem dX0_isBroken_22 : decode cX0_isBroken 22 = .ok (.ifCond .eq 7, 3) := dk_153 0 7 (dk_at dksX0_isBroken_1 0 rfl rfl)
theorem dX0_isBroken_25 : decode cX0_isBroken 25 = .ok (.iconst 1, 1) := dk_4 (dk_at dksX0_isBroken_1 3 rfl rfl)
theorem dX0_isBroken_26 : decode cX0_isBroken 26 = .ok (.goto 4, 3) := dk_167 0 4 (dk_at dksX0_isBroken_1 4 rfl rfl)
theorem dX0_isBroken_29 : decode cX0_isBroken 29 = .ok (.iconst 0, 1) := dk_3 (dk_at dksX0_isBroken_1 7 rfl rfl)
theorem dX0_isBroken_30 : decode cX0_isBroken 30 = .ok (.istore_n 2, 1) := dk_61 (dk_at dksX0_isBroken_1 8 rfl rfl)
theorem dX0_isBroken_31 : decode cX0_isBroken 31 = .ok (.iload_n 2, 1) := dk_28 (dk_at dksX0_isBroken_1 9 rfl rfl)
theorem dX0_isBroken_32 : decode cX0_isBroken 32 = .ok (.ifCond .ne 11, 3) := dk_154 0 11 (dk_at dksX0_isBroken_1 10 rfl rfl)
theorem dX0_isBroken_35 : decode cX0_isBroken 35 = .ok (.aload_n 1, 1) := dk_43 (dk_at dksX0_isBroken_1 13 rfl rfl)
theorem dX0_isBroken_36 : decode cX0_isBroken 36 = .ok (.bipush 6, 2) := dk_16 6 (dk_at dksX0_isBroken_1 14 rfl rfl)
theorem dX0_isBroken_38 : decode cX0_isBroken 38 = .ok (.iaload, 1) := dk_46 (dk_at dksX0_isBroken_1 16 rfl rfl)
theorem dX0_isBroken_39 : decode cX0_isBroken 39 = .ok (.iconst 1, 1) := dk_4 (dk_at dksX0_isBroken_1 17 rfl rfl)
theorem dX0_isBroken_40 : decode cX0_isBroken 40 = .ok (.if_icmp .ne 7, 3) := dk_160 0 7 (dk_at dksX0_isBroken_1 18 rfl rfl)
theorem dX0_isBroken_43 : decode cX0_isBroken 43 = .ok (.iconst 1, 1) := dk_4 (dk_at dksX0_isBroken_1 21 rfl rfl)
theorem dX0_isBroken_44 : decode cX0_isBroken 44 = .ok (.goto 4, 3) := dk_167 0 4 (dk_at dksX0_isBroken_2 0 rfl rfl)
theorem dX0_isBroken_47 : decode cX0_isBroken 47 = .ok (.iconst 0, 1) := dk_3 (dk_at dksX0_isBroken_2 3 rfl rfl)
theorem dX0_isBroken_48 : decode cX0_isBroken 48 = .ok (.ireturn, 1) := dk_172 (dk_at dksX0_isBroken_2 4 rfl rfl)
abbrev cX0_product : ByteArray := prog_1_method_12_code
def yX0_product : MethodName := ⟨RX0, "product", "(JJ[I)J"⟩
def dkwX0_product_1 : List UInt8 := [22, 5, 173]
abbrev dktX0_product_1 : List UInt8 := dkwX0_product_1 ++ []
def dkwX0_product_0 : List UInt8 := [30, 32, 105, 55, 5, 16, 42, 30, 32, 22, 5, 184, 0, 101, 153, 0, 9, 25, 4, 16, 6, 4, 79]
abbrev dktX0_product_0 : List UInt8 := dkwX0_product_0 ++ dktX0_product_1
theorem dksX0_product_0 : cX0_product.data.toList.drop 0 = dktX0_product_0 := by decide +kernel
theorem dksX0_product_1 : cX0_product.data.toList.drop 23 = dktX0_product_1 := dk_seg dksX0_product_0 23 rfl rfl
theorem dX0_product_0 : decode cX0_product 0 = .ok (.lload_n 0, 1) := dk_30 (dk_at dksX0_product_0 0 rfl rfl)
theorem dX0_product_1 : decode cX0_product 1 = .ok (.lload_n 2, 1) := dk_32 (dk_at dksX0_product_0 1 rfl rfl)
theorem dX0_product_2 : decode cX0_product 2 = .ok (.lmul, 1) := dk_105 (dk_at dksX0_product_0 2 rfl rfl)
theorem dX0_product_3 : decode cX0_product 3 = .ok (.lstore 5, 2) := dk_55 5 (dk_at dksX0_product_0 3 rfl rfl)
theorem dX0_product_5 : decode cX0_product 5 = .ok (.bipush 42, 2) := dk_16 42 (dk_at dksX0_product_0 5 rfl rfl)
theorem dX0_product_7 : decode cX0_product 7 = .ok (.lload_n 0, 1) := dk_30 (dk_at dksX0_product_0 7 rfl rfl)
theorem dX0_product_8 : decode cX0_product 8 = .ok (.lload_n 2, 1) := dk_32 (dk_at dksX0_product_0 8 rfl rfl)
theorem dX0_product_9 : decode cX0_product 9 = .ok (.lload 5, 2) := dk_22 5 (dk_at dksX0_product_0 9 rfl rfl)
theorem dX0_product_11 : decode cX0_product 11 = .ok (.invokestatic 101, 3) := dk_184 0 101 (dk_at dksX0_product_0 11 rfl rfl)
theorem dX0_product_14 : decode cX0_product 14 = .ok (.ifCond .eq 9, 3) := dk_153 0 9 (dk_at dksX0_product_0 14 rfl rfl)
theorem dX0_product_17 : decode cX0_product 17 = .ok (.aload 4, 2) := dk_25 4 (dk_at dksX0_product_0 17 rfl rfl)
theorem dX0_product_19 : decode cX0_product 19 = .ok (.bipush 6, 2) := dk_16 6 (dk_at dksX0_product_0 19 rfl rfl)
theorem dX0_product_21 : decode cX0_product 21 = .ok (.iconst 1, 1) := dk_4 (dk_at dksX0_product_0 21 rfl rfl)
theorem dX0_product_22 : decode cX0_product 22 = .ok (.iastore, 1) := dk_79 (dk_at dksX0_product_0 22 rfl rfl)
theorem dX0_product_23 : decode cX0_product 23 = .ok (.lload 5, 2) := dk_22 5 (dk_at dksX0_product_1 0 rfl rfl)
theorem dX0_product_25 : decode cX0_product 25 = .ok (.lreturn, 1) := dk_173 (dk_at dksX0_product_1 2 rfl rfl)
abbrev cX0_goesRound : ByteArray := prog_1_method_11_code
def yX0_goesRound : MethodName := ⟨RX0, "goesRound", "(IJJJ)Z"⟩
def dkwX0_goesRound_3 : List UInt8 := [148, 154, 0, 15, 33, 20, 0, 99, 148, 154, 0, 7, 4, 167, 0, 4, 3, 172]
abbrev dktX0_goesRound_3 : List UInt8 := dkwX0_goesRound_3 ++ []
def dkwX0_goesRound_2 : List UInt8 := [167, 0, 4, 3, 172, 31, 9, 148, 153, 0, 32, 22, 5, 31, 109, 33, 148, 154, 0, 19, 31, 20, 0, 97]
abbrev dktX0_goesRound_2 : List UInt8 := dkwX0_goesRound_2 ++ dktX0_goesRound_3
def dkwX0_goesRound_1 : List UInt8 := [3, 172, 26, 16, 45, 160, 0, 22, 31, 33, 131, 31, 22, 5, 131, 127, 9, 148, 156, 0, 7, 4]
abbrev dktX0_goesRound_1 : List UInt8 := dkwX0_goesRound_1 ++ dktX0_goesRound_2
def dkwX0_goesRound_0 : List UInt8 := [26, 16, 43, 160, 0, 23, 31, 22, 5, 131, 33, 22, 5, 131, 127, 9, 148, 156, 0, 7, 4, 167, 0, 4]
abbrev dktX0_goesRound_0 : List UInt8 := dkwX0_goesRound_0 ++ dktX0_goesRound_1
theorem dksX0_goesRound_0 : cX0_goesRound.data.toList.drop 0 = dktX0_goesRound_0 := by decide +kernel
theorem dksX0_goesRound_1 : cX0_goesRound.data.toList.drop 24 = dktX0_goesRound_1 := dk_seg dksX0_goesRound_0 24 rfl rfl
theorem dksX0_goesRound_2 : cX0_goesRound.data.toList.drop 46 = dktX0_goesRound_2 := dk_seg dksX0_goesRound_1 22 rfl rfl
theorem dksX0_goesRound_3 : cX0_goesRound.data.toList.drop 70 = dktX0_goesRound_3 := dk_seg dksX0_goesRound_2 24 rfl rfl
theorem dX0_goesRound_0 : decode cX0_goesRound 0 = .ok (.iload_n 0, 1) := dk_26 (dk_at dksX0_goesRound_0 0 rfl rfl)
theorem dX0_goesRound_1 : decode cX0_goesRound 1 = .ok (.bipush 43, 2) := dk_16 43 (dk_at dksX0_goesRound_0 1 rfl rfl)
theorem dX0_goesRound_3 : decode cX0_goesRound 3 = .ok (.if_icmp .ne 23, 3) := dk_160 0 23 (dk_at dksX0_goesRound_0 3 rfl rfl)
theorem dX0_goesRound_6 : decode cX0_goesRound 6 = .ok (.lload_n 1, 1) := dk_31 (dk_at dksX0_goesRound_0 6 rfl rfl)
theorem dX0_goesRound_7 : decode cX0_goesRound 7 = .ok (.lload 5, 2) := dk_22 5 (dk_at dksX0_goesRound_0 7 rfl rfl)
theorem dX0_goesRound_9 : decode cX0_goesRound 9 = .ok (.lxor, 1) := dk_131 (dk_at dksX0_goesRound_0 9 rfl rfl)
theorem dX0_goesRound_10 : decode cX0_goesRound 10 = .ok (.lload_n 3, 1) := dk_33 (dk_at dksX0_goesRound_0 10 rfl rfl)
theorem dX0_goesRound_11 : decode cX0_goesRound 11 = .ok (.lload 5, 2) := dk_22 5 (dk_at dksX0_goesRound_0 11 rfl rfl)
theorem dX0_goesRound_13 : decode cX0_goesRound 13 = .ok (.lxor, 1) := dk_131 (dk_at dksX0_goesRound_0 13 rfl rfl)
theorem dX0_goesRound_14 : decode cX0_goesRound 14 = .ok (.land, 1) := dk_127 (dk_at dksX0_goesRound_0 14 rfl rfl)
theorem dX0_goesRound_15 : decode cX0_goesRound 15 = .ok (.lconst 0, 1) := dk_9 (dk_at dksX0_goesRound_0 15 rfl rfl)
theorem dX0_goesRound_16 : decode cX0_goesRound 16 = .ok (.lcmp, 1) := dk_148 (dk_at dksX0_goesRound_0 16 rfl rfl)
theorem dX0_goesRound_17 : decode cX0_goesRound 17 = .ok (.ifCond .ge 7, 3) := dk_156 0 7 (dk_at dksX0_goesRound_0 17 rfl rfl)
theorem dX0_goesRound_20 : decode cX0_goesRound 20 = .ok (.iconst 1, 1) := dk_4 (dk_at dksX0_goesRound_0 20 rfl rfl)
theorem dX0_goesRound_21 : decode cX0_goesRound 21 = .ok (.goto 4, 3) := dk_167 0 4 (dk_at dksX0_goesRound_0 21 rfl rfl)
theorem dX0_goesRound_24 : decode cX0_goesRound 24 = .ok (.iconst 0, 1) := dk_3 (dk_at dksX0_goesRound_1 0 rfl rfl)
theorem dX0_goesRound_25 : decode cX0_goesRound 25 = .ok (.ireturn, 1) := dk_172 (dk_at dksX0_goesRound_1 1 rfl rfl)
theorem dX0_goesRound_26 : decode cX0_goesRound 26 = .ok (.iload_n 0, 1) := dk_26 (dk_at dksX0_goesRound_1 2 rfl rfl)
theorem dX0_goesRound_27 : decode cX0_goesRound 27 = .ok (.bipush 45, 2) := dk_16 45 (dk_at dksX0_goesRound_1 3 rfl rfl)
theorem dX0_goesRound_29 : decode cX0_goesRound 29 = .ok (.if_icmp .ne 22, 3) := dk_160 0 22 (dk_at dksX0_goesRound_1 5 rfl rfl)
theorem dX0_goesRound_32 : decode cX0_goesRound 32 = .ok (.lload_n 1, 1) := dk_31 (dk_at dksX0_goesRound_1 8 rfl rfl)
theorem dX0_goesRound_33 : decode cX0_goesRound 33 = .ok (.lload_n 3, 1) := dk_33 (dk_at dksX0_goesRound_1 9 rfl rfl)
theorem dX0_goesRound_34 : decode cX0_goesRound 34 = .ok (.lxor, 1) := dk_131 (dk_at dksX0_goesRound_1 10 rfl rfl)
theorem dX0_goesRound_35 : decode cX0_goesRound 35 = .ok (.lload_n 1, 1) := dk_31 (dk_at dksX0_goesRound_1 11 rfl rfl)
theorem dX0_goesRound_36 : decode cX0_goesRound 36 = .ok (.lload 5, 2) := dk_22 5 (dk_at dksX0_goesRound_1 12 rfl rfl)
theorem dX0_goesRound_38 : decode cX0_goesRound 38 = .ok (.lxor, 1) := dk_131 (dk_at dksX0_goesRound_1 14 rfl rfl)
theorem dX0_goesRound_39 : decode cX0_goesRound 39 = .ok (.land, 1) := dk_127 (dk_at dksX0_goesRound_1 15 rfl rfl)
theorem dX0_goesRound_40 : decode cX0_goesRound 40 = .ok (.lconst 0, 1) := dk_9 (dk_at dksX0_goesRound_1 16 rfl rfl)
theorem dX0_goesRound_41 : decode cX0_goesRound 41 = .ok (.lcmp, 1) := dk_148 (dk_at dksX0_goesRound_1 17 rfl rfl)
theorem dX0_goesRound_42 : decode cX0_goesRound 42 = .ok (.ifCond .ge 7, 3) := dk_156 0 7 (dk_at dksX0_goesRound_1 18 rfl rfl)
theorem dX0_goesRound_45 : decode cX0_goesRound 45 = .ok (.iconst 1, 1) := dk_4 (dk_at dksX0_goesRound_1 21 rfl rfl)
theorem dX0_goesRound_46 : decode cX0_goesRound 46 = .ok (.goto 4, 3) := dk_167 0 4 (dk_at dksX0_goesRound_2 0 rfl rfl)
theorem dX0_goesRound_49 : decode cX0_goesRound 49 = .ok (.iconst 0, 1) := dk_3 (dk_at dksX0_goesRound_2 3 rfl rfl)
theorem dX0_goesRound_50 : decode cX0_goesRound 50 = .ok (.ireturn, 1) := dk_172 (dk_at dksX0_goesRound_2 4 rfl rfl)
theorem dX0_goesRound_51 : decode cX0_goesRound 51 = .ok (.lload_n 1, 1) := dk_31 (dk_at dksX0_goesRound_2 5 rfl rfl)
theorem dX0_goesRound_52 : decode cX0_goesRound 52 = .ok (.lconst 0, 1) := dk_9 (dk_at dksX0_goesRound_2 6 rfl rfl)
theorem dX0_goesRound_53 : decode cX0_goesRound 53 = .ok (.lcmp, 1) := dk_148 (dk_at dksX0_goesRound_2 7 rfl rfl)
theorem dX0_goesRound_54 : decode cX0_goesRound 54 = .ok (.ifCond .eq 32, 3) := dk_153 0 32 (dk_at dksX0_goesRound_2 8 rfl rfl)
theorem dX0_goesRound_57 : decode cX0_goesRound 57 = .ok (.lload 5, 2) := dk_22 5 (dk_at dksX0_goesRound_2 11 rfl rfl)
theorem dX0_goesRound_59 : decode cX0_goesRound 59 = .ok (.lload_n 1, 1) := dk_31 (dk_at dksX0_goesRound_2 13 rfl rfl)
theorem dX0_goesRound_60 : decode cX0_goesRound 60 = .ok (.ldiv, 1) := dk_109 (dk_at dksX0_goesRound_2 14 rfl rfl)
theorem dX0_goesRound_61 : decode cX0_goesRound 61 = .ok (.lload_n 3, 1) := dk_33 (dk_at dksX0_goesRound_2 15 rfl rfl)
theorem dX0_goesRound_62 : decode cX0_goesRound 62 = .ok (.lcmp, 1) := dk_148 (dk_at dksX0_goesRound_2 16 rfl rfl)
theorem dX0_goesRound_63 : decode cX0_goesRound 63 = .ok (.ifCond .ne 19, 3) := dk_154 0 19 (dk_at dksX0_goesRound_2 17 rfl rfl)
theorem dX0_goesRound_66 : decode cX0_goesRound 66 = .ok (.lload_n 1, 1) := dk_31 (dk_at dksX0_goesRound_2 20 rfl rfl)
theorem dX0_goesRound_67 : decode cX0_goesRound 67 = .ok (.ldc2_w 97, 3) := dk_20 0 97 (dk_at dksX0_goesRound_2 21 rfl rfl)
theorem dX0_goesRound_70 : decode cX0_goesRound 70 = .ok (.lcmp, 1) := dk_148 (dk_at dksX0_goesRound_3 0 rfl rfl)
theorem dX0_goesRound_71 : decode cX0_goesRound 71 = .ok (.ifCond .ne 15, 3) := dk_154 0 15 (dk_at dksX0_goesRound_3 1 rfl rfl)
theorem dX0_goesRound_74 : decode cX0_goesRound 74 = .ok (.lload_n 3, 1) := dk_33 (dk_at dksX0_goesRound_3 4 rfl rfl)
theorem dX0_goesRound_75 : decode cX0_goesRound 75 = .ok (.ldc2_w 99, 3) := dk_20 0 99 (dk_at dksX0_goesRound_3 5 rfl rfl)
theorem dX0_goesRound_78 : decode cX0_goesRound 78 = .ok (.lcmp, 1) := dk_148 (dk_at dksX0_goesRound_3 8 rfl rfl)
theorem dX0_goesRound_79 : decode cX0_goesRound 79 = .ok (.ifCond .ne 7, 3) := dk_154 0 7 (dk_at dksX0_goesRound_3 9 rfl rfl)
theorem dX0_goesRound_82 : decode cX0_goesRound 82 = .ok (.iconst 1, 1) := dk_4 (dk_at dksX0_goesRound_3 12 rfl rfl)
theorem dX0_goesRound_83 : decode cX0_goesRound 83 = .ok (.goto 4, 3) := dk_167 0 4 (dk_at dksX0_goesRound_3 13 rfl rfl)
theorem dX0_goesRound_86 : decode cX0_goesRound 86 = .ok (.iconst 0, 1) := dk_3 (dk_at dksX0_goesRound_3 16 rfl rfl)
theorem dX0_goesRound_87 : decode cX0_goesRound 87 = .ok (.ireturn, 1) := dk_172 (dk_at dksX0_goesRound_3 17 rfl rfl)
abbrev cX0_isBeyond : ByteArray := prog_1_method_61_code
def yX0_isBeyond : MethodName := ⟨RX0, "isBeyond", "([I)Z"⟩
def dkwX0_isBeyond_0 : List UInt8 := [42, 43, 182, 1, 159, 61, 43, 16, 6, 46, 4, 160, 0, 7, 4, 167, 0, 4, 3, 172]
abbrev dktX0_isBeyond_0 : List UInt8 := dkwX0_isBeyond_0 ++ []
theorem dksX0_isBeyond_0 : cX0_isBeyond.data.toList.drop 0 = dktX0_isBeyond_0 := by decide +kernel
theorem dX0_isBeyond_0 : decode cX0_isBeyond 0 = .ok (.aload_n 0, 1) := dk_42 (dk_at dksX0_isBeyond_0 0 rfl rfl)
theorem dX0_isBeyond_1 : decode cX0_isBeyond 1 = .ok (.aload_n 1, 1) := dk_43 (dk_at dksX0_isBeyond_0 1 rfl rfl)
theorem dX0_isBeyond_2 : decode cX0_isBeyond 2 = .ok (.invokevirtual 415, 3) := dk_182 1 159 (dk_at dksX0_isBeyond_0 2 rfl rfl)
theorem dX0_isBeyond_5 : decode cX0_isBeyond 5 = .ok (.istore_n 2, 1) := dk_61 (dk_at dksX0_isBeyond_0 5 rfl rfl)
theorem dX0_isBeyond_6 : decode cX0_isBeyond 6 = .ok (.aload_n 1, 1) := dk_43 (dk_at dksX0_isBeyond_0 6 rfl rfl)
theorem dX0_isBeyond_7 : decode cX0_isBeyond 7 = .ok (.bipush 6, 2) := dk_16 6 (dk_at dksX0_isBeyond_0 7 rfl rfl)
theorem dX0_isBeyond_9 : decode cX0_isBeyond 9 = .ok (.iaload, 1) := dk_46 (dk_at dksX0_isBeyond_0 9 rfl rfl)
theorem dX0_isBeyond_10 : decode cX0_isBeyond 10 = .ok (.iconst 1, 1) := dk_4 (dk_at dksX0_isBeyond_0 10 rfl rfl)
theorem dX0_isBeyond_11 : decode cX0_isBeyond 11 = .ok (.if_icmp .ne 7, 3) := dk_160 0 7 (dk_at dksX0_isBeyond_0 11 rfl rfl)
theorem dX0_isBeyond_14 : decode cX0_isBeyond 14 = .ok (.iconst 1, 1) := dk_4 (dk_at dksX0_isBeyond_0 14 rfl rfl)
theorem dX0_isBeyond_15 : decode cX0_isBeyond 15 = .ok (.goto 4, 3) := dk_167 0 4 (dk_at dksX0_isBeyond_0 15 rfl rfl)
theorem dX0_isBeyond_18 : decode cX0_isBeyond 18 = .ok (.iconst 0, 1) := dk_3 (dk_at dksX0_isBeyond_0 18 rfl rfl)
theorem dX0_isBeyond_19 : decode cX0_isBeyond 19 = .ok (.ireturn, 1) := dk_172 (dk_at dksX0_isBeyond_0 19 rfl rfl)
abbrev cX0_goesOn : ByteArray := prog_1_method_59_code
def yX0_goesOn : MethodName := ⟨RX0, "goesOn", "([II)Z"⟩
def dkwX0_goesOn_2 : List UInt8 := [172]
abbrev dktX0_goesOn_2 : List UInt8 := dkwX0_goesOn_2 ++ []
def dkwX0_goesOn_1 : List UInt8 := [162, 0, 12, 43, 29, 92, 46, 4, 96, 79, 4, 172, 43, 29, 28, 116, 79, 132, 3, 255, 167, 255, 214, 3]
abbrev dktX0_goesOn_1 : List UInt8 := dkwX0_goesOn_1 ++ dktX0_goesOn_2
def dkwX0_goesOn_0 : List UInt8 := [8, 62, 29, 155, 0, 44, 42, 180, 0, 249, 29, 122, 4, 126, 154, 0, 6, 167, 0, 24, 43, 29, 46, 28]
abbrev dktX0_goesOn_0 : List UInt8 := dkwX0_goesOn_0 ++ dktX0_goesOn_1
theorem dksX0_goesOn_0 : cX0_goesOn.data.toList.drop 0 = dktX0_goesOn_0 := by decide +kernel
theorem dksX0_goesOn_1 : cX0_goesOn.data.toList.drop 24 = dktX0_goesOn_1 := dk_seg dksX0_goesOn_0 24 rfl rfl
theorem dksX0_goesOn_2 : cX0_goesOn.data.toList.drop 48 = dktX0_goesOn_2 := dk_seg dksX0_goesOn_1 24 rfl rfl
theorem dX0_goesOn_0 : decode cX0_goesOn 0 = .ok (.iconst 5, 1) := dk_8 (dk_at dksX0_goesOn_0 0 rfl rfl)
theorem dX0_goesOn_1 : decode cX0_goesOn 1 = .ok (.istore_n 3, 1) := dk_62 (dk_at dksX0_goesOn_0 1 rfl rfl)
theorem dX0_goesOn_2 : decode cX0_goesOn 2 = .ok (.iload_n 3, 1) := dk_29 (dk_at dksX0_goesOn_0 2 rfl rfl)
theorem dX0_goesOn_3 : decode cX0_goesOn 3 = .ok (.ifCond .lt 44, 3) := dk_155 0 44 (dk_at dksX0_goesOn_0 3 rfl rfl)
theorem dX0_goesOn_6 : decode cX0_goesOn 6 = .ok (.aload_n 0, 1) := dk_42 (dk_at dksX0_goesOn_0 6 rfl rfl)
theorem dX0_goesOn_7 : decode cX0_goesOn 7 = .ok (.getfield 249, 3) := dk_180 0 249 (dk_at dksX0_goesOn_0 7 rfl rfl)
theorem dX0_goesOn_10 : decode cX0_goesOn 10 = .ok (.iload_n 3, 1) := dk_29 (dk_at dksX0_goesOn_0 10 rfl rfl)
theorem dX0_goesOn_11 : decode cX0_goesOn 11 = .ok (.ishr, 1) := dk_122 (dk_at dksX0_goesOn_0 11 rfl rfl)
theorem dX0_goesOn_12 : decode cX0_goesOn 12 = .ok (.iconst 1, 1) := dk_4 (dk_at dksX0_goesOn_0 12 rfl rfl)
theorem dX0_goesOn_13 : decode cX0_goesOn 13 = .ok (.iand, 1) := dk_126 (dk_at dksX0_goesOn_0 13 rfl rfl)
theorem dX0_goesOn_14 : decode cX0_goesOn 14 = .ok (.ifCond .ne 6, 3) := dk_154 0 6 (dk_at dksX0_goesOn_0 14 rfl rfl)
theorem dX0_goesOn_17 : decode cX0_goesOn 17 = .ok (.goto 24, 3) := dk_167 0 24 (dk_at dksX0_goesOn_0 17 rfl rfl)
theorem dX0_goesOn_20 : decode cX0_goesOn 20 = .ok (.aload_n 1, 1) := dk_43 (dk_at dksX0_goesOn_0 20 rfl rfl)
theorem dX0_goesOn_21 : decode cX0_goesOn 21 = .ok (.iload_n 3, 1) := dk_29 (dk_at dksX0_goesOn_0 21 rfl rfl)
theorem dX0_goesOn_22 : decode cX0_goesOn 22 = .ok (.iaload, 1) := dk_46 (dk_at dksX0_goesOn_0 22 rfl rfl)
theorem dX0_goesOn_23 : decode cX0_goesOn 23 = .ok (.iload_n 2, 1) := dk_28 (dk_at dksX0_goesOn_0 23 rfl rfl)
theorem dX0_goesOn_24 : decode cX0_goesOn 24 = .ok (.if_icmp .ge 12, 3) := dk_162 0 12 (dk_at dksX0_goesOn_1 0 rfl rfl)
theorem dX0_goesOn_27 : decode cX0_goesOn 27 = .ok (.aload_n 1, 1) := dk_43 (dk_at dksX0_goesOn_1 3 rfl rfl)
theorem dX0_goesOn_28 : decode cX0_goesOn 28 = .ok (.iload_n 3, 1) := dk_29 (dk_at dksX0_goesOn_1 4 rfl rfl)
theorem dX0_goesOn_29 : decode cX0_goesOn 29 = .ok (.dup2, 1) := dk_92 (dk_at dksX0_goesOn_1 5 rfl rfl)
theorem dX0_goesOn_30 : decode cX0_goesOn 30 = .ok (.iaload, 1) := dk_46 (dk_at dksX0_goesOn_1 6 rfl rfl)
theorem dX0_goesOn_31 : decode cX0_goesOn 31 = .ok (.iconst 1, 1) := dk_4 (dk_at dksX0_goesOn_1 7 rfl rfl)
theorem dX0_goesOn_32 : decode cX0_goesOn 32 = .ok (.iadd, 1) := dk_96 (dk_at dksX0_goesOn_1 8 rfl rfl)
theorem dX0_goesOn_33 : decode cX0_goesOn 33 = .ok (.iastore, 1) := dk_79 (dk_at dksX0_goesOn_1 9 rfl rfl)
theorem dX0_goesOn_34 : decode cX0_goesOn 34 = .ok (.iconst 1, 1) := dk_4 (dk_at dksX0_goesOn_1 10 rfl rfl)
theorem dX0_goesOn_35 : decode cX0_goesOn 35 = .ok (.ireturn, 1) := dk_172 (dk_at dksX0_goesOn_1 11 rfl rfl)
theorem dX0_goesOn_36 : decode cX0_goesOn 36 = .ok (.aload_n 1, 1) := dk_43 (dk_at dksX0_goesOn_1 12 rfl rfl)
theorem dX0_goesOn_37 : decode cX0_goesOn 37 = .ok (.iload_n 3, 1) := dk_29 (dk_at dksX0_goesOn_1 13 rfl rfl)
theorem dX0_goesOn_38 : decode cX0_goesOn 38 = .ok (.iload_n 2, 1) := dk_28 (dk_at dksX0_goesOn_1 14 rfl rfl)
theorem dX0_goesOn_39 : decode cX0_goesOn 39 = .ok (.ineg, 1) := dk_116 (dk_at dksX0_goesOn_1 15 rfl rfl)
theorem dX0_goesOn_40 : decode cX0_goesOn 40 = .ok (.iastore, 1) := dk_79 (dk_at dksX0_goesOn_1 16 rfl rfl)
theorem dX0_goesOn_41 : decode cX0_goesOn 41 = .ok (.iinc 3 (-1), 3) := dk_132 3 255 (dk_at dksX0_goesOn_1 17 rfl rfl)
theorem dX0_goesOn_44 : decode cX0_goesOn 44 = .ok (.goto (-42), 3) := dk_167 255 214 (dk_at dksX0_goesOn_1 20 rfl rfl)
theorem dX0_goesOn_47 : decode cX0_goesOn 47 = .ok (.iconst 0, 1) := dk_3 (dk_at dksX0_goesOn_1 23 rfl rfl)
theorem dX0_goesOn_48 : decode cX0_goesOn 48 = .ok (.ireturn, 1) := dk_172 (dk_at dksX0_goesOn_2 0 rfl rfl)
abbrev cX0_side : ByteArray := prog_1_method_62_code
def yX0_side : MethodName := ⟨RX0, "side", "(IIIIIII)J"⟩
def dkwX0_side_6 : List UInt8 := [20, 0, 99, 173]
abbrev dktX0_side_6 : List UInt8 := dkwX0_side_6 ++ []
def dkwX0_side_5 : List UInt8 := [154, 0, 10, 42, 180, 1, 150, 167, 0, 7, 42, 180, 1, 154, 25, 8, 184, 1, 174, 167, 0, 6]
abbrev dktX0_side_5 : List UInt8 := dkwX0_side_5 ++ dktX0_side_6
def dkwX0_side_4 : List UInt8 := [20, 1, 170, 20, 1, 172, 184, 0, 21, 126, 54, 9, 132, 12, 1, 167, 255, 222, 21, 9, 153, 0, 26, 27]
abbrev dktX0_side_4 : List UInt8 := dkwX0_side_4 ++ dktX0_side_5
def dkwX0_side_3 : List UInt8 := [3, 54, 12, 21, 12, 21, 11, 162, 0, 33, 25, 10, 21, 12, 46, 54, 13, 21, 9, 21, 13, 133]
abbrev dktX0_side_3 : List UInt8 := dkwX0_side_3 ++ dktX0_side_4
def dkwX0_side_2 : List UInt8 := [9, 10, 184, 0, 21, 153, 0, 7, 4, 167, 0, 4, 3, 54, 9, 25, 8, 58, 10, 25, 10, 190, 54, 11]
abbrev dktX0_side_2 : List UInt8 := dkwX0_side_2 ++ dktX0_side_3
def dkwX0_side_1 : List UInt8 := [21, 6, 79, 89, 8, 21, 7, 79, 89, 16, 6, 3, 79, 58, 8, 42, 180, 1, 150, 198, 0, 17, 27, 133]
abbrev dktX0_side_1 : List UInt8 := dkwX0_side_1 ++ dktX0_side_2
def dkwX0_side_0 : List UInt8 := [16, 7, 188, 10, 89, 3, 28, 79, 89, 4, 29, 79, 89, 5, 21, 4, 79, 89, 6, 21, 5, 79, 89, 7]
abbrev dktX0_side_0 : List UInt8 := dkwX0_side_0 ++ dktX0_side_1
theorem dksX0_side_0 : cX0_side.data.toList.drop 0 = dktX0_side_0 := by decide +kernel
theorem dksX0_side_1 : cX0_side.data.toList.drop 24 = dktX0_side_1 := dk_seg dksX0_side_0 24 rfl rfl
theorem dksX0_side_2 : cX0_side.data.toList.drop 48 = dktX0_side_2 := dk_seg dksX0_side_1 24 rfl rfl
theorem dksX0_side_3 : cX0_side.data.toList.drop 72 = dktX0_side_3 := dk_seg dksX0_side_2 24 rfl rfl
theorem dksX0_side_4 : cX0_side.data.toList.drop 94 = dktX0_side_4 := dk_seg dksX0_side_3 22 rfl rfl
theorem dksX0_side_5 : cX0_side.data.toList.drop 118 = dktX0_side_5 := dk_seg dksX0_side_4 24 rfl rfl
theorem dksX0_side_6 : cX0_side.data.toList.drop 140 = dktX0_side_6 := dk_seg dksX0_side_5 22 rfl rfl
theorem dX0_side_0 : decode cX0_side 0 = .ok (.bipush 7, 2) := dk_16 7 (dk_at dksX0_side_0 0 rfl rfl)
theorem dX0_side_2 : decode cX0_side 2 = .ok (.newarray .int, 2) := dk_188_10 (dk_at dksX0_side_0 2 rfl rfl)
theorem dX0_side_4 : decode cX0_side 4 = .ok (.dup, 1) := dk_89 (dk_at dksX0_side_0 4 rfl rfl)
theorem dX0_side_5 : decode cX0_side 5 = .ok (.iconst 0, 1) := dk_3 (dk_at dksX0_side_0 5 rfl rfl)
theorem dX0_side_6 : decode cX0_side 6 = .ok (.iload_n 2, 1) := dk_28 (dk_at dksX0_side_0 6 rfl rfl)
theorem dX0_side_7 : decode cX0_side 7 = .ok (.iastore, 1) := dk_79 (dk_at dksX0_side_0 7 rfl rfl)
theorem dX0_side_8 : decode cX0_side 8 = .ok (.dup, 1) := dk_89 (dk_at dksX0_side_0 8 rfl rfl)
theorem dX0_side_9 : decode cX0_side 9 = .ok (.iconst 1, 1) := dk_4 (dk_at dksX0_side_0 9 rfl rfl)
theorem dX0_side_10 : decode cX0_side 10 = .ok (.iload_n 3, 1) := dk_29 (dk_at dksX0_side_0 10 rfl rfl)
theorem dX0_side_11 : decode cX0_side 11 = .ok (.iastore, 1) := dk_79 (dk_at dksX0_side_0 11 rfl rfl)
theorem dX0_side_12 : decode cX0_side 12 = .ok (.dup, 1) := dk_89 (dk_at dksX0_side_0 12 rfl rfl)
theorem dX0_side_13 : decode cX0_side 13 = .ok (.iconst 2, 1) := dk_5 (dk_at dksX0_side_0 13 rfl rfl)
theorem dX0_side_14 : decode cX0_side 14 = .ok (.iload 4, 2) := dk_21 4 (dk_at dksX0_side_0 14 rfl rfl)
theorem dX0_side_16 : decode cX0_side 16 = .ok (.iastore, 1) := dk_79 (dk_at dksX0_side_0 16 rfl rfl)
theorem dX0_side_17 : decode cX0_side 17 = .ok (.dup, 1) := dk_89 (dk_at dksX0_side_0 17 rfl rfl)
theorem dX0_side_18 : decode cX0_side 18 = .ok (.iconst 3, 1) := dk_6 (dk_at dksX0_side_0 18 rfl rfl)
theorem dX0_side_19 : decode cX0_side 19 = .ok (.iload 5, 2) := dk_21 5 (dk_at dksX0_side_0 19 rfl rfl)
theorem dX0_side_21 : decode cX0_side 21 = .ok (.iastore, 1) := dk_79 (dk_at dksX0_side_0 21 rfl rfl)
theorem dX0_side_22 : decode cX0_side 22 = .ok (.dup, 1) := dk_89 (dk_at dksX0_side_0 22 rfl rfl)
theorem dX0_side_23 : decode cX0_side 23 = .ok (.iconst 4, 1) := dk_7 (dk_at dksX0_side_0 23 rfl rfl)
theorem dX0_side_24 : decode cX0_side 24 = .ok (.iload 6, 2) := dk_21 6 (dk_at dksX0_side_1 0 rfl rfl)
theorem dX0_side_26 : decode cX0_side 26 = .ok (.iastore, 1) := dk_79 (dk_at dksX0_side_1 2 rfl rfl)
theorem dX0_side_27 : decode cX0_side 27 = .ok (.dup, 1) := dk_89 (dk_at dksX0_side_1 3 rfl rfl)
theorem dX0_side_28 : decode cX0_side 28 = .ok (.iconst 5, 1) := dk_8 (dk_at dksX0_side_1 4 rfl rfl)
theorem dX0_side_29 : decode cX0_side 29 = .ok (.iload 7, 2) := dk_21 7 (dk_at dksX0_side_1 5 rfl rfl)
theorem dX0_side_31 : decode cX0_side 31 = .ok (.iastore, 1) := dk_79 (dk_at dksX0_side_1 7 rfl rfl)
theorem dX0_side_32 : decode cX0_side 32 = .ok (.dup, 1) := dk_89 (dk_at dksX0_side_1 8 rfl rfl)
theorem dX0_side_33 : decode cX0_side 33 = .ok (.bipush 6, 2) := dk_16 6 (dk_at dksX0_side_1 9 rfl rfl)
theorem dX0_side_35 : decode cX0_side 35 = .ok (.iconst 0, 1) := dk_3 (dk_at dksX0_side_1 11 rfl rfl)
theorem dX0_side_36 : decode cX0_side 36 = .ok (.iastore, 1) := dk_79 (dk_at dksX0_side_1 12 rfl rfl)
theorem dX0_side_37 : decode cX0_side 37 = .ok (.astore 8, 2) := dk_58 8 (dk_at dksX0_side_1 13 rfl rfl)
theorem dX0_side_39 : decode cX0_side 39 = .ok (.aload_n 0, 1) := dk_42 (dk_at dksX0_side_1 15 rfl rfl)
theorem dX0_side_40 : decode cX0_side 40 = .ok (.getfield 406, 3) := dk_180 1 150 (dk_at dksX0_side_1 16 rfl rfl)
theorem dX0_side_43 : decode cX0_side 43 = .ok (.ifnull 17, 3) := dk_198 0 17 (dk_at dksX0_side_1 19 rfl rfl)
theorem dX0_side_46 : decode cX0_side 46 = .ok (.iload_n 1, 1) := dk_27 (dk_at dksX0_side_1 22 rfl rfl)
theorem dX0_side_47 : decode cX0_side 47 = .ok (.i2l, 1) := dk_133 (dk_at dksX0_side_1 23 rfl rfl)
theorem dX0_side_48 : decode cX0_side 48 = .ok (.lconst 0, 1) := dk_9 (dk_at dksX0_side_2 0 rfl rfl)
theorem dX0_side_49 : decode cX0_side 49 = .ok (.lconst 1, 1) := dk_10 (dk_at dksX0_side_2 1 rfl rfl)
theorem dX0_side_50 : decode cX0_side 50 = .ok (.invokestatic 21, 3) := dk_184 0 21 (dk_at dksX0_side_2 2 rfl rfl)
theorem dX0_side_53 : decode cX0_side 53 = .ok (.ifCond .eq 7, 3) := dk_153 0 7 (dk_at dksX0_side_2 5 rfl rfl)
theorem dX0_side_56 : decode cX0_side 56 = .ok (.iconst 1, 1) := dk_4 (dk_at dksX0_side_2 8 rfl rfl)
theorem dX0_side_57 : decode cX0_side 57 = .ok (.goto 4, 3) := dk_167 0 4 (dk_at dksX0_side_2 9 rfl rfl)
theorem dX0_side_60 : decode cX0_side 60 = .ok (.iconst 0, 1) := dk_3 (dk_at dksX0_side_2 12 rfl rfl)
theorem dX0_side_61 : decode cX0_side 61 = .ok (.istore 9, 2) := dk_54 9 (dk_at dksX0_side_2 13 rfl rfl)
theorem dX0_side_63 : decode cX0_side 63 = .ok (.aload 8, 2) := dk_25 8 (dk_at dksX0_side_2 15 rfl rfl)
theorem dX0_side_65 : decode cX0_side 65 = .ok (.astore 10, 2) := dk_58 10 (dk_at dksX0_side_2 17 rfl rfl)
theorem dX0_side_67 : decode cX0_side 67 = .ok (.aload 10, 2) := dk_25 10 (dk_at dksX0_side_2 19 rfl rfl)
theorem dX0_side_69 : decode cX0_side 69 = .ok (.arraylength, 1) := dk_190 (dk_at dksX0_side_2 21 rfl rfl)
theorem dX0_side_70 : decode cX0_side 70 = .ok (.istore 11, 2) := dk_54 11 (dk_at dksX0_side_2 22 rfl rfl)
theorem dX0_side_72 : decode cX0_side 72 = .ok (.iconst 0, 1) := dk_3 (dk_at dksX0_side_3 0 rfl rfl)
theorem dX0_side_73 : decode cX0_side 73 = .ok (.istore 12, 2) := dk_54 12 (dk_at dksX0_side_3 1 rfl rfl)
theorem dX0_side_75 : decode cX0_side 75 = .ok (.iload 12, 2) := dk_21 12 (dk_at dksX0_side_3 3 rfl rfl)
theorem dX0_side_77 : decode cX0_side 77 = .ok (.iload 11, 2) := dk_21 11 (dk_at dksX0_side_3 5 rfl rfl)
theorem dX0_side_79 : decode cX0_side 79 = .ok (.if_icmp .ge 33, 3) := dk_162 0 33 (dk_at dksX0_side_3 7 rfl rfl)
theorem dX0_side_82 : decode cX0_side 82 = .ok (.aload 10, 2) := dk_25 10 (dk_at dksX0_side_3 10 rfl rfl)
theorem dX0_side_84 : decode cX0_side 84 = .ok (.iload 12, 2) := dk_21 12 (dk_at dksX0_side_3 12 rfl rfl)
theorem dX0_side_86 : decode cX0_side 86 = .ok (.iaload, 1) := dk_46 (dk_at dksX0_side_3 14 rfl rfl)
theorem dX0_side_87 : decode cX0_side 87 = .ok (.istore 13, 2) := dk_54 13 (dk_at dksX0_side_3 15 rfl rfl)
theorem dX0_side_89 : decode cX0_side 89 = .ok (.iload 9, 2) := dk_21 9 (dk_at dksX0_side_3 17 rfl rfl)
theorem dX0_side_91 : decode cX0_side 91 = .ok (.iload 13, 2) := dk_21 13 (dk_at dksX0_side_3 19 rfl rfl)
theorem dX0_side_93 : decode cX0_side 93 = .ok (.i2l, 1) := dk_133 (dk_at dksX0_side_3 21 rfl rfl)
theorem dX0_side_94 : decode cX0_side 94 = .ok (.ldc2_w 426, 3) := dk_20 1 170 (dk_at dksX0_side_4 0 rfl rfl)
theorem dX0_side_97 : decode cX0_side 97 = .ok (.ldc2_w 428, 3) := dk_20 1 172 (dk_at dksX0_side_4 3 rfl rfl)
theorem dX0_side_100 : decode cX0_side 100 = .ok (.invokestatic 21, 3) := dk_184 0 21 (dk_at dksX0_side_4 6 rfl rfl)
theorem dX0_side_103 : decode cX0_side 103 = .ok (.iand, 1) := dk_126 (dk_at dksX0_side_4 9 rfl rfl)
theorem dX0_side_104 : decode cX0_side 104 = .ok (.istore 9, 2) := dk_54 9 (dk_at dksX0_side_4 10 rfl rfl)
theorem dX0_side_106 : decode cX0_side 106 = .ok (.iinc 12 1, 3) := dk_132 12 1 (dk_at dksX0_side_4 12 rfl rfl)
theorem dX0_side_109 : decode cX0_side 109 = .ok (.goto (-34), 3) := dk_167 255 222 (dk_at dksX0_side_4 15 rfl rfl)
theorem dX0_side_112 : decode cX0_side 112 = .ok (.iload 9, 2) := dk_21 9 (dk_at dksX0_side_4 18 rfl rfl)
theorem dX0_side_114 : decode cX0_side 114 = .ok (.ifCond .eq 26, 3) := dk_153 0 26 (dk_at dksX0_side_4 20 rfl rfl)
theorem dX0_side_117 : decode cX0_side 117 = .ok (.iload_n 1, 1) := dk_27 (dk_at dksX0_side_4 23 rfl rfl)
theorem dX0_side_118 : decode cX0_side 118 = .ok (.ifCond .ne 10, 3) := dk_154 0 10 (dk_at dksX0_side_5 0 rfl rfl)
theorem dX0_side_121 : decode cX0_side 121 = .ok (.aload_n 0, 1) := dk_42 (dk_at dksX0_side_5 3 rfl rfl)
theorem dX0_side_122 : decode cX0_side 122 = .ok (.getfield 406, 3) := dk_180 1 150 (dk_at dksX0_side_5 4 rfl rfl)
theorem dX0_side_125 : decode cX0_side 125 = .ok (.goto 7, 3) := dk_167 0 7 (dk_at dksX0_side_5 7 rfl rfl)
theorem dX0_side_128 : decode cX0_side 128 = .ok (.aload_n 0, 1) := dk_42 (dk_at dksX0_side_5 10 rfl rfl)
theorem dX0_side_129 : decode cX0_side 129 = .ok (.getfield 410, 3) := dk_180 1 154 (dk_at dksX0_side_5 11 rfl rfl)
theorem dX0_side_132 : decode cX0_side 132 = .ok (.aload 8, 2) := dk_25 8 (dk_at dksX0_side_5 14 rfl rfl)
theorem dX0_side_134 : decode cX0_side 134 = .ok (.invokestatic 430, 3) := dk_184 1 174 (dk_at dksX0_side_5 16 rfl rfl)
theorem dX0_side_137 : decode cX0_side 137 = .ok (.goto 6, 3) := dk_167 0 6 (dk_at dksX0_side_5 19 rfl rfl)
theorem dX0_side_140 : decode cX0_side 140 = .ok (.ldc2_w 99, 3) := dk_20 0 99 (dk_at dksX0_side_6 0 rfl rfl)
theorem dX0_side_143 : decode cX0_side 143 = .ok (.lreturn, 1) := dk_173 (dk_at dksX0_side_6 3 rfl rfl)
abbrev cX0_told : ByteArray := prog_1_method_57_code
def yX0_told : MethodName := ⟨RX0, "told", "(LToldPowers$Sum;[I)J"⟩
def dkwX0_told_1 : List UInt8 := [167, 0, 4, 32, 173]
abbrev dktX0_told_1 : List UInt8 := dkwX0_told_1 ++ []
def dkwX0_told_0 : List UInt8 := [43, 16, 6, 3, 79, 42, 43, 182, 1, 144, 65, 43, 16, 6, 46, 4, 160, 0, 9, 20, 0, 99]
abbrev dktX0_told_0 : List UInt8 := dkwX0_told_0 ++ dktX0_told_1
theorem dksX0_told_0 : cX0_told.data.toList.drop 0 = dktX0_told_0 := by decide +kernel
theorem dksX0_told_1 : cX0_told.data.toList.drop 22 = dktX0_told_1 := dk_seg dksX0_told_0 22 rfl rfl
theorem dX0_told_0 : decode cX0_told 0 = .ok (.aload_n 1, 1) := dk_43 (dk_at dksX0_told_0 0 rfl rfl)
theorem dX0_told_1 : decode cX0_told 1 = .ok (.bipush 6, 2) := dk_16 6 (dk_at dksX0_told_0 1 rfl rfl)
theorem dX0_told_3 : decode cX0_told 3 = .ok (.iconst 0, 1) := dk_3 (dk_at dksX0_told_0 3 rfl rfl)
theorem dX0_told_4 : decode cX0_told 4 = .ok (.iastore, 1) := dk_79 (dk_at dksX0_told_0 4 rfl rfl)
theorem dX0_told_5 : decode cX0_told 5 = .ok (.aload_n 0, 1) := dk_42 (dk_at dksX0_told_0 5 rfl rfl)
theorem dX0_told_6 : decode cX0_told 6 = .ok (.aload_n 1, 1) := dk_43 (dk_at dksX0_told_0 6 rfl rfl)
theorem dX0_told_7 : decode cX0_told 7 = .ok (.invokevirtual 400, 3) := dk_182 1 144 (dk_at dksX0_told_0 7 rfl rfl)
theorem dX0_told_10 : decode cX0_told 10 = .ok (.lstore_n 2, 1) := dk_65 (dk_at dksX0_told_0 10 rfl rfl)
theorem dX0_told_11 : decode cX0_told 11 = .ok (.aload_n 1, 1) := dk_43 (dk_at dksX0_told_0 11 rfl rfl)
theorem dX0_told_12 : decode cX0_told 12 = .ok (.bipush 6, 2) := dk_16 6 (dk_at dksX0_told_0 12 rfl rfl)
theorem dX0_told_14 : decode cX0_told 14 = .ok (.iaload, 1) := dk_46 (dk_at dksX0_told_0 14 rfl rfl)
theorem dX0_told_15 : decode cX0_told 15 = .ok (.iconst 1, 1) := dk_4 (dk_at dksX0_told_0 15 rfl rfl)
theorem dX0_told_16 : decode cX0_told 16 = .ok (.if_icmp .ne 9, 3) := dk_160 0 9 (dk_at dksX0_told_0 16 rfl rfl)
theorem dX0_told_19 : decode cX0_told 19 = .ok (.ldc2_w 99, 3) := dk_20 0 99 (dk_at dksX0_told_0 19 rfl rfl)
theorem dX0_told_22 : decode cX0_told 22 = .ok (.goto 4, 3) := dk_167 0 4 (dk_at dksX0_told_1 0 rfl rfl)
theorem dX0_told_25 : decode cX0_told 25 = .ok (.lload_n 2, 1) := dk_32 (dk_at dksX0_told_1 3 rfl rfl)
theorem dX0_told_26 : decode cX0_told 26 = .ok (.lreturn, 1) := dk_173 (dk_at dksX0_told_1 4 rfl rfl)
abbrev cX0_look : ByteArray := prog_1_method_63_code
def yX0_look : MethodName := ⟨RX0, "look", "(I)I"⟩
def dkwX0_look_2 : List UInt8 := [180, 0, 249, 167, 0, 17, 27, 16, 6, 160, 0, 10, 42, 180, 1, 178, 167, 0, 4, 2, 172]
abbrev dktX0_look_2 : List UInt8 := dkwX0_look_2 ++ []
def dkwX0_look_1 : List UInt8 := [182, 0, 9, 172, 27, 7, 160, 0, 10, 42, 180, 0, 223, 167, 0, 29, 27, 8, 160, 0, 10, 42]
abbrev dktX0_look_1 : List UInt8 := dkwX0_look_1 ++ dktX0_look_2
def dkwX0_look_0 : List UInt8 := [27, 184, 0, 226, 153, 0, 24, 42, 27, 182, 0, 238, 199, 0, 7, 3, 167, 0, 11, 42, 27, 182, 0, 238]
abbrev dktX0_look_0 : List UInt8 := dkwX0_look_0 ++ dktX0_look_1
theorem dksX0_look_0 : cX0_look.data.toList.drop 0 = dktX0_look_0 := by decide +kernel
theorem dksX0_look_1 : cX0_look.data.toList.drop 24 = dktX0_look_1 := dk_seg dksX0_look_0 24 rfl rfl
theorem dksX0_look_2 : cX0_look.data.toList.drop 46 = dktX0_look_2 := dk_seg dksX0_look_1 22 rfl rfl
theorem dX0_look_0 : decode cX0_look 0 = .ok (.iload_n 1, 1) := dk_27 (dk_at dksX0_look_0 0 rfl rfl)
theorem dX0_look_1 : decode cX0_look 1 = .ok (.invokestatic 226, 3) := dk_184 0 226 (dk_at dksX0_look_0 1 rfl rfl)
theorem dX0_look_4 : decode cX0_look 4 = .ok (.ifCond .eq 24, 3) := dk_153 0 24 (dk_at dksX0_look_0 4 rfl rfl)
theorem dX0_look_7 : decode cX0_look 7 = .ok (.aload_n 0, 1) := dk_42 (dk_at dksX0_look_0 7 rfl rfl)
theorem dX0_look_8 : decode cX0_look 8 = .ok (.iload_n 1, 1) := dk_27 (dk_at dksX0_look_0 8 rfl rfl)
theorem dX0_look_9 : decode cX0_look 9 = .ok (.invokevirtual 238, 3) := dk_182 0 238 (dk_at dksX0_look_0 9 rfl rfl)
theorem dX0_look_12 : decode cX0_look 12 = .ok (.ifnonnull 7, 3) := dk_199 0 7 (dk_at dksX0_look_0 12 rfl rfl)
theorem dX0_look_15 : decode cX0_look 15 = .ok (.iconst 0, 1) := dk_3 (dk_at dksX0_look_0 15 rfl rfl)
theorem dX0_look_16 : decode cX0_look 16 = .ok (.goto 11, 3) := dk_167 0 11 (dk_at dksX0_look_0 16 rfl rfl)
theorem dX0_look_19 : decode cX0_look 19 = .ok (.aload_n 0, 1) := dk_42 (dk_at dksX0_look_0 19 rfl rfl)
theorem dX0_look_20 : decode cX0_look 20 = .ok (.iload_n 1, 1) := dk_27 (dk_at dksX0_look_0 20 rfl rfl)
theorem dX0_look_21 : decode cX0_look 21 = .ok (.invokevirtual 238, 3) := dk_182 0 238 (dk_at dksX0_look_0 21 rfl rfl)
theorem dX0_look_24 : decode cX0_look 24 = .ok (.invokevirtual 9, 3) := dk_182 0 9 (dk_at dksX0_look_1 0 rfl rfl)
theorem dX0_look_27 : decode cX0_look 27 = .ok (.ireturn, 1) := dk_172 (dk_at dksX0_look_1 3 rfl rfl)
theorem dX0_look_28 : decode cX0_look 28 = .ok (.iload_n 1, 1) := dk_27 (dk_at dksX0_look_1 4 rfl rfl)
theorem dX0_look_29 : decode cX0_look 29 = .ok (.iconst 4, 1) := dk_7 (dk_at dksX0_look_1 5 rfl rfl)
theorem dX0_look_30 : decode cX0_look 30 = .ok (.if_icmp .ne 10, 3) := dk_160 0 10 (dk_at dksX0_look_1 6 rfl rfl)
theorem dX0_look_33 : decode cX0_look 33 = .ok (.aload_n 0, 1) := dk_42 (dk_at dksX0_look_1 9 rfl rfl)
theorem dX0_look_34 : decode cX0_look 34 = .ok (.getfield 223, 3) := dk_180 0 223 (dk_at dksX0_look_1 10 rfl rfl)
theorem dX0_look_37 : decode cX0_look 37 = .ok (.goto 29, 3) := dk_167 0 29 (dk_at dksX0_look_1 13 rfl rfl)
theorem dX0_look_40 : decode cX0_look 40 = .ok (.iload_n 1, 1) := dk_27 (dk_at dksX0_look_1 16 rfl rfl)
theorem dX0_look_41 : decode cX0_look 41 = .ok (.iconst 5, 1) := dk_8 (dk_at dksX0_look_1 17 rfl rfl)
theorem dX0_look_42 : decode cX0_look 42 = .ok (.if_icmp .ne 10, 3) := dk_160 0 10 (dk_at dksX0_look_1 18 rfl rfl)
theorem dX0_look_45 : decode cX0_look 45 = .ok (.aload_n 0, 1) := dk_42 (dk_at dksX0_look_1 21 rfl rfl)
theorem dX0_look_46 : decode cX0_look 46 = .ok (.getfield 249, 3) := dk_180 0 249 (dk_at dksX0_look_2 0 rfl rfl)
theorem dX0_look_49 : decode cX0_look 49 = .ok (.goto 17, 3) := dk_167 0 17 (dk_at dksX0_look_2 3 rfl rfl)
theorem dX0_look_52 : decode cX0_look 52 = .ok (.iload_n 1, 1) := dk_27 (dk_at dksX0_look_2 6 rfl rfl)
theorem dX0_look_53 : decode cX0_look 53 = .ok (.bipush 6, 2) := dk_16 6 (dk_at dksX0_look_2 7 rfl rfl)
theorem dX0_look_55 : decode cX0_look 55 = .ok (.if_icmp .ne 10, 3) := dk_160 0 10 (dk_at dksX0_look_2 9 rfl rfl)
theorem dX0_look_58 : decode cX0_look 58 = .ok (.aload_n 0, 1) := dk_42 (dk_at dksX0_look_2 12 rfl rfl)
theorem dX0_look_59 : decode cX0_look 59 = .ok (.getfield 434, 3) := dk_180 1 178 (dk_at dksX0_look_2 13 rfl rfl)
theorem dX0_look_62 : decode cX0_look 62 = .ok (.goto 4, 3) := dk_167 0 4 (dk_at dksX0_look_2 16 rfl rfl)
theorem dX0_look_65 : decode cX0_look 65 = .ok (.iconst (-1), 1) := dk_2 (dk_at dksX0_look_2 19 rfl rfl)
theorem dX0_look_66 : decode cX0_look 66 = .ok (.ireturn, 1) := dk_172 (dk_at dksX0_look_2 20 rfl rfl)
theorem q102 : (Jvm.Cond.initialized "ToldPowers") ∈ lw_all := lw_g (lw_at lw_m1 1 rfl) rfl
theorem q153 : (Jvm.Cond.instanceMethod ({ cls := "ToldPowers", name := "fault", desc := "(I)I" } : Jvm.MethodName)) ∈ lw_all := lw_g (lw_at lw_m1 52 rfl) rfl
theorem q154 : (Jvm.Cond.selects "ToldPowers" ({ cls := "ToldPowers", name := "fault", desc := "(I)I" } : Jvm.MethodName) ({ cls := "ToldPowers", name := "fault", desc := "(I)I" } : Jvm.MethodName)) ∈ lw_all := lw_g (lw_at lw_m1 53 rfl) rfl
theorem q155 : (Jvm.Cond.code ({ cls := "ToldPowers", name := "fault", desc := "(I)I" } : Jvm.MethodName) prog_1_method_18_code (2 : Nat) (Option.some Jvm.ClassFile.FieldType.int)) ∈ lw_all := lw_g (lw_at lw_m1 54 rfl) rfl
theorem q156 : (Jvm.Cond.methodLink "ToldPowers" (138 : Nat) ({ cls := "ToldPowers", name := "root", desc := "()LToldPowers$Wrong;" } : Jvm.MethodName)) ∈ lw_all := lw_g (lw_at lw_m1 55 rfl) rfl
theorem q157 : (Jvm.Cond.privateMethod ({ cls := "ToldPowers", name := "root", desc := "()LToldPowers$Wrong;" } : Jvm.MethodName)) ∈ lw_tbl := lw_at lw_m1 56 rfl
theorem q158 : (Jvm.Cond.instanceMethod ({ cls := "ToldPowers", name := "root", desc := "()LToldPowers$Wrong;" } : Jvm.MethodName)) ∈ lw_all := lw_g (lw_at lw_m1 57 rfl) rfl
theorem q159 : (Jvm.Cond.instantiable "ToldPowers" (19 : Nat)) ∈ lw_all := lw_g (lw_at lw_m1 58 rfl) rfl
theorem q160 : (Jvm.Cond.code ({ cls := "ToldPowers", name := "root", desc := "()LToldPowers$Wrong;" } : Jvm.MethodName) prog_1_method_17_code (2 : Nat) (Option.some (Jvm.ClassFile.FieldType.object "ToldPowers$Wrong"))) ∈ lw_all := lw_g (lw_at lw_m1 59 rfl) rfl
theorem q161 : (Jvm.Cond.methodLink "ToldPowers" (130 : Nat) ({ cls := "java/lang/Throwable", name := "getCause", desc := "()Ljava/lang/Throwable;" } : Jvm.MethodName)) ∈ lw_all := lw_g (lw_at lw_m1 60 rfl) rfl
theorem q170 : (Jvm.Cond.classLink "ToldPowers" (136 : Nat) "ToldPowers$Wrong") ∈ lw_all := lw_g (lw_at lw_m1 69 rfl) rfl
theorem q171 : (Jvm.Cond.methodLink "ToldPowers" (153 : Nat) ({ cls := "ToldPowers$Outer", name := "getCause", desc := "()Ljava/lang/Throwable;" } : Jvm.MethodName)) ∈ lw_all := lw_g (lw_at lw_m1 70 rfl) rfl
theorem q175 : (Jvm.Cond.classLink "ToldPowers" (154 : Nat) "ToldPowers$Inner") ∈ lw_all := lw_g (lw_at lw_m1 74 rfl) rfl
theorem q178 : (Jvm.Cond.instanceMethod ({ cls := "ToldPowers", name := "<init>", desc := "()V" } : Jvm.MethodName)) ∈ lw_all := lw_g (lw_at lw_m1 77 rfl) rfl
theorem q179 : (Jvm.Cond.code ({ cls := "ToldPowers", name := "<init>", desc := "()V" } : Jvm.MethodName) prog_1_method_19_code (1 : Nat) (Option.none : Option Jvm.ClassFile.FieldType)) ∈ lw_all := lw_g (lw_at lw_m1 78 rfl) rfl
theorem q180 : (Jvm.Cond.methodLink "ToldPowers" (157 : Nat) ({ cls := "java/lang/Object", name := "<init>", desc := "()V" } : Jvm.MethodName)) ∈ lw_all := lw_g (lw_at lw_m1 79 rfl) rfl
theorem q183 : (Jvm.Cond.classLink "ToldPowers" (162 : Nat) "ToldPowers$Kind") ∈ lw_all := lw_g (lw_at lw_m1 82 rfl) rfl
theorem q185 : (Jvm.Cond.fieldLink "ToldPowers" (164 : Nat) "ToldPowers$Kind" "LINE" "LToldPowers$Kind;") ∈ lw_all := lw_g (lw_at lw_m1 84 rfl) rfl
theorem q187 : (Jvm.Cond.fieldLink "ToldPowers" (168 : Nat) "ToldPowers$Kind" "SQUARE" "LToldPowers$Kind;") ∈ lw_all := lw_g (lw_at lw_m1 86 rfl) rfl
theorem q189 : (Jvm.Cond.fieldLink "ToldPowers" (171 : Nat) "ToldPowers$Kind" "CUBE" "LToldPowers$Kind;") ∈ lw_all := lw_g (lw_at lw_m1 88 rfl) rfl
theorem q191 : (Jvm.Cond.fieldLink "ToldPowers" (174 : Nat) "ToldPowers$Kind" "FOURTH" "LToldPowers$Kind;") ∈ lw_all := lw_g (lw_at lw_m1 90 rfl) rfl
theorem q193 : (Jvm.Cond.fieldLink "ToldPowers" (177 : Nat) "ToldPowers$Kind" "THREE" "LToldPowers$Kind;") ∈ lw_all := lw_g (lw_at lw_m1 92 rfl) rfl
theorem q195 : (Jvm.Cond.classLink "ToldPowers" (184 : Nat) "java/lang/String") ∈ lw_all := lw_g (lw_at lw_m1 94 rfl) rfl
theorem q197 : (Jvm.Cond.stringRef "ToldPowers" (186 : Nat) "line") ∈ lw_tbl := lw_at lw_m1 96 rfl
theorem q198 : (Jvm.Cond.stringRef "ToldPowers" (188 : Nat) "square") ∈ lw_tbl := lw_at lw_m1 97 rfl
theorem q199 : (Jvm.Cond.stringRef "ToldPowers" (190 : Nat) "cube") ∈ lw_tbl := lw_at lw_m1 98 rfl
theorem q200 : (Jvm.Cond.stringRef "ToldPowers" (192 : Nat) "fourth") ∈ lw_tbl := lw_at lw_m1 99 rfl
theorem q201 : (Jvm.Cond.stringRef "ToldPowers" (194 : Nat) "three") ∈ lw_tbl := lw_at lw_m1 100 rfl
theorem q202 : (Jvm.Cond.classLink "ToldPowers" (10 : Nat) "ToldPowers$Form") ∈ lw_all := lw_g (lw_at lw_m1 101 rfl) rfl
theorem q204 : (Jvm.Cond.classLink "ToldPowers" (200 : Nat) "[[J") ∈ lw_all := lw_g (lw_at lw_m1 103 rfl) rfl
theorem q206 : (Jvm.Cond.classLink "ToldPowers" (212 : Nat) "[[Z") ∈ lw_all := lw_g (lw_at lw_m1 105 rfl) rfl
theorem q208 : (Jvm.Cond.stringRef "ToldPowers" (217 : Nat) "") ∈ lw_tbl := lw_at lw_m1 107 rfl
theorem q210 : (Jvm.Cond.fieldLink "ToldPowers" (180 : Nat) "ToldPowers" "kinds" "[LToldPowers$Kind;") ∈ lw_all := lw_g (lw_at lw_m1 109 rfl) rfl
theorem q212 : (Jvm.Cond.fieldLink "ToldPowers" (196 : Nat) "ToldPowers" "kindWords" "[Ljava/lang/String;") ∈ lw_all := lw_g (lw_at lw_m1 111 rfl) rfl
theorem q213 : (Jvm.Cond.fieldLink "ToldPowers" (5 : Nat) "ToldPowers" "slots" "[LToldPowers$Form;") ∈ lw_all := lw_g (lw_at lw_m1 112 rfl) rfl
theorem q214 : (Jvm.Cond.fieldLink "ToldPowers" (37 : Nat) "ToldPowers" "from" "[[J") ∈ lw_all := lw_g (lw_at lw_m1 113 rfl) rfl
theorem q215 : (Jvm.Cond.fieldLink "ToldPowers" (84 : Nat) "ToldPowers" "layers" "[[J") ∈ lw_all := lw_g (lw_at lw_m1 114 rfl) rfl
theorem q216 : (Jvm.Cond.fieldLink "ToldPowers" (33 : Nat) "ToldPowers" "laid" "LToldPowers$Form;") ∈ lw_all := lw_g (lw_at lw_m1 115 rfl) rfl
theorem q217 : (Jvm.Cond.fieldLink "ToldPowers" (78 : Nat) "ToldPowers" "laidUnlike" "LToldPowers$Form;") ∈ lw_all := lw_g (lw_at lw_m1 116 rfl) rfl
theorem q219 : (Jvm.Cond.fieldLink "ToldPowers" (406 : Nat) "ToldPowers" "left" "LToldPowers$Sum;") ∈ lw_all := lw_g (lw_at lw_m1 118 rfl) rfl
theorem q221 : (Jvm.Cond.fieldLink "ToldPowers" (410 : Nat) "ToldPowers" "right" "LToldPowers$Sum;") ∈ lw_all := lw_g (lw_at lw_m1 120 rfl) rfl
theorem q223 : (Jvm.Cond.fieldLink "ToldPowers" (249 : Nat) "ToldPowers" "letters" "I") ∈ lw_all := lw_g (lw_at lw_m1 122 rfl) rfl
theorem q225 : (Jvm.Cond.fieldLink "ToldPowers" (434 : Nat) "ToldPowers" "parts" "I") ∈ lw_all := lw_g (lw_at lw_m1 124 rfl) rfl
theorem q226 : (Jvm.Cond.fieldLink "ToldPowers" (126 : Nat) "ToldPowers" "latest" "LToldPowers$Outer;") ∈ lw_all := lw_g (lw_at lw_m1 125 rfl) rfl
theorem q228 : (Jvm.Cond.fieldLink "ToldPowers" (201 : Nat) "ToldPowers" "tape" "[B") ∈ lw_all := lw_g (lw_at lw_m1 127 rfl) rfl
theorem q230 : (Jvm.Cond.fieldLink "ToldPowers" (223 : Nat) "ToldPowers" "taped" "I") ∈ lw_all := lw_g (lw_at lw_m1 129 rfl) rfl
theorem q231 : (Jvm.Cond.fieldLink "ToldPowers" (205 : Nat) "ToldPowers" "classes" "[J") ∈ lw_all := lw_g (lw_at lw_m1 130 rfl) rfl
theorem q232 : (Jvm.Cond.fieldLink "ToldPowers" (209 : Nat) "ToldPowers" "next" "[J") ∈ lw_all := lw_g (lw_at lw_m1 131 rfl) rfl
theorem q233 : (Jvm.Cond.fieldLink "ToldPowers" (214 : Nat) "ToldPowers" "can" "[[Z") ∈ lw_all := lw_g (lw_at lw_m1 132 rfl) rfl
theorem q234 : (Jvm.Cond.fieldLink "ToldPowers" (219 : Nat) "ToldPowers" "shown" "Ljava/lang/String;") ∈ lw_all := lw_g (lw_at lw_m1 133 rfl) rfl
theorem q235 : (Jvm.Cond.fieldLink "ToldPowers" (390 : Nat) "ToldPowers" "rankedLatest" "LToldPowers$Ranked;") ∈ lw_all := lw_g (lw_at lw_m1 134 rfl) rfl
theorem q236 : (Jvm.Cond.laysFinal "ToldPowers" "ToldPowers" "kinds" "[LToldPowers$Kind;") ∈ lw_all := lw_g (lw_at lw_m1 135 rfl) rfl
theorem q237 : (Jvm.Cond.soleField "ToldPowers" "kinds") ∈ lw_all := lw_g (lw_at lw_m1 136 rfl) rfl
theorem q238 : (Jvm.Cond.laysFinal "ToldPowers" "ToldPowers" "kindWords" "[Ljava/lang/String;") ∈ lw_all := lw_g (lw_at lw_m1 137 rfl) rfl
theorem q239 : (Jvm.Cond.soleField "ToldPowers" "kindWords") ∈ lw_all := lw_g (lw_at lw_m1 138 rfl) rfl
theorem q240 : (Jvm.Cond.laysFinal "ToldPowers" "ToldPowers" "slots" "[LToldPowers$Form;") ∈ lw_all := lw_g (lw_at lw_m1 139 rfl) rfl
theorem q241 : (Jvm.Cond.soleField "ToldPowers" "slots") ∈ lw_all := lw_g (lw_at lw_m1 140 rfl) rfl
theorem q242 : (Jvm.Cond.laysFinal "ToldPowers" "ToldPowers" "from" "[[J") ∈ lw_all := lw_g (lw_at lw_m1 141 rfl) rfl
theorem q243 : (Jvm.Cond.soleField "ToldPowers" "from") ∈ lw_all := lw_g (lw_at lw_m1 142 rfl) rfl
theorem q244 : (Jvm.Cond.laysFinal "ToldPowers" "ToldPowers" "layers" "[[J") ∈ lw_all := lw_g (lw_at lw_m1 143 rfl) rfl
theorem q245 : (Jvm.Cond.soleField "ToldPowers" "layers") ∈ lw_all := lw_g (lw_at lw_m1 144 rfl) rfl
theorem q246 : (Jvm.Cond.lays "ToldPowers" "ToldPowers" "laid" "LToldPowers$Form;") ∈ lw_all := lw_g (lw_at lw_m1 145 rfl) rfl
theorem q247 : (Jvm.Cond.soleField "ToldPowers" "laid") ∈ lw_all := lw_g (lw_at lw_m1 146 rfl) rfl
theorem q248 : (Jvm.Cond.lays "ToldPowers" "ToldPowers" "laidUnlike" "LToldPowers$Form;") ∈ lw_all := lw_g (lw_at lw_m1 147 rfl) rfl
theorem q249 : (Jvm.Cond.soleField "ToldPowers" "laidUnlike") ∈ lw_all := lw_g (lw_at lw_m1 148 rfl) rfl
theorem q250 : (Jvm.Cond.lays "ToldPowers" "ToldPowers" "left" "LToldPowers$Sum;") ∈ lw_all := lw_g (lw_at lw_m1 149 rfl) rfl
theorem q251 : (Jvm.Cond.soleField "ToldPowers" "left") ∈ lw_all := lw_g (lw_at lw_m1 150 rfl) rfl
theorem q252 : (Jvm.Cond.lays "ToldPowers" "ToldPowers" "right" "LToldPowers$Sum;") ∈ lw_all := lw_g (lw_at lw_m1 151 rfl) rfl
theorem q253 : (Jvm.Cond.soleField "ToldPowers" "right") ∈ lw_all := lw_g (lw_at lw_m1 152 rfl) rfl
theorem q254 : (Jvm.Cond.lays "ToldPowers" "ToldPowers" "letters" "I") ∈ lw_all := lw_g (lw_at lw_m1 153 rfl) rfl
theorem q255 : (Jvm.Cond.soleField "ToldPowers" "letters") ∈ lw_all := lw_g (lw_at lw_m1 154 rfl) rfl
theorem q256 : (Jvm.Cond.lays "ToldPowers" "ToldPowers" "parts" "I") ∈ lw_all := lw_g (lw_at lw_m1 155 rfl) rfl
theorem q257 : (Jvm.Cond.soleField "ToldPowers" "parts") ∈ lw_all := lw_g (lw_at lw_m1 156 rfl) rfl
theorem q258 : (Jvm.Cond.lays "ToldPowers" "ToldPowers" "latest" "LToldPowers$Outer;") ∈ lw_all := lw_g (lw_at lw_m1 157 rfl) rfl
theorem q259 : (Jvm.Cond.soleField "ToldPowers" "latest") ∈ lw_all := lw_g (lw_at lw_m1 158 rfl) rfl
theorem q260 : (Jvm.Cond.laysFinal "ToldPowers" "ToldPowers" "tape" "[B") ∈ lw_all := lw_g (lw_at lw_m1 159 rfl) rfl
theorem q261 : (Jvm.Cond.soleField "ToldPowers" "tape") ∈ lw_all := lw_g (lw_at lw_m1 160 rfl) rfl
theorem q262 : (Jvm.Cond.lays "ToldPowers" "ToldPowers" "taped" "I") ∈ lw_all := lw_g (lw_at lw_m1 161 rfl) rfl
theorem q263 : (Jvm.Cond.soleField "ToldPowers" "taped") ∈ lw_all := lw_g (lw_at lw_m1 162 rfl) rfl
theorem q264 : (Jvm.Cond.laysFinal "ToldPowers" "ToldPowers" "classes" "[J") ∈ lw_all := lw_g (lw_at lw_m1 163 rfl) rfl
theorem q265 : (Jvm.Cond.soleField "ToldPowers" "classes") ∈ lw_all := lw_g (lw_at lw_m1 164 rfl) rfl
theorem q266 : (Jvm.Cond.laysFinal "ToldPowers" "ToldPowers" "next" "[J") ∈ lw_all := lw_g (lw_at lw_m1 165 rfl) rfl
theorem q267 : (Jvm.Cond.soleField "ToldPowers" "next") ∈ lw_all := lw_g (lw_at lw_m1 166 rfl) rfl
theorem q268 : (Jvm.Cond.laysFinal "ToldPowers" "ToldPowers" "can" "[[Z") ∈ lw_all := lw_g (lw_at lw_m1 167 rfl) rfl
theorem q269 : (Jvm.Cond.soleField "ToldPowers" "can") ∈ lw_all := lw_g (lw_at lw_m1 168 rfl) rfl
theorem q270 : (Jvm.Cond.lays "ToldPowers" "ToldPowers" "shown" "Ljava/lang/String;") ∈ lw_all := lw_g (lw_at lw_m1 169 rfl) rfl
theorem q271 : (Jvm.Cond.soleField "ToldPowers" "shown") ∈ lw_all := lw_g (lw_at lw_m1 170 rfl) rfl
theorem q272 : (Jvm.Cond.lays "ToldPowers" "ToldPowers" "rankedLatest" "LToldPowers$Ranked;") ∈ lw_all := lw_g (lw_at lw_m1 171 rfl) rfl
theorem q273 : (Jvm.Cond.soleField "ToldPowers" "rankedLatest") ∈ lw_all := lw_g (lw_at lw_m1 172 rfl) rfl
theorem q274 : (Jvm.Cond.superclass "ToldPowers" "java/lang/Object") ∈ lw_all := lw_g (lw_at lw_m1 173 rfl) rfl
theorem q279 : (Jvm.Cond.instanceMethod ({ cls := "ToldPowers", name := "feed", desc := "(IIIII)I" } : Jvm.MethodName)) ∈ lw_all := lw_g (lw_at lw_m1 178 rfl) rfl
theorem q280 : (Jvm.Cond.selects "ToldPowers" ({ cls := "ToldPowers", name := "feed", desc := "(IIIII)I" } : Jvm.MethodName) ({ cls := "ToldPowers", name := "feed", desc := "(IIIII)I" } : Jvm.MethodName)) ∈ lw_all := lw_g (lw_at lw_m1 179 rfl) rfl
theorem q281 : (Jvm.Cond.codeWith ({ cls := "ToldPowers", name := "feed", desc := "(IIIII)I" } : Jvm.MethodName) prog_1_method_20_code (9 : Nat) (Option.some Jvm.ClassFile.FieldType.int) [((74 : Nat), (107 : Nat), (108 : Nat), (15 : Nat))]) ∈ lw_all := lw_g (lw_at lw_m1 180 rfl) rfl
theorem q282 : (Jvm.Cond.classLink "ToldPowers" (15 : Nat) "java/lang/ArrayIndexOutOfBoundsException") ∈ lw_all := lw_g (lw_at lw_m1 181 rfl) rfl
theorem q372 : (Jvm.Cond.methodLink "ToldPowers" (91 : Nat) ({ cls := "java/lang/System", name := "arraycopy", desc := "(Ljava/lang/Object;ILjava/lang/Object;II)V" } : Jvm.MethodName)) ∈ lw_all := lw_g (lw_at lw_m2 31 rfl) rfl
theorem q377 : (Jvm.Cond.instanceMethod ({ cls := "ToldPowers", name := "end", desc := "(I)Z" } : Jvm.MethodName)) ∈ lw_all := lw_g (lw_at lw_m2 36 rfl) rfl
theorem q378 : (Jvm.Cond.selects "ToldPowers" ({ cls := "ToldPowers", name := "end", desc := "(I)Z" } : Jvm.MethodName) ({ cls := "ToldPowers", name := "end", desc := "(I)Z" } : Jvm.MethodName)) ∈ lw_all := lw_g (lw_at lw_m2 37 rfl) rfl
theorem q379 : (Jvm.Cond.code ({ cls := "ToldPowers", name := "end", desc := "(I)Z" } : Jvm.MethodName) prog_1_method_21_code (2 : Nat) (Option.some Jvm.ClassFile.FieldType.boolean)) ∈ lw_all := lw_g (lw_at lw_m2 38 rfl) rfl
theorem q380 : (Jvm.Cond.methodLink "ToldPowers" (21 : Nat) ({ cls := "ToldPowers", name := "isIn", desc := "(JJJ)Z" } : Jvm.MethodName)) ∈ lw_all := lw_g (lw_at lw_m2 39 rfl) rfl
theorem q381 : (Jvm.Cond.static ({ cls := "ToldPowers", name := "isIn", desc := "(JJJ)Z" } : Jvm.MethodName)) ∈ lw_all := lw_g (lw_at lw_m2 40 rfl) rfl
theorem q382 : (Jvm.Cond.code ({ cls := "ToldPowers", name := "isIn", desc := "(JJJ)Z" } : Jvm.MethodName) prog_1_method_1_code (6 : Nat) (Option.some Jvm.ClassFile.FieldType.boolean)) ∈ lw_all := lw_g (lw_at lw_m2 41 rfl) rfl
theorem q384 : (Jvm.Cond.instanceMethod ({ cls := "ToldPowers", name := "form", desc := "(I)I" } : Jvm.MethodName)) ∈ lw_all := lw_g (lw_at lw_m2 43 rfl) rfl
theorem q385 : (Jvm.Cond.selects "ToldPowers" ({ cls := "ToldPowers", name := "form", desc := "(I)I" } : Jvm.MethodName) ({ cls := "ToldPowers", name := "form", desc := "(I)I" } : Jvm.MethodName)) ∈ lw_all := lw_g (lw_at lw_m2 44 rfl) rfl
theorem q386 : (Jvm.Cond.codeWith ({ cls := "ToldPowers", name := "form", desc := "(I)I" } : Jvm.MethodName) prog_1_method_22_code (5 : Nat) (Option.some Jvm.ClassFile.FieldType.int) [((5 : Nat), (15 : Nat), (56 : Nat), (149 : Nat)), ((22 : Nat), (49 : Nat), (56 : Nat), (149 : Nat)), ((5 : Nat), (15 : Nat), (71 : Nat), (0 : Nat)), ((22 : Nat), (49 : Nat), (71 : Nat), (0 : Nat)), ((56 : Nat), (64 : Nat), (71 : Nat), (0 : Nat)), ((71 : Nat), (73 : Nat), (71 : Nat), (0 : Nat))]) ∈ lw_all := lw_g (lw_at lw_m2 45 rfl) rfl
theorem q387 : (Jvm.Cond.classLink "ToldPowers" (149 : Nat) "ToldPowers$Outer") ∈ lw_all := lw_g (lw_at lw_m2 46 rfl) rfl
theorem q388 : (Jvm.Cond.methodLink "ToldPowers" (226 : Nat) ({ cls := "ToldPowers", name := "isSlot", desc := "(I)Z" } : Jvm.MethodName)) ∈ lw_all := lw_g (lw_at lw_m2 47 rfl) rfl
theorem q389 : (Jvm.Cond.static ({ cls := "ToldPowers", name := "isSlot", desc := "(I)Z" } : Jvm.MethodName)) ∈ lw_all := lw_g (lw_at lw_m2 48 rfl) rfl
theorem q390 : (Jvm.Cond.code ({ cls := "ToldPowers", name := "isSlot", desc := "(I)Z" } : Jvm.MethodName) prog_1_method_3_code (1 : Nat) (Option.some Jvm.ClassFile.FieldType.boolean)) ∈ lw_all := lw_g (lw_at lw_m2 49 rfl) rfl
theorem q391 : (Jvm.Cond.constantLong "ToldPowers" (19 : Nat) (3 : Int64)) ∈ lw_all := lw_g (lw_at lw_m2 50 rfl) rfl
theorem q392 : (Jvm.Cond.classLink "ToldPowers" (229 : Nat) "ToldPowers$Reader") ∈ lw_all := lw_g (lw_at lw_m2 51 rfl) rfl
theorem q394 : (Jvm.Cond.methodLink "ToldPowers" (231 : Nat) ({ cls := "ToldPowers$Reader", name := "<init>", desc := "(LToldPowers;)V" } : Jvm.MethodName)) ∈ lw_all := lw_g (lw_at lw_m2 53 rfl) rfl
theorem q419 : (Jvm.Cond.methodLink "ToldPowers" (234 : Nat) ({ cls := "ToldPowers$Reader", name := "form", desc := "()LToldPowers$Form;" } : Jvm.MethodName)) ∈ lw_all := lw_g (lw_at lw_m2 78 rfl) rfl
theorem q681 : (Jvm.Cond.fieldLinkNest "ToldPowers" (142 : Nat) "ToldPowers$Wrong" "kind" "I" "ToldPowers") ∈ lw_tbl := lw_at lw_m3 100 rfl
theorem q683 : (Jvm.Cond.fieldLinkNest "ToldPowers" (145 : Nat) "ToldPowers$Wrong" "place" "I" "ToldPowers") ∈ lw_tbl := lw_at lw_m3 102 rfl
theorem q710 : (Jvm.Cond.fieldLinkNest "ToldPowers" (259 : Nat) "ToldPowers$Term" "factor" "I" "ToldPowers") ∈ lw_tbl := lw_at lw_m3 129 rfl
theorem q712 : (Jvm.Cond.fieldLinkNest "ToldPowers" (51 : Nat) "ToldPowers$Term" "low" "I" "ToldPowers") ∈ lw_tbl := lw_at lw_m3 131 rfl
theorem q715 : (Jvm.Cond.fieldLinkNest "ToldPowers" (57 : Nat) "ToldPowers$Term" "high" "I" "ToldPowers") ∈ lw_tbl := lw_at lw_m3 134 rfl
theorem q718 : (Jvm.Cond.fieldLinkNest "ToldPowers" (262 : Nat) "ToldPowers$Term" "kind" "LToldPowers$Kind;" "ToldPowers") ∈ lw_tbl := lw_at lw_m3 137 rfl
theorem q794 : (Jvm.Cond.selects "ToldPowers" ({ cls := "java/lang/Object", name := "getClass", desc := "()Ljava/lang/Class;" } : Jvm.MethodName) ({ cls := "java/lang/Object", name := "getClass", desc := "()Ljava/lang/Class;" } : Jvm.MethodName)) ∈ lw_all := lw_g (lw_at lw_m3 213 rfl) rfl
theorem q856 : (Jvm.Cond.fieldLinkNest "ToldPowers" (148 : Nat) "ToldPowers$Outer" "which" "I" "ToldPowers") ∈ lw_tbl := lw_at lw_m4 35 rfl
theorem q885 : (Jvm.Cond.fieldLinkNest "ToldPowers" (47 : Nat) "ToldPowers$Form" "terms" "[LToldPowers$Term;" "ToldPowers") ∈ lw_tbl := lw_at lw_m4 64 rfl
theorem q890 : (Jvm.Cond.methodLink "ToldPowers" (9 : Nat) ({ cls := "ToldPowers$Form", name := "many", desc := "()I" } : Jvm.MethodName)) ∈ lw_all := lw_g (lw_at lw_m4 69 rfl) rfl
theorem q895 : (Jvm.Cond.instanceMethod ({ cls := "ToldPowers", name := "prove", desc := "(I)I" } : Jvm.MethodName)) ∈ lw_all := lw_g (lw_at lw_m4 74 rfl) rfl
theorem q896 : (Jvm.Cond.selects "ToldPowers" ({ cls := "ToldPowers", name := "prove", desc := "(I)I" } : Jvm.MethodName) ({ cls := "ToldPowers", name := "prove", desc := "(I)I" } : Jvm.MethodName)) ∈ lw_all := lw_g (lw_at lw_m4 75 rfl) rfl
theorem q897 : (Jvm.Cond.codeWith ({ cls := "ToldPowers", name := "prove", desc := "(I)I" } : Jvm.MethodName) prog_1_method_23_code (5 : Nat) (Option.some Jvm.ClassFile.FieldType.int) [((5 : Nat), (33 : Nat), (40 : Nat), (149 : Nat)), ((5 : Nat), (33 : Nat), (55 : Nat), (0 : Nat)), ((40 : Nat), (48 : Nat), (55 : Nat), (0 : Nat)), ((55 : Nat), (57 : Nat), (55 : Nat), (0 : Nat))]) ∈ lw_all := lw_g (lw_at lw_m4 76 rfl) rfl
theorem q898 : (Jvm.Cond.methodLink "ToldPowers" (238 : Nat) ({ cls := "ToldPowers", name := "at", desc := "(I)LToldPowers$Form;" } : Jvm.MethodName)) ∈ lw_all := lw_g (lw_at lw_m4 77 rfl) rfl
theorem q899 : (Jvm.Cond.privateMethod ({ cls := "ToldPowers", name := "at", desc := "(I)LToldPowers$Form;" } : Jvm.MethodName)) ∈ lw_tbl := lw_at lw_m4 78 rfl
theorem q900 : (Jvm.Cond.instanceMethod ({ cls := "ToldPowers", name := "at", desc := "(I)LToldPowers$Form;" } : Jvm.MethodName)) ∈ lw_all := lw_g (lw_at lw_m4 79 rfl) rfl
theorem q901 : (Jvm.Cond.codeWith ({ cls := "ToldPowers", name := "at", desc := "(I)LToldPowers$Form;" } : Jvm.MethodName) prog_1_method_2_code (3 : Nat) (Option.some (Jvm.ClassFile.FieldType.object "ToldPowers$Form")) [((0 : Nat), (22 : Nat), (23 : Nat), (15 : Nat)), ((0 : Nat), (22 : Nat), (23 : Nat), (17 : Nat))]) ∈ lw_all := lw_g (lw_at lw_m4 80 rfl) rfl
theorem q902 : (Jvm.Cond.classLink "ToldPowers" (17 : Nat) "java/lang/NullPointerException") ∈ lw_all := lw_g (lw_at lw_m4 81 rfl) rfl
theorem q927 : (Jvm.Cond.methodLink "ToldPowers" (242 : Nat) ({ cls := "ToldPowers$Reader", name := "proof", desc := "(LToldPowers$Form;)I" } : Jvm.MethodName)) ∈ lw_all := lw_g (lw_at lw_m4 106 rfl) rfl
theorem q976 : (Jvm.Cond.static ({ cls := "ToldPowers", name := "isNumber", desc := "(I)Z" } : Jvm.MethodName)) ∈ lw_all := lw_g (lw_at lw_m4 155 rfl) rfl
theorem q977 : (Jvm.Cond.code ({ cls := "ToldPowers", name := "isNumber", desc := "(I)Z" } : Jvm.MethodName) prog_1_method_4_code (1 : Nat) (Option.some Jvm.ClassFile.FieldType.boolean)) ∈ lw_all := lw_g (lw_at lw_m4 156 rfl) rfl
theorem q978 : (Jvm.Cond.constantLong "ToldPowers" (25 : Nat) (-3000 : Int64)) ∈ lw_all := lw_g (lw_at lw_m4 157 rfl) rfl
theorem q979 : (Jvm.Cond.constantLong "ToldPowers" (27 : Nat) (3000 : Int64)) ∈ lw_all := lw_g (lw_at lw_m4 158 rfl) rfl
theorem q1373 : (Jvm.Cond.privateMethod ({ cls := "ToldPowers", name := "waysOf", desc := "(LToldPowers$Form;I)J" } : Jvm.MethodName)) ∈ lw_tbl := lw_at lw_m6 72 rfl
theorem q1374 : (Jvm.Cond.instanceMethod ({ cls := "ToldPowers", name := "waysOf", desc := "(LToldPowers$Form;I)J" } : Jvm.MethodName)) ∈ lw_all := lw_g (lw_at lw_m6 73 rfl) rfl
theorem q1375 : (Jvm.Cond.code ({ cls := "ToldPowers", name := "waysOf", desc := "(LToldPowers$Form;I)J" } : Jvm.MethodName) prog_1_method_8_code (3 : Nat) (Option.some Jvm.ClassFile.FieldType.long)) ∈ lw_all := lw_g (lw_at lw_m6 74 rfl) rfl
theorem q1376 : (Jvm.Cond.methodLink "ToldPowers" (74 : Nat) ({ cls := "ToldPowers", name := "laysWays", desc := "(LToldPowers$Form;)V" } : Jvm.MethodName)) ∈ lw_all := lw_g (lw_at lw_m6 75 rfl) rfl
theorem q1377 : (Jvm.Cond.privateMethod ({ cls := "ToldPowers", name := "laysWays", desc := "(LToldPowers$Form;)V" } : Jvm.MethodName)) ∈ lw_tbl := lw_at lw_m6 76 rfl
theorem q1378 : (Jvm.Cond.instanceMethod ({ cls := "ToldPowers", name := "laysWays", desc := "(LToldPowers$Form;)V" } : Jvm.MethodName)) ∈ lw_all := lw_g (lw_at lw_m6 77 rfl) rfl
theorem q1379 : (Jvm.Cond.code ({ cls := "ToldPowers", name := "laysWays", desc := "(LToldPowers$Form;)V" } : Jvm.MethodName) prog_1_method_6_code (4 : Nat) (Option.none : Option Jvm.ClassFile.FieldType)) ∈ lw_all := lw_g (lw_at lw_m6 78 rfl) rfl
theorem q1380 : (Jvm.Cond.methodLink "ToldPowers" (41 : Nat) ({ cls := "java/util/Arrays", name := "fill", desc := "([JJ)V" } : Jvm.MethodName)) ∈ lw_all := lw_g (lw_at lw_m6 79 rfl) rfl
theorem q1383 : (Jvm.Cond.methodLink "ToldPowers" (60 : Nat) ({ cls := "ToldPowers$Term", name := "value", desc := "(J)J" } : Jvm.MethodName)) ∈ lw_all := lw_g (lw_at lw_m6 82 rfl) rfl
theorem q1384 : (Jvm.Cond.methodLink "ToldPowers" (64 : Nat) ({ cls := "ToldPowers", name := "adds", desc := "([J[JI)V" } : Jvm.MethodName)) ∈ lw_all := lw_g (lw_at lw_m6 83 rfl) rfl
theorem q1385 : (Jvm.Cond.static ({ cls := "ToldPowers", name := "adds", desc := "([J[JI)V" } : Jvm.MethodName)) ∈ lw_all := lw_g (lw_at lw_m6 84 rfl) rfl
theorem q1386 : (Jvm.Cond.code ({ cls := "ToldPowers", name := "adds", desc := "([J[JI)V" } : Jvm.MethodName) prog_1_method_7_code (4 : Nat) (Option.none : Option Jvm.ClassFile.FieldType)) ∈ lw_all := lw_g (lw_at lw_m6 85 rfl) rfl
theorem q1387 : (Jvm.Cond.methodLink "ToldPowers" (68 : Nat) ({ cls := "java/lang/Math", name := "max", desc := "(II)I" } : Jvm.MethodName)) ∈ lw_all := lw_g (lw_at lw_m6 86 rfl) rfl
theorem q1406 : (Jvm.Cond.fieldLinkNest "ToldPowers" (156 : Nat) "ToldPowers$Inner" "which" "I" "ToldPowers") ∈ lw_tbl := lw_at lw_m6 105 rfl
theorem q1412 : (Jvm.Cond.instanceMethod ({ cls := "ToldPowers", name := "identity", desc := "()I" } : Jvm.MethodName)) ∈ lw_all := lw_g (lw_at lw_m6 111 rfl) rfl
theorem q1413 : (Jvm.Cond.selects "ToldPowers" ({ cls := "ToldPowers", name := "identity", desc := "()I" } : Jvm.MethodName) ({ cls := "ToldPowers", name := "identity", desc := "()I" } : Jvm.MethodName)) ∈ lw_all := lw_g (lw_at lw_m6 112 rfl) rfl
theorem q1414 : (Jvm.Cond.codeWith ({ cls := "ToldPowers", name := "identity", desc := "()I" } : Jvm.MethodName) prog_1_method_24_code (4 : Nat) (Option.some Jvm.ClassFile.FieldType.int) [((5 : Nat), (24 : Nat), (31 : Nat), (149 : Nat)), ((5 : Nat), (24 : Nat), (46 : Nat), (0 : Nat)), ((31 : Nat), (39 : Nat), (46 : Nat), (0 : Nat))]) ∈ lw_all := lw_g (lw_at lw_m6 113 rfl) rfl
theorem q1415 : (Jvm.Cond.methodLink "ToldPowers" (246 : Nat) ({ cls := "ToldPowers$Reader", name := "identity", desc := "()V" } : Jvm.MethodName)) ∈ lw_all := lw_g (lw_at lw_m6 114 rfl) rfl
theorem q1467 : (Jvm.Cond.static ({ cls := "ToldPowers", name := "plain", desc := "(J)LToldPowers$Sum;" } : Jvm.MethodName)) ∈ lw_all := lw_g (lw_at lw_m6 166 rfl) rfl
theorem q1468 : (Jvm.Cond.code ({ cls := "ToldPowers", name := "plain", desc := "(J)LToldPowers$Sum;" } : Jvm.MethodName) prog_1_method_13_code (2 : Nat) (Option.some (Jvm.ClassFile.FieldType.object "ToldPowers$Sum"))) ∈ lw_all := lw_g (lw_at lw_m6 167 rfl) rfl
theorem q1469 : (Jvm.Cond.classLink "ToldPowers" (105 : Nat) "ToldPowers$1") ∈ lw_all := lw_g (lw_at lw_m6 168 rfl) rfl
theorem q1471 : (Jvm.Cond.methodLink "ToldPowers" (107 : Nat) ({ cls := "ToldPowers$1", name := "<init>", desc := "(J)V" } : Jvm.MethodName)) ∈ lw_all := lw_g (lw_at lw_m6 170 rfl) rfl
theorem q1483 : (Jvm.Cond.static ({ cls := "ToldPowers", name := "letter", desc := "(I)LToldPowers$Sum;" } : Jvm.MethodName)) ∈ lw_all := lw_g (lw_at lw_m6 182 rfl) rfl
theorem q1484 : (Jvm.Cond.code ({ cls := "ToldPowers", name := "letter", desc := "(I)LToldPowers$Sum;" } : Jvm.MethodName) prog_1_method_14_code (1 : Nat) (Option.some (Jvm.ClassFile.FieldType.object "ToldPowers$Sum"))) ∈ lw_all := lw_g (lw_at lw_m6 183 rfl) rfl
theorem q1485 : (Jvm.Cond.classLink "ToldPowers" (111 : Nat) "ToldPowers$2") ∈ lw_all := lw_g (lw_at lw_m6 184 rfl) rfl
theorem q1487 : (Jvm.Cond.methodLink "ToldPowers" (113 : Nat) ({ cls := "ToldPowers$2", name := "<init>", desc := "(I)V" } : Jvm.MethodName)) ∈ lw_all := lw_g (lw_at lw_m6 186 rfl) rfl
theorem q1496 : (Jvm.Cond.static ({ cls := "ToldPowers", name := "power", desc := "(LToldPowers$Sum;I)LToldPowers$Sum;" } : Jvm.MethodName)) ∈ lw_all := lw_g (lw_at lw_m6 195 rfl) rfl
theorem q1497 : (Jvm.Cond.code ({ cls := "ToldPowers", name := "power", desc := "(LToldPowers$Sum;I)LToldPowers$Sum;" } : Jvm.MethodName) prog_1_method_16_code (2 : Nat) (Option.some (Jvm.ClassFile.FieldType.object "ToldPowers$Sum"))) ∈ lw_all := lw_g (lw_at lw_m6 196 rfl) rfl
theorem q1498 : (Jvm.Cond.classLink "ToldPowers" (121 : Nat) "ToldPowers$4") ∈ lw_all := lw_g (lw_at lw_m6 197 rfl) rfl
theorem q1500 : (Jvm.Cond.methodLink "ToldPowers" (123 : Nat) ({ cls := "ToldPowers$4", name := "<init>", desc := "(LToldPowers$Sum;I)V" } : Jvm.MethodName)) ∈ lw_all := lw_g (lw_at lw_m6 199 rfl) rfl
theorem q1512 : (Jvm.Cond.static ({ cls := "ToldPowers", name := "both", desc := "(ILToldPowers$Sum;LToldPowers$Sum;)LToldPowers$Sum;" } : Jvm.MethodName)) ∈ lw_all := lw_g (lw_at lw_m6 211 rfl) rfl
theorem q1513 : (Jvm.Cond.code ({ cls := "ToldPowers", name := "both", desc := "(ILToldPowers$Sum;LToldPowers$Sum;)LToldPowers$Sum;" } : Jvm.MethodName) prog_1_method_15_code (3 : Nat) (Option.some (Jvm.ClassFile.FieldType.object "ToldPowers$Sum"))) ∈ lw_all := lw_g (lw_at lw_m6 212 rfl) rfl
theorem q1514 : (Jvm.Cond.classLink "ToldPowers" (116 : Nat) "ToldPowers$3") ∈ lw_all := lw_g (lw_at lw_m6 213 rfl) rfl
theorem q1516 : (Jvm.Cond.methodLink "ToldPowers" (118 : Nat) ({ cls := "ToldPowers$3", name := "<init>", desc := "(LToldPowers$Sum;LToldPowers$Sum;I)V" } : Jvm.MethodName)) ∈ lw_all := lw_g (lw_at lw_m6 215 rfl) rfl
theorem q1530 : (Jvm.Cond.methodLink "ToldPowers" (252 : Nat) ({ cls := "java/lang/Integer", name := "bitCount", desc := "(I)I" } : Jvm.MethodName)) ∈ lw_all := lw_g (lw_at lw_m6 229 rfl) rfl
theorem q1537 : (Jvm.Cond.instanceMethod ({ cls := "ToldPowers", name := "term", desc := "(III)I" } : Jvm.MethodName)) ∈ lw_all := lw_g (lw_at lw_m6 236 rfl) rfl
theorem q1538 : (Jvm.Cond.selects "ToldPowers" ({ cls := "ToldPowers", name := "term", desc := "(III)I" } : Jvm.MethodName) ({ cls := "ToldPowers", name := "term", desc := "(III)I" } : Jvm.MethodName)) ∈ lw_all := lw_g (lw_at lw_m6 237 rfl) rfl
theorem q1539 : (Jvm.Cond.code ({ cls := "ToldPowers", name := "term", desc := "(III)I" } : Jvm.MethodName) prog_1_method_25_code (6 : Nat) (Option.some Jvm.ClassFile.FieldType.int)) ∈ lw_all := lw_g (lw_at lw_m6 238 rfl) rfl
theorem q1540 : (Jvm.Cond.constant "ToldPowers" (258 : Nat) (-100000 : Int32)) ∈ lw_all := lw_g (lw_at lw_m6 239 rfl) rfl
theorem q1541 : (Jvm.Cond.methodLink "ToldPowers" (264 : Nat) ({ cls := "ToldPowers$Kind", name := "ordinal", desc := "()I" } : Jvm.MethodName)) ∈ lw_all := lw_g (lw_at lw_m7 0 rfl) rfl
theorem q1552 : (Jvm.Cond.instanceMethod ({ cls := "ToldPowers", name := "ways", desc := "(II)J" } : Jvm.MethodName)) ∈ lw_all := lw_g (lw_at lw_m7 11 rfl) rfl
theorem q1553 : (Jvm.Cond.selects "ToldPowers" ({ cls := "ToldPowers", name := "ways", desc := "(II)J" } : Jvm.MethodName) ({ cls := "ToldPowers", name := "ways", desc := "(II)J" } : Jvm.MethodName)) ∈ lw_all := lw_g (lw_at lw_m7 12 rfl) rfl
theorem q1554 : (Jvm.Cond.code ({ cls := "ToldPowers", name := "ways", desc := "(II)J" } : Jvm.MethodName) prog_1_method_26_code (4 : Nat) (Option.some Jvm.ClassFile.FieldType.long)) ∈ lw_all := lw_g (lw_at lw_m7 13 rfl) rfl
theorem q1555 : (Jvm.Cond.methodLink "ToldPowers" (29 : Nat) ({ cls := "ToldPowers", name := "isNumber", desc := "(I)Z" } : Jvm.MethodName)) ∈ lw_all := lw_g (lw_at lw_m7 14 rfl) rfl
theorem q1556 : (Jvm.Cond.constantLong "ToldPowers" (97 : Nat) (-1 : Int64)) ∈ lw_all := lw_g (lw_at lw_m7 15 rfl) rfl
theorem q1557 : (Jvm.Cond.methodLink "ToldPowers" (267 : Nat) ({ cls := "ToldPowers", name := "waysOf", desc := "(LToldPowers$Form;I)J" } : Jvm.MethodName)) ∈ lw_all := lw_g (lw_at lw_m7 16 rfl) rfl
theorem q1559 : (Jvm.Cond.instanceMethod ({ cls := "ToldPowers", name := "unlike", desc := "(II)J" } : Jvm.MethodName)) ∈ lw_all := lw_g (lw_at lw_m7 18 rfl) rfl
theorem q1560 : (Jvm.Cond.selects "ToldPowers" ({ cls := "ToldPowers", name := "unlike", desc := "(II)J" } : Jvm.MethodName) ({ cls := "ToldPowers", name := "unlike", desc := "(II)J" } : Jvm.MethodName)) ∈ lw_all := lw_g (lw_at lw_m7 19 rfl) rfl
theorem q1561 : (Jvm.Cond.code ({ cls := "ToldPowers", name := "unlike", desc := "(II)J" } : Jvm.MethodName) prog_1_method_27_code (4 : Nat) (Option.some Jvm.ClassFile.FieldType.long)) ∈ lw_all := lw_g (lw_at lw_m7 20 rfl) rfl
theorem q1562 : (Jvm.Cond.methodLink "ToldPowers" (271 : Nat) ({ cls := "ToldPowers", name := "unlikeOf", desc := "(LToldPowers$Form;I)J" } : Jvm.MethodName)) ∈ lw_all := lw_g (lw_at lw_m7 21 rfl) rfl
theorem q1563 : (Jvm.Cond.privateMethod ({ cls := "ToldPowers", name := "unlikeOf", desc := "(LToldPowers$Form;I)J" } : Jvm.MethodName)) ∈ lw_tbl := lw_at lw_m7 22 rfl
theorem q1564 : (Jvm.Cond.instanceMethod ({ cls := "ToldPowers", name := "unlikeOf", desc := "(LToldPowers$Form;I)J" } : Jvm.MethodName)) ∈ lw_all := lw_g (lw_at lw_m7 23 rfl) rfl
theorem q1565 : (Jvm.Cond.code ({ cls := "ToldPowers", name := "unlikeOf", desc := "(LToldPowers$Form;I)J" } : Jvm.MethodName) prog_1_method_9_code (3 : Nat) (Option.some Jvm.ClassFile.FieldType.long)) ∈ lw_all := lw_g (lw_at lw_m7 24 rfl) rfl
theorem q1566 : (Jvm.Cond.methodLink "ToldPowers" (81 : Nat) ({ cls := "ToldPowers", name := "laysUnlike", desc := "(LToldPowers$Form;)V" } : Jvm.MethodName)) ∈ lw_all := lw_g (lw_at lw_m7 25 rfl) rfl
theorem q1567 : (Jvm.Cond.privateMethod ({ cls := "ToldPowers", name := "laysUnlike", desc := "(LToldPowers$Form;)V" } : Jvm.MethodName)) ∈ lw_tbl := lw_at lw_m7 26 rfl
theorem q1568 : (Jvm.Cond.instanceMethod ({ cls := "ToldPowers", name := "laysUnlike", desc := "(LToldPowers$Form;)V" } : Jvm.MethodName)) ∈ lw_all := lw_g (lw_at lw_m7 27 rfl) rfl
theorem q1569 : (Jvm.Cond.code ({ cls := "ToldPowers", name := "laysUnlike", desc := "(LToldPowers$Form;)V" } : Jvm.MethodName) prog_1_method_10_code (6 : Nat) (Option.none : Option Jvm.ClassFile.FieldType)) ∈ lw_all := lw_g (lw_at lw_m7 28 rfl) rfl
theorem q1570 : (Jvm.Cond.methodLink "ToldPowers" (87 : Nat) ({ cls := "ToldPowers$Term", name := "isLike", desc := "(LToldPowers$Term;)Z" } : Jvm.MethodName)) ∈ lw_all := lw_g (lw_at lw_m7 29 rfl) rfl
theorem q1575 : (Jvm.Cond.instanceMethod ({ cls := "ToldPowers", name := "way", desc := "(IIJI)I" } : Jvm.MethodName)) ∈ lw_all := lw_g (lw_at lw_m7 34 rfl) rfl
theorem q1576 : (Jvm.Cond.selects "ToldPowers" ({ cls := "ToldPowers", name := "way", desc := "(IIJI)I" } : Jvm.MethodName) ({ cls := "ToldPowers", name := "way", desc := "(IIJI)I" } : Jvm.MethodName)) ∈ lw_all := lw_g (lw_at lw_m7 35 rfl) rfl
theorem q1577 : (Jvm.Cond.code ({ cls := "ToldPowers", name := "way", desc := "(IIJI)I" } : Jvm.MethodName) prog_1_method_29_code (13 : Nat) (Option.some Jvm.ClassFile.FieldType.int)) ∈ lw_all := lw_g (lw_at lw_m7 36 rfl) rfl
theorem q1578 : (Jvm.Cond.methodLink "ToldPowers" (278 : Nat) ({ cls := "ToldPowers", name := "rest", desc := "(IJ)J" } : Jvm.MethodName)) ∈ lw_all := lw_g (lw_at lw_m7 37 rfl) rfl
theorem q1579 : (Jvm.Cond.privateMethod ({ cls := "ToldPowers", name := "rest", desc := "(IJ)J" } : Jvm.MethodName)) ∈ lw_tbl := lw_at lw_m7 38 rfl
theorem q1580 : (Jvm.Cond.instanceMethod ({ cls := "ToldPowers", name := "rest", desc := "(IJ)J" } : Jvm.MethodName)) ∈ lw_all := lw_g (lw_at lw_m7 39 rfl) rfl
theorem q1581 : (Jvm.Cond.code ({ cls := "ToldPowers", name := "rest", desc := "(IJ)J" } : Jvm.MethodName) prog_1_method_28_code (4 : Nat) (Option.some Jvm.ClassFile.FieldType.long)) ∈ lw_all := lw_g (lw_at lw_m7 40 rfl) rfl
theorem q1582 : (Jvm.Cond.constantLong "ToldPowers" (274 : Nat) (-15000 : Int64)) ∈ lw_all := lw_g (lw_at lw_m7 41 rfl) rfl
theorem q1583 : (Jvm.Cond.constantLong "ToldPowers" (276 : Nat) (15000 : Int64)) ∈ lw_all := lw_g (lw_at lw_m7 42 rfl) rfl
theorem q1585 : (Jvm.Cond.instanceMethod ({ cls := "ToldPowers", name := "number", desc := "(IIIIIII)J" } : Jvm.MethodName)) ∈ lw_all := lw_g (lw_at lw_m7 44 rfl) rfl
theorem q1586 : (Jvm.Cond.selects "ToldPowers" ({ cls := "ToldPowers", name := "number", desc := "(IIIIIII)J" } : Jvm.MethodName) ({ cls := "ToldPowers", name := "number", desc := "(IIIIIII)J" } : Jvm.MethodName)) ∈ lw_all := lw_g (lw_at lw_m7 45 rfl) rfl
theorem q1587 : (Jvm.Cond.code ({ cls := "ToldPowers", name := "number", desc := "(IIIIIII)J" } : Jvm.MethodName) prog_1_method_30_code (16 : Nat) (Option.some Jvm.ClassFile.FieldType.long)) ∈ lw_all := lw_g (lw_at lw_m7 46 rfl) rfl
theorem q1589 : (Jvm.Cond.instanceMethod ({ cls := "ToldPowers", name := "missed", desc := "(IIII)I" } : Jvm.MethodName)) ∈ lw_all := lw_g (lw_at lw_m7 48 rfl) rfl
theorem q1590 : (Jvm.Cond.selects "ToldPowers" ({ cls := "ToldPowers", name := "missed", desc := "(IIII)I" } : Jvm.MethodName) ({ cls := "ToldPowers", name := "missed", desc := "(IIII)I" } : Jvm.MethodName)) ∈ lw_all := lw_g (lw_at lw_m7 49 rfl) rfl
theorem q1591 : (Jvm.Cond.code ({ cls := "ToldPowers", name := "missed", desc := "(IIII)I" } : Jvm.MethodName) prog_1_method_31_code (8 : Nat) (Option.some Jvm.ClassFile.FieldType.int)) ∈ lw_all := lw_g (lw_at lw_m7 50 rfl) rfl
theorem q1592 : (Jvm.Cond.methodLink "ToldPowers" (282 : Nat) ({ cls := "ToldPowers", name := "isSpan", desc := "(II)Z" } : Jvm.MethodName)) ∈ lw_all := lw_g (lw_at lw_m7 51 rfl) rfl
theorem q1593 : (Jvm.Cond.static ({ cls := "ToldPowers", name := "isSpan", desc := "(II)Z" } : Jvm.MethodName)) ∈ lw_all := lw_g (lw_at lw_m7 52 rfl) rfl
theorem q1594 : (Jvm.Cond.code ({ cls := "ToldPowers", name := "isSpan", desc := "(II)Z" } : Jvm.MethodName) prog_1_method_5_code (2 : Nat) (Option.some Jvm.ClassFile.FieldType.boolean)) ∈ lw_all := lw_g (lw_at lw_m7 53 rfl) rfl
theorem q1596 : (Jvm.Cond.instanceMethod ({ cls := "ToldPowers", name := "explained", desc := "(IIII)I" } : Jvm.MethodName)) ∈ lw_all := lw_g (lw_at lw_m7 55 rfl) rfl
theorem q1597 : (Jvm.Cond.selects "ToldPowers" ({ cls := "ToldPowers", name := "explained", desc := "(IIII)I" } : Jvm.MethodName) ({ cls := "ToldPowers", name := "explained", desc := "(IIII)I" } : Jvm.MethodName)) ∈ lw_all := lw_g (lw_at lw_m7 56 rfl) rfl
theorem q1598 : (Jvm.Cond.code ({ cls := "ToldPowers", name := "explained", desc := "(IIII)I" } : Jvm.MethodName) prog_1_method_34_code (8 : Nat) (Option.some Jvm.ClassFile.FieldType.int)) ∈ lw_all := lw_g (lw_at lw_m7 57 rfl) rfl
theorem q1599 : (Jvm.Cond.methodLink "ToldPowers" (291 : Nat) ({ cls := "ToldPowers", name := "isModulus", desc := "(I)Z" } : Jvm.MethodName)) ∈ lw_all := lw_g (lw_at lw_m7 58 rfl) rfl
theorem q1600 : (Jvm.Cond.static ({ cls := "ToldPowers", name := "isModulus", desc := "(I)Z" } : Jvm.MethodName)) ∈ lw_all := lw_g (lw_at lw_m7 59 rfl) rfl
theorem q1601 : (Jvm.Cond.code ({ cls := "ToldPowers", name := "isModulus", desc := "(I)Z" } : Jvm.MethodName) prog_1_method_33_code (1 : Nat) (Option.some Jvm.ClassFile.FieldType.boolean)) ∈ lw_all := lw_g (lw_at lw_m7 60 rfl) rfl
theorem q1602 : (Jvm.Cond.constantLong "ToldPowers" (289 : Nat) (60 : Int64)) ∈ lw_all := lw_g (lw_at lw_m7 61 rfl) rfl
theorem q1603 : (Jvm.Cond.methodLink "ToldPowers" (294 : Nat) ({ cls := "ToldPowers", name := "laysClasses", desc := "(LToldPowers$Form;I)V" } : Jvm.MethodName)) ∈ lw_all := lw_g (lw_at lw_m7 62 rfl) rfl
theorem q1604 : (Jvm.Cond.privateMethod ({ cls := "ToldPowers", name := "laysClasses", desc := "(LToldPowers$Form;I)V" } : Jvm.MethodName)) ∈ lw_tbl := lw_at lw_m7 63 rfl
theorem q1605 : (Jvm.Cond.instanceMethod ({ cls := "ToldPowers", name := "laysClasses", desc := "(LToldPowers$Form;I)V" } : Jvm.MethodName)) ∈ lw_all := lw_g (lw_at lw_m7 64 rfl) rfl
theorem q1606 : (Jvm.Cond.code ({ cls := "ToldPowers", name := "laysClasses", desc := "(LToldPowers$Form;I)V" } : Jvm.MethodName) prog_1_method_32_code (10 : Nat) (Option.none : Option Jvm.ClassFile.FieldType)) ∈ lw_all := lw_g (lw_at lw_m7 65 rfl) rfl
theorem q1607 : (Jvm.Cond.methodLink "ToldPowers" (286 : Nat) ({ cls := "ToldPowers$Term", name := "rounds", desc := "(I)I" } : Jvm.MethodName)) ∈ lw_all := lw_g (lw_at lw_m7 66 rfl) rfl
theorem q1612 : (Jvm.Cond.methodLink "ToldPowers" (298 : Nat) ({ cls := "java/lang/Math", name := "floorMod", desc := "(II)I" } : Jvm.MethodName)) ∈ lw_all := lw_g (lw_at lw_m7 71 rfl) rfl
theorem q1616 : (Jvm.Cond.instanceMethod ({ cls := "ToldPowers", name := "full", desc := "(I)I" } : Jvm.MethodName)) ∈ lw_all := lw_g (lw_at lw_m7 75 rfl) rfl
theorem q1617 : (Jvm.Cond.selects "ToldPowers" ({ cls := "ToldPowers", name := "full", desc := "(I)I" } : Jvm.MethodName) ({ cls := "ToldPowers", name := "full", desc := "(I)I" } : Jvm.MethodName)) ∈ lw_all := lw_g (lw_at lw_m7 76 rfl) rfl
theorem q1618 : (Jvm.Cond.code ({ cls := "ToldPowers", name := "full", desc := "(I)I" } : Jvm.MethodName) prog_1_method_35_code (4 : Nat) (Option.some Jvm.ClassFile.FieldType.int)) ∈ lw_all := lw_g (lw_at lw_m7 77 rfl) rfl
theorem q1620 : (Jvm.Cond.instanceMethod ({ cls := "ToldPowers", name := "met", desc := "(III)J" } : Jvm.MethodName)) ∈ lw_all := lw_g (lw_at lw_m7 79 rfl) rfl
theorem q1621 : (Jvm.Cond.selects "ToldPowers" ({ cls := "ToldPowers", name := "met", desc := "(III)J" } : Jvm.MethodName) ({ cls := "ToldPowers", name := "met", desc := "(III)J" } : Jvm.MethodName)) ∈ lw_all := lw_g (lw_at lw_m7 80 rfl) rfl
theorem q1622 : (Jvm.Cond.code ({ cls := "ToldPowers", name := "met", desc := "(III)J" } : Jvm.MethodName) prog_1_method_36_code (5 : Nat) (Option.some Jvm.ClassFile.FieldType.long)) ∈ lw_all := lw_g (lw_at lw_m7 81 rfl) rfl
theorem q1624 : (Jvm.Cond.instanceMethod ({ cls := "ToldPowers", name := "meets", desc := "(IIII)I" } : Jvm.MethodName)) ∈ lw_all := lw_g (lw_at lw_m7 83 rfl) rfl
theorem q1625 : (Jvm.Cond.selects "ToldPowers" ({ cls := "ToldPowers", name := "meets", desc := "(IIII)I" } : Jvm.MethodName) ({ cls := "ToldPowers", name := "meets", desc := "(IIII)I" } : Jvm.MethodName)) ∈ lw_all := lw_g (lw_at lw_m7 84 rfl) rfl
theorem q1626 : (Jvm.Cond.code ({ cls := "ToldPowers", name := "meets", desc := "(IIII)I" } : Jvm.MethodName) prog_1_method_38_code (10 : Nat) (Option.some Jvm.ClassFile.FieldType.int)) ∈ lw_all := lw_g (lw_at lw_m7 85 rfl) rfl
theorem q1627 : (Jvm.Cond.methodLink "ToldPowers" (304 : Nat) ({ cls := "ToldPowers", name := "laysCan", desc := "(LToldPowers$Form;I)V" } : Jvm.MethodName)) ∈ lw_all := lw_g (lw_at lw_m7 86 rfl) rfl
theorem q1628 : (Jvm.Cond.privateMethod ({ cls := "ToldPowers", name := "laysCan", desc := "(LToldPowers$Form;I)V" } : Jvm.MethodName)) ∈ lw_tbl := lw_at lw_m7 87 rfl
theorem q1629 : (Jvm.Cond.instanceMethod ({ cls := "ToldPowers", name := "laysCan", desc := "(LToldPowers$Form;I)V" } : Jvm.MethodName)) ∈ lw_all := lw_g (lw_at lw_m7 88 rfl) rfl
theorem q1630 : (Jvm.Cond.code ({ cls := "ToldPowers", name := "laysCan", desc := "(LToldPowers$Form;I)V" } : Jvm.MethodName) prog_1_method_37_code (7 : Nat) (Option.none : Option Jvm.ClassFile.FieldType)) ∈ lw_all := lw_g (lw_at lw_m7 89 rfl) rfl
theorem q1631 : (Jvm.Cond.methodLink "ToldPowers" (301 : Nat) ({ cls := "java/util/Arrays", name := "fill", desc := "([ZZ)V" } : Jvm.MethodName)) ∈ lw_all := lw_g (lw_at lw_m7 90 rfl) rfl
theorem q1635 : (Jvm.Cond.instanceMethod ({ cls := "ToldPowers", name := "never", desc := "(III)I" } : Jvm.MethodName)) ∈ lw_all := lw_g (lw_at lw_m7 94 rfl) rfl
theorem q1636 : (Jvm.Cond.selects "ToldPowers" ({ cls := "ToldPowers", name := "never", desc := "(III)I" } : Jvm.MethodName) ({ cls := "ToldPowers", name := "never", desc := "(III)I" } : Jvm.MethodName)) ∈ lw_all := lw_g (lw_at lw_m7 95 rfl) rfl
theorem q1637 : (Jvm.Cond.code ({ cls := "ToldPowers", name := "never", desc := "(III)I" } : Jvm.MethodName) prog_1_method_39_code (7 : Nat) (Option.some Jvm.ClassFile.FieldType.int)) ∈ lw_all := lw_g (lw_at lw_m7 96 rfl) rfl
theorem q1639 : (Jvm.Cond.instanceMethod ({ cls := "ToldPowers", name := "bars", desc := "(I)I" } : Jvm.MethodName)) ∈ lw_all := lw_g (lw_at lw_m7 98 rfl) rfl
theorem q1640 : (Jvm.Cond.selects "ToldPowers" ({ cls := "ToldPowers", name := "bars", desc := "(I)I" } : Jvm.MethodName) ({ cls := "ToldPowers", name := "bars", desc := "(I)I" } : Jvm.MethodName)) ∈ lw_all := lw_g (lw_at lw_m7 99 rfl) rfl
theorem q1641 : (Jvm.Cond.code ({ cls := "ToldPowers", name := "bars", desc := "(I)I" } : Jvm.MethodName) prog_1_method_40_code (3 : Nat) (Option.some Jvm.ClassFile.FieldType.int)) ∈ lw_all := lw_g (lw_at lw_m7 100 rfl) rfl
theorem q1642 : (Jvm.Cond.methodLink "ToldPowers" (307 : Nat) ({ cls := "ToldPowers", name := "never", desc := "(III)I" } : Jvm.MethodName)) ∈ lw_all := lw_g (lw_at lw_m7 101 rfl) rfl
theorem q1644 : (Jvm.Cond.instanceMethod ({ cls := "ToldPowers", name := "many", desc := "(IIIZ)I" } : Jvm.MethodName)) ∈ lw_all := lw_g (lw_at lw_m7 103 rfl) rfl
theorem q1645 : (Jvm.Cond.selects "ToldPowers" ({ cls := "ToldPowers", name := "many", desc := "(IIIZ)I" } : Jvm.MethodName) ({ cls := "ToldPowers", name := "many", desc := "(IIIZ)I" } : Jvm.MethodName)) ∈ lw_all := lw_g (lw_at lw_m7 104 rfl) rfl
theorem q1646 : (Jvm.Cond.code ({ cls := "ToldPowers", name := "many", desc := "(IIIZ)I" } : Jvm.MethodName) prog_1_method_41_code (7 : Nat) (Option.some Jvm.ClassFile.FieldType.int)) ∈ lw_all := lw_g (lw_at lw_m7 105 rfl) rfl
theorem q1647 : (Jvm.Cond.constantLong "ToldPowers" (311 : Nat) (1000000 : Int64)) ∈ lw_all := lw_g (lw_at lw_m7 106 rfl) rfl
theorem q1649 : (Jvm.Cond.instanceMethod ({ cls := "ToldPowers", name := "greed", desc := "(III)I" } : Jvm.MethodName)) ∈ lw_all := lw_g (lw_at lw_m7 108 rfl) rfl
theorem q1650 : (Jvm.Cond.selects "ToldPowers" ({ cls := "ToldPowers", name := "greed", desc := "(III)I" } : Jvm.MethodName) ({ cls := "ToldPowers", name := "greed", desc := "(III)I" } : Jvm.MethodName)) ∈ lw_all := lw_g (lw_at lw_m7 109 rfl) rfl
theorem q1651 : (Jvm.Cond.code ({ cls := "ToldPowers", name := "greed", desc := "(III)I" } : Jvm.MethodName) prog_1_method_43_code (9 : Nat) (Option.some Jvm.ClassFile.FieldType.int)) ∈ lw_all := lw_g (lw_at lw_m7 110 rfl) rfl
theorem q1652 : (Jvm.Cond.methodLink "ToldPowers" (313 : Nat) ({ cls := "ToldPowers", name := "greedyOf", desc := "(LToldPowers$Term;J)I" } : Jvm.MethodName)) ∈ lw_all := lw_g (lw_at lw_m7 111 rfl) rfl
theorem q1653 : (Jvm.Cond.static ({ cls := "ToldPowers", name := "greedyOf", desc := "(LToldPowers$Term;J)I" } : Jvm.MethodName)) ∈ lw_all := lw_g (lw_at lw_m7 112 rfl) rfl
theorem q1654 : (Jvm.Cond.code ({ cls := "ToldPowers", name := "greedyOf", desc := "(LToldPowers$Term;J)I" } : Jvm.MethodName) prog_1_method_42_code (7 : Nat) (Option.some Jvm.ClassFile.FieldType.int)) ∈ lw_all := lw_g (lw_at lw_m7 113 rfl) rfl
theorem q1656 : (Jvm.Cond.instanceMethod ({ cls := "ToldPowers", name := "nearest", desc := "(II)I" } : Jvm.MethodName)) ∈ lw_all := lw_g (lw_at lw_m7 115 rfl) rfl
theorem q1657 : (Jvm.Cond.selects "ToldPowers" ({ cls := "ToldPowers", name := "nearest", desc := "(II)I" } : Jvm.MethodName) ({ cls := "ToldPowers", name := "nearest", desc := "(II)I" } : Jvm.MethodName)) ∈ lw_all := lw_g (lw_at lw_m7 116 rfl) rfl
theorem q1658 : (Jvm.Cond.code ({ cls := "ToldPowers", name := "nearest", desc := "(II)I" } : Jvm.MethodName) prog_1_method_44_code (7 : Nat) (Option.some Jvm.ClassFile.FieldType.int)) ∈ lw_all := lw_g (lw_at lw_m7 117 rfl) rfl
theorem q1659 : (Jvm.Cond.classLink "ToldPowers" (317 : Nat) "java/util/PriorityQueue") ∈ lw_all := lw_g (lw_at lw_m7 118 rfl) rfl
theorem q1661 : (Jvm.Cond.methodLink "ToldPowers" (319 : Nat) ({ cls := "java/util/PriorityQueue", name := "<init>", desc := "()V" } : Jvm.MethodName)) ∈ lw_all := lw_g (lw_at lw_m7 120 rfl) rfl
theorem q1685 : (Jvm.Cond.classLink "ToldPowers" (320 : Nat) "ToldPowers$Near") ∈ lw_all := lw_g (lw_at lw_m7 144 rfl) rfl
theorem q1687 : (Jvm.Cond.methodLink "ToldPowers" (322 : Nat) ({ cls := "ToldPowers$Near", name := "<init>", desc := "(II)V" } : Jvm.MethodName)) ∈ lw_all := lw_g (lw_at lw_m7 146 rfl) rfl
theorem q1695 : (Jvm.Cond.fieldLinkNest "ToldPowers" (337 : Nat) "ToldPowers$Near" "sum" "I" "ToldPowers") ∈ lw_tbl := lw_at lw_m7 154 rfl
theorem q1702 : (Jvm.Cond.methodLink "ToldPowers" (325 : Nat) ({ cls := "java/util/PriorityQueue", name := "add", desc := "(Ljava/lang/Object;)Z" } : Jvm.MethodName)) ∈ lw_all := lw_g (lw_at lw_m7 161 rfl) rfl
theorem q1733 : (Jvm.Cond.methodLink "ToldPowers" (329 : Nat) ({ cls := "java/util/PriorityQueue", name := "isEmpty", desc := "()Z" } : Jvm.MethodName)) ∈ lw_all := lw_g (lw_at lw_m7 192 rfl) rfl
theorem q1746 : (Jvm.Cond.methodLink "ToldPowers" (333 : Nat) ({ cls := "java/util/PriorityQueue", name := "poll", desc := "()Ljava/lang/Object;" } : Jvm.MethodName)) ∈ lw_all := lw_g (lw_at lw_m7 205 rfl) rfl
theorem q1757 : (Jvm.Cond.instanceMethod ({ cls := "ToldPowers", name := "enough", desc := "(II)I" } : Jvm.MethodName)) ∈ lw_all := lw_g (lw_at lw_m7 216 rfl) rfl
theorem q1758 : (Jvm.Cond.selects "ToldPowers" ({ cls := "ToldPowers", name := "enough", desc := "(II)I" } : Jvm.MethodName) ({ cls := "ToldPowers", name := "enough", desc := "(II)I" } : Jvm.MethodName)) ∈ lw_all := lw_g (lw_at lw_m7 217 rfl) rfl
theorem q1759 : (Jvm.Cond.code ({ cls := "ToldPowers", name := "enough", desc := "(II)I" } : Jvm.MethodName) prog_1_method_45_code (6 : Nat) (Option.some Jvm.ClassFile.FieldType.int)) ∈ lw_all := lw_g (lw_at lw_m7 218 rfl) rfl
theorem q1761 : (Jvm.Cond.instanceMethod ({ cls := "ToldPowers", name := "join", desc := "(III)Z" } : Jvm.MethodName)) ∈ lw_all := lw_g (lw_at lw_m7 220 rfl) rfl
theorem q1762 : (Jvm.Cond.selects "ToldPowers" ({ cls := "ToldPowers", name := "join", desc := "(III)Z" } : Jvm.MethodName) ({ cls := "ToldPowers", name := "join", desc := "(III)Z" } : Jvm.MethodName)) ∈ lw_all := lw_g (lw_at lw_m7 221 rfl) rfl
theorem q1763 : (Jvm.Cond.codeWith ({ cls := "ToldPowers", name := "join", desc := "(III)Z" } : Jvm.MethodName) prog_1_method_46_code (10 : Nat) (Option.some Jvm.ClassFile.FieldType.boolean) [((78 : Nat), (120 : Nat), (123 : Nat), (15 : Nat))]) ∈ lw_all := lw_g (lw_at lw_m7 222 rfl) rfl
theorem q1764 : (Jvm.Cond.classLink "ToldPowers" (52 : Nat) "ToldPowers$Term") ∈ lw_all := lw_g (lw_at lw_m7 223 rfl) rfl
theorem q1765 : (Jvm.Cond.methodLink "ToldPowers" (340 : Nat) ({ cls := "ToldPowers", name := "formOf", desc := "([LToldPowers$Term;I)LToldPowers$Form;" } : Jvm.MethodName)) ∈ lw_all := lw_g (lw_at lw_m7 224 rfl) rfl
theorem q1766 : (Jvm.Cond.static ({ cls := "ToldPowers", name := "formOf", desc := "([LToldPowers$Term;I)LToldPowers$Form;" } : Jvm.MethodName)) ∈ lw_all := lw_g (lw_at lw_m7 225 rfl) rfl
theorem q1767 : (Jvm.Cond.code ({ cls := "ToldPowers", name := "formOf", desc := "([LToldPowers$Term;I)LToldPowers$Form;" } : Jvm.MethodName) prog_1_method_47_code (3 : Nat) (Option.some (Jvm.ClassFile.FieldType.object "ToldPowers$Form"))) ∈ lw_all := lw_g (lw_at lw_m7 226 rfl) rfl
theorem q1768 : (Jvm.Cond.methodLink "ToldPowers" (344 : Nat) ({ cls := "ToldPowers$Form", name := "<init>", desc := "([LToldPowers$Term;)V" } : Jvm.MethodName)) ∈ lw_all := lw_g (lw_at lw_m7 227 rfl) rfl
theorem q1770 : (Jvm.Cond.instanceMethod ({ cls := "ToldPowers", name := "drop", desc := "(II)Z" } : Jvm.MethodName)) ∈ lw_all := lw_g (lw_at lw_m7 229 rfl) rfl
theorem q1771 : (Jvm.Cond.selects "ToldPowers" ({ cls := "ToldPowers", name := "drop", desc := "(II)Z" } : Jvm.MethodName) ({ cls := "ToldPowers", name := "drop", desc := "(II)Z" } : Jvm.MethodName)) ∈ lw_all := lw_g (lw_at lw_m7 230 rfl) rfl
theorem q1772 : (Jvm.Cond.code ({ cls := "ToldPowers", name := "drop", desc := "(II)Z" } : Jvm.MethodName) prog_1_method_48_code (5 : Nat) (Option.some Jvm.ClassFile.FieldType.boolean)) ∈ lw_all := lw_g (lw_at lw_m7 231 rfl) rfl
theorem q1774 : (Jvm.Cond.instanceMethod ({ cls := "ToldPowers", name := "lead", desc := "(II)Z" } : Jvm.MethodName)) ∈ lw_all := lw_g (lw_at lw_m7 233 rfl) rfl
theorem q1775 : (Jvm.Cond.selects "ToldPowers" ({ cls := "ToldPowers", name := "lead", desc := "(II)Z" } : Jvm.MethodName) ({ cls := "ToldPowers", name := "lead", desc := "(II)Z" } : Jvm.MethodName)) ∈ lw_all := lw_g (lw_at lw_m7 234 rfl) rfl
theorem q1776 : (Jvm.Cond.code ({ cls := "ToldPowers", name := "lead", desc := "(II)Z" } : Jvm.MethodName) prog_1_method_49_code (6 : Nat) (Option.some Jvm.ClassFile.FieldType.boolean)) ∈ lw_all := lw_g (lw_at lw_m7 235 rfl) rfl
theorem q1778 : (Jvm.Cond.instanceMethod ({ cls := "ToldPowers", name := "common", desc := "(IIIII)I" } : Jvm.MethodName)) ∈ lw_all := lw_g (lw_at lw_m7 237 rfl) rfl
theorem q1779 : (Jvm.Cond.selects "ToldPowers" ({ cls := "ToldPowers", name := "common", desc := "(IIIII)I" } : Jvm.MethodName) ({ cls := "ToldPowers", name := "common", desc := "(IIIII)I" } : Jvm.MethodName)) ∈ lw_all := lw_g (lw_at lw_m7 238 rfl) rfl
theorem q1780 : (Jvm.Cond.code ({ cls := "ToldPowers", name := "common", desc := "(IIIII)I" } : Jvm.MethodName) prog_1_method_50_code (11 : Nat) (Option.some Jvm.ClassFile.FieldType.int)) ∈ lw_all := lw_g (lw_at lw_m7 239 rfl) rfl
theorem q1782 : (Jvm.Cond.instanceMethod ({ cls := "ToldPowers", name := "spell", desc := "(I)I" } : Jvm.MethodName)) ∈ lw_all := lw_g (lw_at lw_m8 1 rfl) rfl
theorem q1783 : (Jvm.Cond.selects "ToldPowers" ({ cls := "ToldPowers", name := "spell", desc := "(I)I" } : Jvm.MethodName) ({ cls := "ToldPowers", name := "spell", desc := "(I)I" } : Jvm.MethodName)) ∈ lw_all := lw_g (lw_at lw_m8 2 rfl) rfl
theorem q1784 : (Jvm.Cond.code ({ cls := "ToldPowers", name := "spell", desc := "(I)I" } : Jvm.MethodName) prog_1_method_52_code (7 : Nat) (Option.some Jvm.ClassFile.FieldType.int)) ∈ lw_all := lw_g (lw_at lw_m8 3 rfl) rfl
theorem q1785 : (Jvm.Cond.classLink "ToldPowers" (348 : Nat) "java/lang/StringBuilder") ∈ lw_all := lw_g (lw_at lw_m8 4 rfl) rfl
theorem q1786 : (Jvm.Cond.methodLink "ToldPowers" (356 : Nat) ({ cls := "java/lang/StringBuilder", name := "<init>", desc := "()V" } : Jvm.MethodName)) ∈ lw_all := lw_g (lw_at lw_m8 5 rfl) rfl
theorem q1787 : (Jvm.Cond.methodLink "ToldPowers" (357 : Nat) ({ cls := "java/lang/StringBuilder", name := "append", desc := "(C)Ljava/lang/StringBuilder;" } : Jvm.MethodName)) ∈ lw_all := lw_g (lw_at lw_m8 6 rfl) rfl
theorem q1788 : (Jvm.Cond.methodLink "ToldPowers" (361 : Nat) ({ cls := "java/lang/StringBuilder", name := "append", desc := "(I)Ljava/lang/StringBuilder;" } : Jvm.MethodName)) ∈ lw_all := lw_g (lw_at lw_m8 7 rfl) rfl
theorem q1819 : (Jvm.Cond.methodLink "ToldPowers" (364 : Nat) ({ cls := "java/lang/StringBuilder", name := "append", desc := "(Ljava/lang/String;)Ljava/lang/StringBuilder;" } : Jvm.MethodName)) ∈ lw_all := lw_g (lw_at lw_m8 38 rfl) rfl
theorem q1849 : (Jvm.Cond.stringRef "ToldPowers" (367 : Nat) " from ") ∈ lw_tbl := lw_at lw_m8 68 rfl
theorem q1850 : (Jvm.Cond.stringRef "ToldPowers" (369 : Nat) " to ") ∈ lw_tbl := lw_at lw_m8 69 rfl
theorem q1851 : (Jvm.Cond.methodLink "ToldPowers" (371 : Nat) ({ cls := "ToldPowers", name := "shows", desc := "(Ljava/lang/StringBuilder;)I" } : Jvm.MethodName)) ∈ lw_all := lw_g (lw_at lw_m8 70 rfl) rfl
theorem q1852 : (Jvm.Cond.privateMethod ({ cls := "ToldPowers", name := "shows", desc := "(Ljava/lang/StringBuilder;)I" } : Jvm.MethodName)) ∈ lw_tbl := lw_at lw_m8 71 rfl
theorem q1853 : (Jvm.Cond.instanceMethod ({ cls := "ToldPowers", name := "shows", desc := "(Ljava/lang/StringBuilder;)I" } : Jvm.MethodName)) ∈ lw_all := lw_g (lw_at lw_m8 72 rfl) rfl
theorem q1854 : (Jvm.Cond.code ({ cls := "ToldPowers", name := "shows", desc := "(Ljava/lang/StringBuilder;)I" } : Jvm.MethodName) prog_1_method_51_code (2 : Nat) (Option.some Jvm.ClassFile.FieldType.int)) ∈ lw_all := lw_g (lw_at lw_m8 73 rfl) rfl
theorem q1855 : (Jvm.Cond.methodLink "ToldPowers" (347 : Nat) ({ cls := "java/lang/StringBuilder", name := "toString", desc := "()Ljava/lang/String;" } : Jvm.MethodName)) ∈ lw_all := lw_g (lw_at lw_m8 74 rfl) rfl
theorem q1856 : (Jvm.Cond.methodLink "ToldPowers" (353 : Nat) ({ cls := "java/lang/String", name := "length", desc := "()I" } : Jvm.MethodName)) ∈ lw_all := lw_g (lw_at lw_m8 75 rfl) rfl
theorem q1858 : (Jvm.Cond.instanceMethod ({ cls := "ToldPowers", name := "write", desc := "(III)I" } : Jvm.MethodName)) ∈ lw_all := lw_g (lw_at lw_m8 77 rfl) rfl
theorem q1859 : (Jvm.Cond.selects "ToldPowers" ({ cls := "ToldPowers", name := "write", desc := "(III)I" } : Jvm.MethodName) ({ cls := "ToldPowers", name := "write", desc := "(III)I" } : Jvm.MethodName)) ∈ lw_all := lw_g (lw_at lw_m8 78 rfl) rfl
theorem q1860 : (Jvm.Cond.code ({ cls := "ToldPowers", name := "write", desc := "(III)I" } : Jvm.MethodName) prog_1_method_53_code (8 : Nat) (Option.some Jvm.ClassFile.FieldType.int)) ∈ lw_all := lw_g (lw_at lw_m8 79 rfl) rfl
theorem q1861 : (Jvm.Cond.stringRef "ToldPowers" (375 : Nat) " not") ∈ lw_tbl := lw_at lw_m8 80 rfl
theorem q1862 : (Jvm.Cond.methodLink "ToldPowers" (377 : Nat) ({ cls := "ToldPowers", name := "way", desc := "(IIJI)I" } : Jvm.MethodName)) ∈ lw_all := lw_g (lw_at lw_m8 81 rfl) rfl
theorem q1864 : (Jvm.Cond.instanceMethod ({ cls := "ToldPowers", name := "out", desc := "(I)I" } : Jvm.MethodName)) ∈ lw_all := lw_g (lw_at lw_m8 83 rfl) rfl
theorem q1865 : (Jvm.Cond.selects "ToldPowers" ({ cls := "ToldPowers", name := "out", desc := "(I)I" } : Jvm.MethodName) ({ cls := "ToldPowers", name := "out", desc := "(I)I" } : Jvm.MethodName)) ∈ lw_all := lw_g (lw_at lw_m8 84 rfl) rfl
theorem q1866 : (Jvm.Cond.code ({ cls := "ToldPowers", name := "out", desc := "(I)I" } : Jvm.MethodName) prog_1_method_54_code (2 : Nat) (Option.some Jvm.ClassFile.FieldType.int)) ∈ lw_all := lw_g (lw_at lw_m8 85 rfl) rfl
theorem q1867 : (Jvm.Cond.methodLink "ToldPowers" (381 : Nat) ({ cls := "java/lang/String", name := "charAt", desc := "(I)C" } : Jvm.MethodName)) ∈ lw_all := lw_g (lw_at lw_m8 86 rfl) rfl
theorem q1869 : (Jvm.Cond.instanceMethod ({ cls := "ToldPowers", name := "gap", desc := "(IIII)I" } : Jvm.MethodName)) ∈ lw_all := lw_g (lw_at lw_m8 88 rfl) rfl
theorem q1870 : (Jvm.Cond.selects "ToldPowers" ({ cls := "ToldPowers", name := "gap", desc := "(IIII)I" } : Jvm.MethodName) ({ cls := "ToldPowers", name := "gap", desc := "(IIII)I" } : Jvm.MethodName)) ∈ lw_all := lw_g (lw_at lw_m8 89 rfl) rfl
theorem q1871 : (Jvm.Cond.code ({ cls := "ToldPowers", name := "gap", desc := "(IIII)I" } : Jvm.MethodName) prog_1_method_55_code (10 : Nat) (Option.some Jvm.ClassFile.FieldType.int)) ∈ lw_all := lw_g (lw_at lw_m8 90 rfl) rfl
theorem q1873 : (Jvm.Cond.instanceMethod ({ cls := "ToldPowers", name := "rank", desc := "(IIII)I" } : Jvm.MethodName)) ∈ lw_all := lw_g (lw_at lw_m8 92 rfl) rfl
theorem q1874 : (Jvm.Cond.selects "ToldPowers" ({ cls := "ToldPowers", name := "rank", desc := "(IIII)I" } : Jvm.MethodName) ({ cls := "ToldPowers", name := "rank", desc := "(IIII)I" } : Jvm.MethodName)) ∈ lw_all := lw_g (lw_at lw_m8 93 rfl) rfl
theorem q1875 : (Jvm.Cond.code ({ cls := "ToldPowers", name := "rank", desc := "(IIII)I" } : Jvm.MethodName) prog_1_method_56_code (8 : Nat) (Option.some Jvm.ClassFile.FieldType.int)) ∈ lw_all := lw_g (lw_at lw_m8 94 rfl) rfl
theorem q1876 : (Jvm.Cond.classLink "ToldPowers" (385 : Nat) "ToldPowers$Ranked") ∈ lw_all := lw_g (lw_at lw_m8 95 rfl) rfl
theorem q1878 : (Jvm.Cond.methodLink "ToldPowers" (387 : Nat) ({ cls := "ToldPowers$Ranked", name := "<init>", desc := "(IJ)V" } : Jvm.MethodName)) ∈ lw_all := lw_g (lw_at lw_m8 97 rfl) rfl
theorem q1883 : (Jvm.Cond.fieldLinkNest "ToldPowers" (397 : Nat) "ToldPowers$Ranked" "n" "I" "ToldPowers") ∈ lw_tbl := lw_at lw_m8 102 rfl
theorem q1890 : (Jvm.Cond.methodLink "ToldPowers" (394 : Nat) ({ cls := "java/util/PriorityQueue", name := "peek", desc := "()Ljava/lang/Object;" } : Jvm.MethodName)) ∈ lw_all := lw_g (lw_at lw_m8 109 rfl) rfl
theorem q1895 : (Jvm.Cond.instanceMethod ({ cls := "ToldPowers", name := "tried", desc := "(II)I" } : Jvm.MethodName)) ∈ lw_all := lw_g (lw_at lw_m8 114 rfl) rfl
theorem q1896 : (Jvm.Cond.selects "ToldPowers" ({ cls := "ToldPowers", name := "tried", desc := "(II)I" } : Jvm.MethodName) ({ cls := "ToldPowers", name := "tried", desc := "(II)I" } : Jvm.MethodName)) ∈ lw_all := lw_g (lw_at lw_m8 115 rfl) rfl
theorem q1897 : (Jvm.Cond.code ({ cls := "ToldPowers", name := "tried", desc := "(II)I" } : Jvm.MethodName) prog_1_method_60_code (5 : Nat) (Option.some Jvm.ClassFile.FieldType.int)) ∈ lw_all := lw_g (lw_at lw_m8 116 rfl) rfl
theorem q1898 : (Jvm.Cond.constantLong "ToldPowers" (413 : Nat) (7 : Int64)) ∈ lw_all := lw_g (lw_at lw_m8 117 rfl) rfl
theorem q1899 : (Jvm.Cond.methodLink "ToldPowers" (415 : Nat) ({ cls := "ToldPowers", name := "isBroken", desc := "([I)Z" } : Jvm.MethodName)) ∈ lw_all := lw_g (lw_at lw_m8 118 rfl) rfl
theorem q1900 : (Jvm.Cond.privateMethod ({ cls := "ToldPowers", name := "isBroken", desc := "([I)Z" } : Jvm.MethodName)) ∈ lw_tbl := lw_at lw_m8 119 rfl
theorem q1901 : (Jvm.Cond.instanceMethod ({ cls := "ToldPowers", name := "isBroken", desc := "([I)Z" } : Jvm.MethodName)) ∈ lw_all := lw_g (lw_at lw_m8 120 rfl) rfl
theorem q1902 : (Jvm.Cond.code ({ cls := "ToldPowers", name := "isBroken", desc := "([I)Z" } : Jvm.MethodName) prog_1_method_58_code (3 : Nat) (Option.some Jvm.ClassFile.FieldType.boolean)) ∈ lw_all := lw_g (lw_at lw_m8 121 rfl) rfl
theorem q1903 : (Jvm.Cond.methodLink "ToldPowers" (400 : Nat) ({ cls := "ToldPowers$Sum", name := "of", desc := "([I)J" } : Jvm.MethodName)) ∈ lw_all := lw_g (lw_at lw_m8 122 rfl) rfl
theorem q1920 : (Jvm.Cond.static ({ cls := "ToldPowers", name := "product", desc := "(JJ[I)J" } : Jvm.MethodName)) ∈ lw_all := lw_g (lw_at lw_m8 139 rfl) rfl
theorem q1921 : (Jvm.Cond.code ({ cls := "ToldPowers", name := "product", desc := "(JJ[I)J" } : Jvm.MethodName) prog_1_method_12_code (7 : Nat) (Option.some Jvm.ClassFile.FieldType.long)) ∈ lw_all := lw_g (lw_at lw_m8 140 rfl) rfl
theorem q1922 : (Jvm.Cond.methodLink "ToldPowers" (101 : Nat) ({ cls := "ToldPowers", name := "goesRound", desc := "(IJJJ)Z" } : Jvm.MethodName)) ∈ lw_all := lw_g (lw_at lw_m8 141 rfl) rfl
theorem q1923 : (Jvm.Cond.static ({ cls := "ToldPowers", name := "goesRound", desc := "(IJJJ)Z" } : Jvm.MethodName)) ∈ lw_all := lw_g (lw_at lw_m8 142 rfl) rfl
theorem q1924 : (Jvm.Cond.code ({ cls := "ToldPowers", name := "goesRound", desc := "(IJJJ)Z" } : Jvm.MethodName) prog_1_method_11_code (7 : Nat) (Option.some Jvm.ClassFile.FieldType.boolean)) ∈ lw_all := lw_g (lw_at lw_m8 143 rfl) rfl
theorem q1925 : (Jvm.Cond.constantLong "ToldPowers" (99 : Nat) (-9223372036854775808 : Int64)) ∈ lw_all := lw_g (lw_at lw_m8 144 rfl) rfl
theorem q1929 : (Jvm.Cond.methodLink "ToldPowers" (419 : Nat) ({ cls := "ToldPowers", name := "isBeyond", desc := "([I)Z" } : Jvm.MethodName)) ∈ lw_all := lw_g (lw_at lw_m8 148 rfl) rfl
theorem q1930 : (Jvm.Cond.privateMethod ({ cls := "ToldPowers", name := "isBeyond", desc := "([I)Z" } : Jvm.MethodName)) ∈ lw_tbl := lw_at lw_m8 149 rfl
theorem q1931 : (Jvm.Cond.instanceMethod ({ cls := "ToldPowers", name := "isBeyond", desc := "([I)Z" } : Jvm.MethodName)) ∈ lw_all := lw_g (lw_at lw_m8 150 rfl) rfl
theorem q1932 : (Jvm.Cond.code ({ cls := "ToldPowers", name := "isBeyond", desc := "([I)Z" } : Jvm.MethodName) prog_1_method_61_code (3 : Nat) (Option.some Jvm.ClassFile.FieldType.boolean)) ∈ lw_all := lw_g (lw_at lw_m8 151 rfl) rfl
theorem q1933 : (Jvm.Cond.methodLink "ToldPowers" (422 : Nat) ({ cls := "ToldPowers", name := "goesOn", desc := "([II)Z" } : Jvm.MethodName)) ∈ lw_all := lw_g (lw_at lw_m8 152 rfl) rfl
theorem q1934 : (Jvm.Cond.privateMethod ({ cls := "ToldPowers", name := "goesOn", desc := "([II)Z" } : Jvm.MethodName)) ∈ lw_tbl := lw_at lw_m8 153 rfl
theorem q1935 : (Jvm.Cond.instanceMethod ({ cls := "ToldPowers", name := "goesOn", desc := "([II)Z" } : Jvm.MethodName)) ∈ lw_all := lw_g (lw_at lw_m8 154 rfl) rfl
theorem q1936 : (Jvm.Cond.code ({ cls := "ToldPowers", name := "goesOn", desc := "([II)Z" } : Jvm.MethodName) prog_1_method_59_code (4 : Nat) (Option.some Jvm.ClassFile.FieldType.boolean)) ∈ lw_all := lw_g (lw_at lw_m8 155 rfl) rfl
theorem q1938 : (Jvm.Cond.instanceMethod ({ cls := "ToldPowers", name := "side", desc := "(IIIIIII)J" } : Jvm.MethodName)) ∈ lw_all := lw_g (lw_at lw_m8 157 rfl) rfl
theorem q1939 : (Jvm.Cond.selects "ToldPowers" ({ cls := "ToldPowers", name := "side", desc := "(IIIIIII)J" } : Jvm.MethodName) ({ cls := "ToldPowers", name := "side", desc := "(IIIIIII)J" } : Jvm.MethodName)) ∈ lw_all := lw_g (lw_at lw_m8 158 rfl) rfl
theorem q1940 : (Jvm.Cond.code ({ cls := "ToldPowers", name := "side", desc := "(IIIIIII)J" } : Jvm.MethodName) prog_1_method_62_code (14 : Nat) (Option.some Jvm.ClassFile.FieldType.long)) ∈ lw_all := lw_g (lw_at lw_m8 159 rfl) rfl
theorem q1941 : (Jvm.Cond.constantLong "ToldPowers" (426 : Nat) (-9 : Int64)) ∈ lw_all := lw_g (lw_at lw_m8 160 rfl) rfl
theorem q1942 : (Jvm.Cond.constantLong "ToldPowers" (428 : Nat) (9 : Int64)) ∈ lw_all := lw_g (lw_at lw_m8 161 rfl) rfl
theorem q1943 : (Jvm.Cond.methodLink "ToldPowers" (430 : Nat) ({ cls := "ToldPowers", name := "told", desc := "(LToldPowers$Sum;[I)J" } : Jvm.MethodName)) ∈ lw_all := lw_g (lw_at lw_m8 162 rfl) rfl
theorem q1944 : (Jvm.Cond.static ({ cls := "ToldPowers", name := "told", desc := "(LToldPowers$Sum;[I)J" } : Jvm.MethodName)) ∈ lw_all := lw_g (lw_at lw_m8 163 rfl) rfl
theorem q1945 : (Jvm.Cond.code ({ cls := "ToldPowers", name := "told", desc := "(LToldPowers$Sum;[I)J" } : Jvm.MethodName) prog_1_method_57_code (4 : Nat) (Option.some Jvm.ClassFile.FieldType.long)) ∈ lw_all := lw_g (lw_at lw_m8 164 rfl) rfl
theorem q1947 : (Jvm.Cond.instanceMethod ({ cls := "ToldPowers", name := "look", desc := "(I)I" } : Jvm.MethodName)) ∈ lw_all := lw_g (lw_at lw_m8 166 rfl) rfl
theorem q1948 : (Jvm.Cond.selects "ToldPowers" ({ cls := "ToldPowers", name := "look", desc := "(I)I" } : Jvm.MethodName) ({ cls := "ToldPowers", name := "look", desc := "(I)I" } : Jvm.MethodName)) ∈ lw_all := lw_g (lw_at lw_m8 167 rfl) rfl
theorem q1949 : (Jvm.Cond.code ({ cls := "ToldPowers", name := "look", desc := "(I)I" } : Jvm.MethodName) prog_1_method_63_code (2 : Nat) (Option.some Jvm.ClassFile.FieldType.int)) ∈ lw_all := lw_g (lw_at lw_m8 168 rfl) rfl
theorem q2556 : (Jvm.Cond.castable "ToldPowers" "java/lang/Object") ∈ lw_tbl := lw_at lw_m11 55 rfl

/-! ToldPowers$Reader -/
set_option maxRecDepth 100000
abbrev cX2_init : ByteArray := prog_19_method_1_code
def yX2_init : MethodName := ⟨RX2, "<init>", "(LToldPowers;)V"⟩
def dkwX2_init_0 : List UInt8 := [42, 43, 181, 0, 3, 42, 183, 0, 9, 42, 182, 0, 15, 177]
abbrev dktX2_init_0 : List UInt8 := dkwX2_init_0 ++ []
theorem dksX2_init_0 : cX2_init.data.toList.drop 0 = dktX2_init_0 := by decide +kernel
theorem dX2_init_0 : decode cX2_init 0 = .ok (.aload_n 0, 1) := dk_42 (dk_at dksX2_init_0 0 rfl rfl)
theorem dX2_init_1 : decode cX2_init 1 = .ok (.aload_n 1, 1) := dk_43 (dk_at dksX2_init_0 1 rfl rfl)
theorem dX2_init_2 : decode cX2_init 2 = .ok (.putfield 3, 3) := dk_181 0 3 (dk_at dksX2_init_0 2 rfl rfl)
theorem dX2_init_5 : decode cX2_init 5 = .ok (.aload_n 0, 1) := dk_42 (dk_at dksX2_init_0 5 rfl rfl)
theorem dX2_init_6 : decode cX2_init 6 = .ok (.invokespecial 9, 3) := dk_183 0 9 (dk_at dksX2_init_0 6 rfl rfl)
theorem dX2_init_9 : decode cX2_init 9 = .ok (.aload_n 0, 1) := dk_42 (dk_at dksX2_init_0 9 rfl rfl)
theorem dX2_init_10 : decode cX2_init 10 = .ok (.invokevirtual 15, 3) := dk_182 0 15 (dk_at dksX2_init_0 10 rfl rfl)
theorem dX2_init_13 : decode cX2_init 13 = .ok (.return_, 1) := dk_177 (dk_at dksX2_init_0 13 rfl rfl)
abbrev cX2_skips : ByteArray := prog_19_method_3_code
def yX2_skips : MethodName := ⟨RX2, "skips", "()V"⟩
def dkwX2_skips_1 : List UInt8 := [96, 181, 0, 18, 167, 255, 228, 177]
abbrev dktX2_skips_1 : List UInt8 := dkwX2_skips_1 ++ []
def dkwX2_skips_0 : List UInt8 := [42, 182, 0, 29, 16, 32, 159, 0, 12, 42, 182, 0, 29, 16, 10, 160, 0, 16, 42, 89, 180, 0, 18, 4]
abbrev dktX2_skips_0 : List UInt8 := dkwX2_skips_0 ++ dktX2_skips_1
theorem dksX2_skips_0 : cX2_skips.data.toList.drop 0 = dktX2_skips_0 := by decide +kernel
theorem dksX2_skips_1 : cX2_skips.data.toList.drop 24 = dktX2_skips_1 := dk_seg dksX2_skips_0 24 rfl rfl
theorem dX2_skips_0 : decode cX2_skips 0 = .ok (.aload_n 0, 1) := dk_42 (dk_at dksX2_skips_0 0 rfl rfl)
theorem dX2_skips_1 : decode cX2_skips 1 = .ok (.invokevirtual 29, 3) := dk_182 0 29 (dk_at dksX2_skips_0 1 rfl rfl)
theorem dX2_skips_4 : decode cX2_skips 4 = .ok (.bipush 32, 2) := dk_16 32 (dk_at dksX2_skips_0 4 rfl rfl)
theorem dX2_skips_6 : decode cX2_skips 6 = .ok (.if_icmp .eq 12, 3) := dk_159 0 12 (dk_at dksX2_skips_0 6 rfl rfl)
theorem dX2_skips_9 : decode cX2_skips 9 = .ok (.aload_n 0, 1) := dk_42 (dk_at dksX2_skips_0 9 rfl rfl)
theorem dX2_skips_10 : decode cX2_skips 10 = .ok (.invokevirtual 29, 3) := dk_182 0 29 (dk_at dksX2_skips_0 10 rfl rfl)
theorem dX2_skips_13 : decode cX2_skips 13 = .ok (.bipush 10, 2) := dk_16 10 (dk_at dksX2_skips_0 13 rfl rfl)
theorem dX2_skips_15 : decode cX2_skips 15 = .ok (.if_icmp .ne 16, 3) := dk_160 0 16 (dk_at dksX2_skips_0 15 rfl rfl)
theorem dX2_skips_18 : decode cX2_skips 18 = .ok (.aload_n 0, 1) := dk_42 (dk_at dksX2_skips_0 18 rfl rfl)
theorem dX2_skips_19 : decode cX2_skips 19 = .ok (.dup, 1) := dk_89 (dk_at dksX2_skips_0 19 rfl rfl)
theorem dX2_skips_20 : decode cX2_skips 20 = .ok (.getfield 18, 3) := dk_180 0 18 (dk_at dksX2_skips_0 20 rfl rfl)
theorem dX2_skips_23 : decode cX2_skips 23 = .ok (.iconst 1, 1) := dk_4 (dk_at dksX2_skips_0 23 rfl rfl)
theorem dX2_skips_24 : decode cX2_skips 24 = .ok (.iadd, 1) := dk_96 (dk_at dksX2_skips_1 0 rfl rfl)
theorem dX2_skips_25 : decode cX2_skips 25 = .ok (.putfield 18, 3) := dk_181 0 18 (dk_at dksX2_skips_1 1 rfl rfl)
theorem dX2_skips_28 : decode cX2_skips 28 = .ok (.goto (-28), 3) := dk_167 255 228 (dk_at dksX2_skips_1 4 rfl rfl)
theorem dX2_skips_31 : decode cX2_skips 31 = .ok (.return_, 1) := dk_177 (dk_at dksX2_skips_1 7 rfl rfl)
abbrev cX2_here : ByteArray := prog_19_method_2_code
def yX2_here : MethodName := ⟨RX2, "here", "()I"⟩
def dkwX2_here_1 : List UInt8 := [180, 0, 18, 51, 17, 0, 255, 126, 167, 0, 4, 2, 172]
abbrev dktX2_here_1 : List UInt8 := dkwX2_here_1 ++ []
def dkwX2_here_0 : List UInt8 := [42, 180, 0, 18, 42, 180, 0, 3, 180, 0, 22, 162, 0, 22, 42, 180, 0, 3, 180, 0, 25, 42]
abbrev dktX2_here_0 : List UInt8 := dkwX2_here_0 ++ dktX2_here_1
theorem dksX2_here_0 : cX2_here.data.toList.drop 0 = dktX2_here_0 := by decide +kernel
theorem dksX2_here_1 : cX2_here.data.toList.drop 22 = dktX2_here_1 := dk_seg dksX2_here_0 22 rfl rfl
theorem dX2_here_0 : decode cX2_here 0 = .ok (.aload_n 0, 1) := dk_42 (dk_at dksX2_here_0 0 rfl rfl)
theorem dX2_here_1 : decode cX2_here 1 = .ok (.getfield 18, 3) := dk_180 0 18 (dk_at dksX2_here_0 1 rfl rfl)
theorem dX2_here_4 : decode cX2_here 4 = .ok (.aload_n 0, 1) := dk_42 (dk_at dksX2_here_0 4 rfl rfl)
theorem dX2_here_5 : decode cX2_here 5 = .ok (.getfield 3, 3) := dk_180 0 3 (dk_at dksX2_here_0 5 rfl rfl)
theorem dX2_here_8 : decode cX2_here 8 = .ok (.getfield 22, 3) := dk_180 0 22 (dk_at dksX2_here_0 8 rfl rfl)
theorem dX2_here_11 : decode cX2_here 11 = .ok (.if_icmp .ge 22, 3) := dk_162 0 22 (dk_at dksX2_here_0 11 rfl rfl)
theorem dX2_here_14 : decode cX2_here 14 = .ok (.aload_n 0, 1) := dk_42 (dk_at dksX2_here_0 14 rfl rfl)
theorem dX2_here_15 : decode cX2_here 15 = .ok (.getfield 3, 3) := dk_180 0 3 (dk_at dksX2_here_0 15 rfl rfl)
theorem dX2_here_18 : decode cX2_here 18 = .ok (.getfield 25, 3) := dk_180 0 25 (dk_at dksX2_here_0 18 rfl rfl)
theorem dX2_here_21 : decode cX2_here 21 = .ok (.aload_n 0, 1) := dk_42 (dk_at dksX2_here_0 21 rfl rfl)
theorem dX2_here_22 : decode cX2_here 22 = .ok (.getfield 18, 3) := dk_180 0 18 (dk_at dksX2_here_1 0 rfl rfl)
theorem dX2_here_25 : decode cX2_here 25 = .ok (.baload, 1) := dk_51 (dk_at dksX2_here_1 3 rfl rfl)
theorem dX2_here_26 : decode cX2_here 26 = .ok (.sipush 255, 3) := dk_17 0 255 (dk_at dksX2_here_1 4 rfl rfl)
theorem dX2_here_29 : decode cX2_here 29 = .ok (.iand, 1) := dk_126 (dk_at dksX2_here_1 7 rfl rfl)
theorem dX2_here_30 : decode cX2_here 30 = .ok (.goto 4, 3) := dk_167 0 4 (dk_at dksX2_here_1 8 rfl rfl)
theorem dX2_here_33 : decode cX2_here 33 = .ok (.iconst (-1), 1) := dk_2 (dk_at dksX2_here_1 11 rfl rfl)
theorem dX2_here_34 : decode cX2_here 34 = .ok (.ireturn, 1) := dk_172 (dk_at dksX2_here_1 12 rfl rfl)
abbrev cX2_form : ByteArray := prog_19_method_13_code
def yX2_form : MethodName := ⟨RX2, "form", "()LToldPowers$Form;"⟩
def dkwX2_form_4 : List UInt8 := [132, 4, 1, 167, 255, 233, 187, 0, 123, 89, 45, 183, 0, 125, 176]
abbrev dktX2_form_4 : List UInt8 := dkwX2_form_4 ++ []
def dkwX2_form_3 : List UInt8 := [78, 3, 54, 4, 21, 4, 45, 190, 162, 0, 22, 45, 21, 4, 43, 21, 4, 182, 0, 119, 192, 0, 117, 83]
abbrev dktX2_form_3 : List UInt8 := dkwX2_form_3 ++ dktX2_form_4
def dkwX2_form_2 : List UInt8 := [167, 255, 230, 167, 0, 14, 78, 187, 0, 109, 89, 28, 45, 183, 0, 111, 191, 43, 182, 0, 114, 189, 0, 117]
abbrev dktX2_form_2 : List UInt8 := dkwX2_form_2 ++ dktX2_form_3
def dkwX2_form_1 : List UInt8 := [154, 0, 25, 42, 16, 43, 182, 0, 105, 132, 2, 1, 43, 42, 28, 182, 0, 95, 182, 0, 99, 87]
abbrev dktX2_form_1 : List UInt8 := dkwX2_form_1 ++ dktX2_form_2
def dkwX2_form_0 : List UInt8 := [187, 0, 92, 89, 183, 0, 94, 76, 3, 61, 43, 42, 3, 182, 0, 95, 182, 0, 99, 87, 42, 182, 0, 102]
abbrev dktX2_form_0 : List UInt8 := dkwX2_form_0 ++ dktX2_form_1
theorem dksX2_form_0 : cX2_form.data.toList.drop 0 = dktX2_form_0 := by decide +kernel
theorem dksX2_form_1 : cX2_form.data.toList.drop 24 = dktX2_form_1 := dk_seg dksX2_form_0 24 rfl rfl
theorem dksX2_form_2 : cX2_form.data.toList.drop 46 = dktX2_form_2 := dk_seg dksX2_form_1 22 rfl rfl
theorem dksX2_form_3 : cX2_form.data.toList.drop 70 = dktX2_form_3 := dk_seg dksX2_form_2 24 rfl rfl
theorem dksX2_form_4 : cX2_form.data.toList.drop 94 = dktX2_form_4 := dk_seg dksX2_form_3 24 rfl rfl
theorem dX2_form_0 : decode cX2_form 0 = .ok (.new 92, 3) := dk_187 0 92 (dk_at dksX2_form_0 0 rfl rfl)
theorem dX2_form_3 : decode cX2_form 3 = .ok (.dup, 1) := dk_89 (dk_at dksX2_form_0 3 rfl rfl)
theorem dX2_form_4 : decode cX2_form 4 = .ok (.invokespecial 94, 3) := dk_183 0 94 (dk_at dksX2_form_0 4 rfl rfl)
theorem dX2_form_7 : decode cX2_form 7 = .ok (.astore_n 1, 1) := dk_76 (dk_at dksX2_form_0 7 rfl rfl)
theorem dX2_form_8 : decode cX2_form 8 = .ok (.iconst 0, 1) := dk_3 (dk_at dksX2_form_0 8 rfl rfl)
theorem dX2_form_9 : decode cX2_form 9 = .ok (.istore_n 2, 1) := dk_61 (dk_at dksX2_form_0 9 rfl rfl)
theorem dX2_form_10 : decode cX2_form 10 = .ok (.aload_n 1, 1) := dk_43 (dk_at dksX2_form_0 10 rfl rfl)
theorem dX2_form_11 : decode cX2_form 11 = .ok (.aload_n 0, 1) := dk_42 (dk_at dksX2_form_0 11 rfl rfl)
theorem dX2_form_12 : decode cX2_form 12 = .ok (.iconst 0, 1) := dk_3 (dk_at dksX2_form_0 12 rfl rfl)
theorem dX2_form_13 : decode cX2_form 13 = .ok (.invokevirtual 95, 3) := dk_182 0 95 (dk_at dksX2_form_0 13 rfl rfl)
theorem dX2_form_16 : decode cX2_form 16 = .ok (.invokevirtual 99, 3) := dk_182 0 99 (dk_at dksX2_form_0 16 rfl rfl)
theorem dX2_form_19 : decode cX2_form 19 = .ok (.pop, 1) := dk_87 (dk_at dksX2_form_0 19 rfl rfl)
theorem dX2_form_20 : decode cX2_form 20 = .ok (.aload_n 0, 1) := dk_42 (dk_at dksX2_form_0 20 rfl rfl)
theorem dX2_form_21 : decode cX2_form 21 = .ok (.invokevirtual 102, 3) := dk_182 0 102 (dk_at dksX2_form_0 21 rfl rfl)
theorem dX2_form_24 : decode cX2_form 24 = .ok (.ifCond .ne 25, 3) := dk_154 0 25 (dk_at dksX2_form_1 0 rfl rfl)
theorem dX2_form_27 : decode cX2_form 27 = .ok (.aload_n 0, 1) := dk_42 (dk_at dksX2_form_1 3 rfl rfl)
theorem dX2_form_28 : decode cX2_form 28 = .ok (.bipush 43, 2) := dk_16 43 (dk_at dksX2_form_1 4 rfl rfl)
theorem dX2_form_30 : decode cX2_form 30 = .ok (.invokevirtual 105, 3) := dk_182 0 105 (dk_at dksX2_form_1 6 rfl rfl)
theorem dX2_form_33 : decode cX2_form 33 = .ok (.iinc 2 1, 3) := dk_132 2 1 (dk_at dksX2_form_1 9 rfl rfl)
theorem dX2_form_36 : decode cX2_form 36 = .ok (.aload_n 1, 1) := dk_43 (dk_at dksX2_form_1 12 rfl rfl)
theorem dX2_form_37 : decode cX2_form 37 = .ok (.aload_n 0, 1) := dk_42 (dk_at dksX2_form_1 13 rfl rfl)
theorem dX2_form_38 : decode cX2_form 38 = .ok (.iload_n 2, 1) := dk_28 (dk_at dksX2_form_1 14 rfl rfl)
theorem dX2_form_39 : decode cX2_form 39 = .ok (.invokevirtual 95, 3) := dk_182 0 95 (dk_at dksX2_form_1 15 rfl rfl)
theorem dX2_form_42 : decode cX2_form 42 = .ok (.invokevirtual 99, 3) := dk_182 0 99 (dk_at dksX2_form_1 18 rfl rfl)
theorem dX2_form_45 : decode cX2_form 45 = .ok (.pop, 1) := dk_87 (dk_at dksX2_form_1 21 rfl rfl)
theorem dX2_form_46 : decode cX2_form 46 = .ok (.goto (-26), 3) := dk_167 255 230 (dk_at dksX2_form_2 0 rfl rfl)
theorem dX2_form_49 : decode cX2_form 49 = .ok (.goto 14, 3) := dk_167 0 14 (dk_at dksX2_form_2 3 rfl rfl)
theorem dX2_form_52 : decode cX2_form 52 = .ok (.astore_n 3, 1) := dk_78 (dk_at dksX2_form_2 6 rfl rfl)
theorem dX2_form_53 : decode cX2_form 53 = .ok (.new 109, 3) := dk_187 0 109 (dk_at dksX2_form_2 7 rfl rfl)
theorem dX2_form_56 : decode cX2_form 56 = .ok (.dup, 1) := dk_89 (dk_at dksX2_form_2 10 rfl rfl)
theorem dX2_form_57 : decode cX2_form 57 = .ok (.iload_n 2, 1) := dk_28 (dk_at dksX2_form_2 11 rfl rfl)
theorem dX2_form_58 : decode cX2_form 58 = .ok (.aload_n 3, 1) := dk_45 (dk_at dksX2_form_2 12 rfl rfl)
theorem dX2_form_59 : decode cX2_form 59 = .ok (.invokespecial 111, 3) := dk_183 0 111 (dk_at dksX2_form_2 13 rfl rfl)
theorem dX2_form_62 : decode cX2_form 62 = .ok (.athrow, 1) := dk_191 (dk_at dksX2_form_2 16 rfl rfl)
theorem dX2_form_63 : decode cX2_form 63 = .ok (.aload_n 1, 1) := dk_43 (dk_at dksX2_form_2 17 rfl rfl)
theorem dX2_form_64 : decode cX2_form 64 = .ok (.invokevirtual 114, 3) := dk_182 0 114 (dk_at dksX2_form_2 18 rfl rfl)
theorem dX2_form_67 : decode cX2_form 67 = .ok (.anewarray 117, 3) := dk_189 0 117 (dk_at dksX2_form_2 21 rfl rfl)
theorem dX2_form_70 : decode cX2_form 70 = .ok (.astore_n 3, 1) := dk_78 (dk_at dksX2_form_3 0 rfl rfl)
theorem dX2_form_71 : decode cX2_form 71 = .ok (.iconst 0, 1) := dk_3 (dk_at dksX2_form_3 1 rfl rfl)
theorem dX2_form_72 : decode cX2_form 72 = .ok (.istore 4, 2) := dk_54 4 (dk_at dksX2_form_3 2 rfl rfl)
theorem dX2_form_74 : decode cX2_form 74 = .ok (.iload 4, 2) := dk_21 4 (dk_at dksX2_form_3 4 rfl rfl)
theorem dX2_form_76 : decode cX2_form 76 = .ok (.aload_n 3, 1) := dk_45 (dk_at dksX2_form_3 6 rfl rfl)
theorem dX2_form_77 : decode cX2_form 77 = .ok (.arraylength, 1) := dk_190 (dk_at dksX2_form_3 7 rfl rfl)
theorem dX2_form_78 : decode cX2_form 78 = .ok (.if_icmp .ge 22, 3) := dk_162 0 22 (dk_at dksX2_form_3 8 rfl rfl)
theorem dX2_form_81 : decode cX2_form 81 = .ok (.aload_n 3, 1) := dk_45 (dk_at dksX2_form_3 11 rfl rfl)
theorem dX2_form_82 : decode cX2_form 82 = .ok (.iload 4, 2) := dk_21 4 (dk_at dksX2_form_3 12 rfl rfl)
theorem dX2_form_84 : decode cX2_form 84 = .ok (.aload_n 1, 1) := dk_43 (dk_at dksX2_form_3 14 rfl rfl)
theorem dX2_form_85 : decode cX2_form 85 = .ok (.iload 4, 2) := dk_21 4 (dk_at dksX2_form_3 15 rfl rfl)
theorem dX2_form_87 : decode cX2_form 87 = .ok (.invokevirtual 119, 3) := dk_182 0 119 (dk_at dksX2_form_3 17 rfl rfl)
theorem dX2_form_90 : decode cX2_form 90 = .ok (.checkcast 117, 3) := dk_192 0 117 (dk_at dksX2_form_3 20 rfl rfl)
theorem dX2_form_93 : decode cX2_form 93 = .ok (.aastore, 1) := dk_83 (dk_at dksX2_form_3 23 rfl rfl)
theorem dX2_form_94 : decode cX2_form 94 = .ok (.iinc 4 1, 3) := dk_132 4 1 (dk_at dksX2_form_4 0 rfl rfl)
theorem dX2_form_97 : decode cX2_form 97 = .ok (.goto (-23), 3) := dk_167 255 233 (dk_at dksX2_form_4 3 rfl rfl)
theorem dX2_form_100 : decode cX2_form 100 = .ok (.new 123, 3) := dk_187 0 123 (dk_at dksX2_form_4 6 rfl rfl)
theorem dX2_form_103 : decode cX2_form 103 = .ok (.dup, 1) := dk_89 (dk_at dksX2_form_4 9 rfl rfl)
theorem dX2_form_104 : decode cX2_form 104 = .ok (.aload_n 3, 1) := dk_45 (dk_at dksX2_form_4 10 rfl rfl)
theorem dX2_form_105 : decode cX2_form 105 = .ok (.invokespecial 125, 3) := dk_183 0 125 (dk_at dksX2_form_4 11 rfl rfl)
theorem dX2_form_108 : decode cX2_form 108 = .ok (.areturn, 1) := dk_176 (dk_at dksX2_form_4 14 rfl rfl)
abbrev cX2_term : ByteArray := prog_19_method_15_code
def yX2_term : MethodName := ⟨RX2, "term", "(I)LToldPowers$Term;"⟩
def dkwX2_term_13 : List UInt8 := [21, 7, 183, 0, 141, 176]
abbrev dktX2_term_13 : List UInt8 := dkwX2_term_13 ++ []
def dkwX2_term_12 : List UInt8 := [180, 0, 86, 182, 0, 78, 187, 0, 117, 89, 28, 42, 180, 0, 3, 180, 0, 137, 21, 4, 50, 21, 6]
abbrev dktX2_term_12 : List UInt8 := dkwX2_term_12 ++ dktX2_term_13
def dkwX2_term_11 : List UInt8 := [133, 182, 0, 155, 20, 0, 159, 20, 0, 161, 184, 0, 37, 153, 0, 7, 4, 167, 0, 4, 3, 6, 42]
abbrev dktX2_term_11 : List UInt8 := dkwX2_term_11 ++ dktX2_term_12
def dkwX2_term_10 : List UInt8 := [180, 0, 18, 182, 0, 78, 42, 182, 0, 152, 54, 7, 42, 21, 7, 21, 6, 161, 0, 27, 25, 5, 21, 7]
abbrev dktX2_term_10 : List UInt8 := dkwX2_term_10 ++ dktX2_term_11
def dkwX2_term_9 : List UInt8 := [20, 0, 161, 184, 0, 37, 6, 42, 180, 0, 86, 182, 0, 78, 42, 42, 18, 163, 182, 0, 145, 4, 42]
abbrev dktX2_term_9 : List UInt8 := dkwX2_term_9 ++ dktX2_term_10
def dkwX2_term_8 : List UInt8 := [183, 0, 141, 176, 42, 182, 0, 152, 54, 6, 42, 25, 5, 21, 6, 133, 182, 0, 155, 20, 0, 159]
abbrev dktX2_term_8 : List UInt8 := dkwX2_term_8 ++ dktX2_term_9
def dkwX2_term_7 : List UInt8 := [187, 0, 117, 89, 28, 42, 180, 0, 3, 180, 0, 137, 21, 4, 50, 3, 42, 25, 5, 182, 0, 148]
abbrev dktX2_term_7 : List UInt8 := dkwX2_term_7 ++ dktX2_term_8
def dkwX2_term_6 : List UInt8 := [180, 0, 137, 21, 4, 50, 3, 3, 183, 0, 141, 58, 5, 42, 18, 144, 182, 0, 145, 154, 0, 29]
abbrev dktX2_term_6 : List UInt8 := dkwX2_term_6 ++ dktX2_term_7
def dkwX2_term_5 : List UInt8 := [21, 4, 50, 182, 0, 73, 96, 181, 0, 18, 42, 182, 0, 15, 187, 0, 117, 89, 28, 42, 180, 0, 3]
abbrev dktX2_term_5 : List UInt8 := dkwX2_term_5 ++ dktX2_term_6
def dkwX2_term_4 : List UInt8 := [167, 0, 4, 3, 4, 42, 180, 0, 18, 182, 0, 78, 42, 89, 180, 0, 18, 42, 180, 0, 3, 180, 0, 128]
abbrev dktX2_term_4 : List UInt8 := dkwX2_term_4 ++ dktX2_term_5
def dkwX2_term_3 : List UInt8 := [167, 0, 4, 3, 7, 29, 182, 0, 78, 42, 182, 0, 132, 54, 4, 42, 21, 4, 2, 159, 0, 7, 4]
abbrev dktX2_term_3 : List UInt8 := dkwX2_term_3 ++ dktX2_term_4
def dkwX2_term_2 : List UInt8 := [10, 20, 0, 135, 184, 0, 37, 5, 42, 180, 0, 86, 182, 0, 78, 42, 27, 8, 162, 0, 7, 4]
abbrev dktX2_term_2 : List UInt8 := dkwX2_term_2 ++ dktX2_term_3
def dkwX2_term_1 : List UInt8 := [167, 0, 4, 3, 4, 29, 182, 0, 78, 42, 182, 0, 82, 153, 0, 26, 42, 182, 0, 89, 61, 42, 28, 133]
abbrev dktX2_term_1 : List UInt8 := dkwX2_term_1 ++ dktX2_term_2
def dkwX2_term_0 : List UInt8 := [4, 61, 42, 180, 0, 18, 62, 42, 42, 182, 0, 82, 154, 0, 11, 42, 182, 0, 132, 2, 159, 0, 7, 4]
abbrev dktX2_term_0 : List UInt8 := dkwX2_term_0 ++ dktX2_term_1
theorem dksX2_term_0 : cX2_term.data.toList.drop 0 = dktX2_term_0 := by decide +kernel
theorem dksX2_term_1 : cX2_term.data.toList.drop 24 = dktX2_term_1 := dk_seg dksX2_term_0 24 rfl rfl
theorem dksX2_term_2 : cX2_term.data.toList.drop 48 = dktX2_term_2 := dk_seg dksX2_term_1 24 rfl rfl
theorem dksX2_term_3 : cX2_term.data.toList.drop 70 = dktX2_term_3 := dk_seg dksX2_term_2 22 rfl rfl
theorem dksX2_term_4 : cX2_term.data.toList.drop 93 = dktX2_term_4 := dk_seg dksX2_term_3 23 rfl rfl
theorem dksX2_term_5 : cX2_term.data.toList.drop 117 = dktX2_term_5 := dk_seg dksX2_term_4 24 rfl rfl
theorem dksX2_term_6 : cX2_term.data.toList.drop 140 = dktX2_term_6 := dk_seg dksX2_term_5 23 rfl rfl
theorem dksX2_term_7 : cX2_term.data.toList.drop 162 = dktX2_term_7 := dk_seg dksX2_term_6 22 rfl rfl
theorem dksX2_term_8 : cX2_term.data.toList.drop 184 = dktX2_term_8 := dk_seg dksX2_term_7 22 rfl rfl
theorem dksX2_term_9 : cX2_term.data.toList.drop 206 = dktX2_term_9 := dk_seg dksX2_term_8 22 rfl rfl
theorem dksX2_term_10 : cX2_term.data.toList.drop 229 = dktX2_term_10 := dk_seg dksX2_term_9 23 rfl rfl
theorem dksX2_term_11 : cX2_term.data.toList.drop 253 = dktX2_term_11 := dk_seg dksX2_term_10 24 rfl rfl
theorem dksX2_term_12 : cX2_term.data.toList.drop 276 = dktX2_term_12 := dk_seg dksX2_term_11 23 rfl rfl
theorem dksX2_term_13 : cX2_term.data.toList.drop 299 = dktX2_term_13 := dk_seg dksX2_term_12 23 rfl rfl
theorem dX2_term_0 : decode cX2_term 0 = .ok (.iconst 1, 1) := dk_4 (dk_at dksX2_term_0 0 rfl rfl)
theorem dX2_term_1 : decode cX2_term 1 = .ok (.istore_n 2, 1) := dk_61 (dk_at dksX2_term_0 1 rfl rfl)
theorem dX2_term_2 : decode cX2_term 2 = .ok (.aload_n 0, 1) := dk_42 (dk_at dksX2_term_0 2 rfl rfl)
theorem dX2_term_3 : decode cX2_term 3 = .ok (.getfield 18, 3) := dk_180 0 18 (dk_at dksX2_term_0 3 rfl rfl)
theorem dX2_term_6 : decode cX2_term 6 = .ok (.istore_n 3, 1) := dk_62 (dk_at dksX2_term_0 6 rfl rfl)
theorem dX2_term_7 : decode cX2_term 7 = .ok (.aload_n 0, 1) := dk_42 (dk_at dksX2_term_0 7 rfl rfl)
theorem dX2_term_8 : decode cX2_term 8 = .ok (.aload_n 0, 1) := dk_42 (dk_at dksX2_term_0 8 rfl rfl)
theorem dX2_term_9 : decode cX2_term 9 = .ok (.invokevirtual 82, 3) := dk_182 0 82 (dk_at dksX2_term_0 9 rfl rfl)
theorem dX2_term_12 : decode cX2_term 12 = .ok (.ifCond .ne 11, 3) := dk_154 0 11 (dk_at dksX2_term_0 12 rfl rfl)
theorem dX2_term_15 : decode cX2_term 15 = .ok (.aload_n 0, 1) := dk_42 (dk_at dksX2_term_0 15 rfl rfl)
theorem dX2_term_16 : decode cX2_term 16 = .ok (.invokevirtual 132, 3) := dk_182 0 132 (dk_at dksX2_term_0 16 rfl rfl)
theorem dX2_term_19 : decode cX2_term 19 = .ok (.iconst (-1), 1) := dk_2 (dk_at dksX2_term_0 19 rfl rfl)
theorem dX2_term_20 : decode cX2_term 20 = .ok (.if_icmp .eq 7, 3) := dk_159 0 7 (dk_at dksX2_term_0 20 rfl rfl)
theorem dX2_term_23 : decode cX2_term 23 = .ok (.iconst 1, 1) := dk_4 (dk_at dksX2_term_0 23 rfl rfl)
theorem dX2_term_24 : decode cX2_term 24 = .ok (.goto 4, 3) := dk_167 0 4 (dk_at dksX2_term_1 0 rfl rfl)
theorem dX2_term_27 : decode cX2_term 27 = .ok (.iconst 0, 1) := dk_3 (dk_at dksX2_term_1 3 rfl rfl)
theorem dX2_term_28 : decode cX2_term 28 = .ok (.iconst 1, 1) := dk_4 (dk_at dksX2_term_1 4 rfl rfl)
theorem dX2_term_29 : decode cX2_term 29 = .ok (.iload_n 3, 1) := dk_29 (dk_at dksX2_term_1 5 rfl rfl)
theorem dX2_term_30 : decode cX2_term 30 = .ok (.invokevirtual 78, 3) := dk_182 0 78 (dk_at dksX2_term_1 6 rfl rfl)
theorem dX2_term_33 : decode cX2_term 33 = .ok (.aload_n 0, 1) := dk_42 (dk_at dksX2_term_1 9 rfl rfl)
theorem dX2_term_34 : decode cX2_term 34 = .ok (.invokevirtual 82, 3) := dk_182 0 82 (dk_at dksX2_term_1 10 rfl rfl)
theorem dX2_term_37 : decode cX2_term 37 = .ok (.ifCond .eq 26, 3) := dk_153 0 26 (dk_at dksX2_term_1 13 rfl rfl)
theorem dX2_term_40 : decode cX2_term 40 = .ok (.aload_n 0, 1) := dk_42 (dk_at dksX2_term_1 16 rfl rfl)
theorem dX2_term_41 : decode cX2_term 41 = .ok (.invokevirtual 89, 3) := dk_182 0 89 (dk_at dksX2_term_1 17 rfl rfl)
theorem dX2_term_44 : decode cX2_term 44 = .ok (.istore_n 2, 1) := dk_61 (dk_at dksX2_term_1 20 rfl rfl)
theorem dX2_term_45 : decode cX2_term 45 = .ok (.aload_n 0, 1) := dk_42 (dk_at dksX2_term_1 21 rfl rfl)
theorem dX2_term_46 : decode cX2_term 46 = .ok (.iload_n 2, 1) := dk_28 (dk_at dksX2_term_1 22 rfl rfl)
theorem dX2_term_47 : decode cX2_term 47 = .ok (.i2l, 1) := dk_133 (dk_at dksX2_term_1 23 rfl rfl)
theorem dX2_term_48 : decode cX2_term 48 = .ok (.lconst 1, 1) := dk_10 (dk_at dksX2_term_2 0 rfl rfl)
theorem dX2_term_49 : decode cX2_term 49 = .ok (.ldc2_w 135, 3) := dk_20 0 135 (dk_at dksX2_term_2 1 rfl rfl)
theorem dX2_term_52 : decode cX2_term 52 = .ok (.invokestatic 37, 3) := dk_184 0 37 (dk_at dksX2_term_2 4 rfl rfl)
theorem dX2_term_55 : decode cX2_term 55 = .ok (.iconst 2, 1) := dk_5 (dk_at dksX2_term_2 7 rfl rfl)
theorem dX2_term_56 : decode cX2_term 56 = .ok (.aload_n 0, 1) := dk_42 (dk_at dksX2_term_2 8 rfl rfl)
theorem dX2_term_57 : decode cX2_term 57 = .ok (.getfield 86, 3) := dk_180 0 86 (dk_at dksX2_term_2 9 rfl rfl)
theorem dX2_term_60 : decode cX2_term 60 = .ok (.invokevirtual 78, 3) := dk_182 0 78 (dk_at dksX2_term_2 12 rfl rfl)
theorem dX2_term_63 : decode cX2_term 63 = .ok (.aload_n 0, 1) := dk_42 (dk_at dksX2_term_2 15 rfl rfl)
theorem dX2_term_64 : decode cX2_term 64 = .ok (.iload_n 1, 1) := dk_27 (dk_at dksX2_term_2 16 rfl rfl)
theorem dX2_term_65 : decode cX2_term 65 = .ok (.iconst 5, 1) := dk_8 (dk_at dksX2_term_2 17 rfl rfl)
theorem dX2_term_66 : decode cX2_term 66 = .ok (.if_icmp .ge 7, 3) := dk_162 0 7 (dk_at dksX2_term_2 18 rfl rfl)
theorem dX2_term_69 : decode cX2_term 69 = .ok (.iconst 1, 1) := dk_4 (dk_at dksX2_term_2 21 rfl rfl)
theorem dX2_term_70 : decode cX2_term 70 = .ok (.goto 4, 3) := dk_167 0 4 (dk_at dksX2_term_3 0 rfl rfl)
theorem dX2_term_73 : decode cX2_term 73 = .ok (.iconst 0, 1) := dk_3 (dk_at dksX2_term_3 3 rfl rfl)
theorem dX2_term_74 : decode cX2_term 74 = .ok (.iconst 4, 1) := dk_7 (dk_at dksX2_term_3 4 rfl rfl)
theorem dX2_term_75 : decode cX2_term 75 = .ok (.iload_n 3, 1) := dk_29 (dk_at dksX2_term_3 5 rfl rfl)
theorem dX2_term_76 : decode cX2_term 76 = .ok (.invokevirtual 78, 3) := dk_182 0 78 (dk_at dksX2_term_3 6 rfl rfl)
theorem dX2_term_79 : decode cX2_term 79 = .ok (.aload_n 0, 1) := dk_42 (dk_at dksX2_term_3 9 rfl rfl)
theorem dX2_term_80 : decode cX2_term 80 = .ok (.invokevirtual 132, 3) := dk_182 0 132 (dk_at dksX2_term_3 10 rfl rfl)
theorem dX2_term_83 : decode cX2_term 83 = .ok (.istore 4, 2) := dk_54 4 (dk_at dksX2_term_3 13 rfl rfl)
theorem dX2_term_85 : decode cX2_term 85 = .ok (.aload_n 0, 1) := dk_42 (dk_at dksX2_term_3 15 rfl rfl)
theorem dX2_term_86 : decode cX2_term 86 = .ok (.iload 4, 2) := dk_21 4 (dk_at dksX2_term_3 16 rfl rfl)
theorem dX2_term_88 : decode cX2_term 88 = .ok (.iconst (-1), 1) := dk_2 (dk_at dksX2_term_3 18 rfl rfl)
theorem dX2_term_89 : decode cX2_term 89 = .ok (.if_icmp .eq 7, 3) := dk_159 0 7 (dk_at dksX2_term_3 19 rfl rfl)
theorem dX2_term_92 : decode cX2_term 92 = .ok (.iconst 1, 1) := dk_4 (dk_at dksX2_term_3 22 rfl rfl)
theorem dX2_term_93 : decode cX2_term 93 = .ok (.goto 4, 3) := dk_167 0 4 (dk_at dksX2_term_4 0 rfl rfl)
theorem dX2_term_96 : decode cX2_term 96 = .ok (.iconst 0, 1) := dk_3 (dk_at dksX2_term_4 3 rfl rfl)
theorem dX2_term_97 : decode cX2_term 97 = .ok (.iconst 1, 1) := dk_4 (dk_at dksX2_term_4 4 rfl rfl)
theorem dX2_term_98 : decode cX2_term 98 = .ok (.aload_n 0, 1) := dk_42 (dk_at dksX2_term_4 5 rfl rfl)
theorem dX2_term_99 : decode cX2_term 99 = .ok (.getfield 18, 3) := dk_180 0 18 (dk_at dksX2_term_4 6 rfl rfl)
theorem dX2_term_102 : decode cX2_term 102 = .ok (.invokevirtual 78, 3) := dk_182 0 78 (dk_at dksX2_term_4 9 rfl rfl)
theorem dX2_term_105 : decode cX2_term 105 = .ok (.aload_n 0, 1) := dk_42 (dk_at dksX2_term_4 12 rfl rfl)
theorem dX2_term_106 : decode cX2_term 106 = .ok (.dup, 1) := dk_89 (dk_at dksX2_term_4 13 rfl rfl)
theorem dX2_term_107 : decode cX2_term 107 = .ok (.getfield 18, 3) := dk_180 0 18 (dk_at dksX2_term_4 14 rfl rfl)
theorem dX2_term_110 : decode cX2_term 110 = .ok (.aload_n 0, 1) := dk_42 (dk_at dksX2_term_4 17 rfl rfl)
theorem dX2_term_111 : decode cX2_term 111 = .ok (.getfield 3, 3) := dk_180 0 3 (dk_at dksX2_term_4 18 rfl rfl)
theorem dX2_term_114 : decode cX2_term 114 = .ok (.getfield 128, 3) := dk_180 0 128 (dk_at dksX2_term_4 21 rfl rfl)
theorem dX2_term_117 : decode cX2_term 117 = .ok (.iload 4, 2) := dk_21 4 (dk_at dksX2_term_5 0 rfl rfl)
theorem dX2_term_119 : decode cX2_term 119 = .ok (.aaload, 1) := dk_50 (dk_at dksX2_term_5 2 rfl rfl)
theorem dX2_term_120 : decode cX2_term 120 = .ok (.invokevirtual 73, 3) := dk_182 0 73 (dk_at dksX2_term_5 3 rfl rfl)
theorem dX2_term_123 : decode cX2_term 123 = .ok (.iadd, 1) := dk_96 (dk_at dksX2_term_5 6 rfl rfl)
theorem dX2_term_124 : decode cX2_term 124 = .ok (.putfield 18, 3) := dk_181 0 18 (dk_at dksX2_term_5 7 rfl rfl)
theorem dX2_term_127 : decode cX2_term 127 = .ok (.aload_n 0, 1) := dk_42 (dk_at dksX2_term_5 10 rfl rfl)
theorem dX2_term_128 : decode cX2_term 128 = .ok (.invokevirtual 15, 3) := dk_182 0 15 (dk_at dksX2_term_5 11 rfl rfl)
theorem dX2_term_131 : decode cX2_term 131 = .ok (.new 117, 3) := dk_187 0 117 (dk_at dksX2_term_5 14 rfl rfl)
theorem dX2_term_134 : decode cX2_term 134 = .ok (.dup, 1) := dk_89 (dk_at dksX2_term_5 17 rfl rfl)
theorem dX2_term_135 : decode cX2_term 135 = .ok (.iload_n 2, 1) := dk_28 (dk_at dksX2_term_5 18 rfl rfl)
theorem dX2_term_136 : decode cX2_term 136 = .ok (.aload_n 0, 1) := dk_42 (dk_at dksX2_term_5 19 rfl rfl)
theorem dX2_term_137 : decode cX2_term 137 = .ok (.getfield 3, 3) := dk_180 0 3 (dk_at dksX2_term_5 20 rfl rfl)
theorem dX2_term_140 : decode cX2_term 140 = .ok (.getfield 137, 3) := dk_180 0 137 (dk_at dksX2_term_6 0 rfl rfl)
theorem dX2_term_143 : decode cX2_term 143 = .ok (.iload 4, 2) := dk_21 4 (dk_at dksX2_term_6 3 rfl rfl)
theorem dX2_term_145 : decode cX2_term 145 = .ok (.aaload, 1) := dk_50 (dk_at dksX2_term_6 5 rfl rfl)
theorem dX2_term_146 : decode cX2_term 146 = .ok (.iconst 0, 1) := dk_3 (dk_at dksX2_term_6 6 rfl rfl)
theorem dX2_term_147 : decode cX2_term 147 = .ok (.iconst 0, 1) := dk_3 (dk_at dksX2_term_6 7 rfl rfl)
theorem dX2_term_148 : decode cX2_term 148 = .ok (.invokespecial 141, 3) := dk_183 0 141 (dk_at dksX2_term_6 8 rfl rfl)
theorem dX2_term_151 : decode cX2_term 151 = .ok (.astore 5, 2) := dk_58 5 (dk_at dksX2_term_6 11 rfl rfl)
theorem dX2_term_153 : decode cX2_term 153 = .ok (.aload_n 0, 1) := dk_42 (dk_at dksX2_term_6 13 rfl rfl)
theorem dX2_term_154 : decode cX2_term 154 = .ok (.ldc 144, 2) := dk_18 144 (dk_at dksX2_term_6 14 rfl rfl)
theorem dX2_term_156 : decode cX2_term 156 = .ok (.invokevirtual 145, 3) := dk_182 0 145 (dk_at dksX2_term_6 16 rfl rfl)
theorem dX2_term_159 : decode cX2_term 159 = .ok (.ifCond .ne 29, 3) := dk_154 0 29 (dk_at dksX2_term_6 19 rfl rfl)
theorem dX2_term_162 : decode cX2_term 162 = .ok (.new 117, 3) := dk_187 0 117 (dk_at dksX2_term_7 0 rfl rfl)
theorem dX2_term_165 : decode cX2_term 165 = .ok (.dup, 1) := dk_89 (dk_at dksX2_term_7 3 rfl rfl)
theorem dX2_term_166 : decode cX2_term 166 = .ok (.iload_n 2, 1) := dk_28 (dk_at dksX2_term_7 4 rfl rfl)
theorem dX2_term_167 : decode cX2_term 167 = .ok (.aload_n 0, 1) := dk_42 (dk_at dksX2_term_7 5 rfl rfl)
theorem dX2_term_168 : decode cX2_term 168 = .ok (.getfield 3, 3) := dk_180 0 3 (dk_at dksX2_term_7 6 rfl rfl)
theorem dX2_term_171 : decode cX2_term 171 = .ok (.getfield 137, 3) := dk_180 0 137 (dk_at dksX2_term_7 9 rfl rfl)
theorem dX2_term_174 : decode cX2_term 174 = .ok (.iload 4, 2) := dk_21 4 (dk_at dksX2_term_7 12 rfl rfl)
theorem dX2_term_176 : decode cX2_term 176 = .ok (.aaload, 1) := dk_50 (dk_at dksX2_term_7 14 rfl rfl)
theorem dX2_term_177 : decode cX2_term 177 = .ok (.iconst 0, 1) := dk_3 (dk_at dksX2_term_7 15 rfl rfl)
theorem dX2_term_178 : decode cX2_term 178 = .ok (.aload_n 0, 1) := dk_42 (dk_at dksX2_term_7 16 rfl rfl)
theorem dX2_term_179 : decode cX2_term 179 = .ok (.aload 5, 2) := dk_25 5 (dk_at dksX2_term_7 17 rfl rfl)
theorem dX2_term_181 : decode cX2_term 181 = .ok (.invokevirtual 148, 3) := dk_182 0 148 (dk_at dksX2_term_7 19 rfl rfl)
theorem dX2_term_184 : decode cX2_term 184 = .ok (.invokespecial 141, 3) := dk_183 0 141 (dk_at dksX2_term_8 0 rfl rfl)
theorem dX2_term_187 : decode cX2_term 187 = .ok (.areturn, 1) := dk_176 (dk_at dksX2_term_8 3 rfl rfl)
theorem dX2_term_188 : decode cX2_term 188 = .ok (.aload_n 0, 1) := dk_42 (dk_at dksX2_term_8 4 rfl rfl)
theorem dX2_term_189 : decode cX2_term 189 = .ok (.invokevirtual 152, 3) := dk_182 0 152 (dk_at dksX2_term_8 5 rfl rfl)
theorem dX2_term_192 : decode cX2_term 192 = .ok (.istore 6, 2) := dk_54 6 (dk_at dksX2_term_8 8 rfl rfl)
theorem dX2_term_194 : decode cX2_term 194 = .ok (.aload_n 0, 1) := dk_42 (dk_at dksX2_term_8 10 rfl rfl)
theorem dX2_term_195 : decode cX2_term 195 = .ok (.aload 5, 2) := dk_25 5 (dk_at dksX2_term_8 11 rfl rfl)
theorem dX2_term_197 : decode cX2_term 197 = .ok (.iload 6, 2) := dk_21 6 (dk_at dksX2_term_8 13 rfl rfl)
theorem dX2_term_199 : decode cX2_term 199 = .ok (.i2l, 1) := dk_133 (dk_at dksX2_term_8 15 rfl rfl)
theorem dX2_term_200 : decode cX2_term 200 = .ok (.invokevirtual 155, 3) := dk_182 0 155 (dk_at dksX2_term_8 16 rfl rfl)
theorem dX2_term_203 : decode cX2_term 203 = .ok (.ldc2_w 159, 3) := dk_20 0 159 (dk_at dksX2_term_8 19 rfl rfl)
theorem dX2_term_206 : decode cX2_term 206 = .ok (.ldc2_w 161, 3) := dk_20 0 161 (dk_at dksX2_term_9 0 rfl rfl)
theorem dX2_term_209 : decode cX2_term 209 = .ok (.invokestatic 37, 3) := dk_184 0 37 (dk_at dksX2_term_9 3 rfl rfl)
theorem dX2_term_212 : decode cX2_term 212 = .ok (.iconst 3, 1) := dk_6 (dk_at dksX2_term_9 6 rfl rfl)
theorem dX2_term_213 : decode cX2_term 213 = .ok (.aload_n 0, 1) := dk_42 (dk_at dksX2_term_9 7 rfl rfl)
theorem dX2_term_214 : decode cX2_term 214 = .ok (.getfield 86, 3) := dk_180 0 86 (dk_at dksX2_term_9 8 rfl rfl)
theorem dX2_term_217 : decode cX2_term 217 = .ok (.invokevirtual 78, 3) := dk_182 0 78 (dk_at dksX2_term_9 11 rfl rfl)
theorem dX2_term_220 : decode cX2_term 220 = .ok (.aload_n 0, 1) := dk_42 (dk_at dksX2_term_9 14 rfl rfl)
theorem dX2_term_221 : decode cX2_term 221 = .ok (.aload_n 0, 1) := dk_42 (dk_at dksX2_term_9 15 rfl rfl)
theorem dX2_term_222 : decode cX2_term 222 = .ok (.ldc 163, 2) := dk_18 163 (dk_at dksX2_term_9 16 rfl rfl)
theorem dX2_term_224 : decode cX2_term 224 = .ok (.invokevirtual 145, 3) := dk_182 0 145 (dk_at dksX2_term_9 18 rfl rfl)
theorem dX2_term_227 : decode cX2_term 227 = .ok (.iconst 1, 1) := dk_4 (dk_at dksX2_term_9 21 rfl rfl)
theorem dX2_term_228 : decode cX2_term 228 = .ok (.aload_n 0, 1) := dk_42 (dk_at dksX2_term_9 22 rfl rfl)
theorem dX2_term_229 : decode cX2_term 229 = .ok (.getfield 18, 3) := dk_180 0 18 (dk_at dksX2_term_10 0 rfl rfl)
theorem dX2_term_232 : decode cX2_term 232 = .ok (.invokevirtual 78, 3) := dk_182 0 78 (dk_at dksX2_term_10 3 rfl rfl)
theorem dX2_term_235 : decode cX2_term 235 = .ok (.aload_n 0, 1) := dk_42 (dk_at dksX2_term_10 6 rfl rfl)
theorem dX2_term_236 : decode cX2_term 236 = .ok (.invokevirtual 152, 3) := dk_182 0 152 (dk_at dksX2_term_10 7 rfl rfl)
theorem dX2_term_239 : decode cX2_term 239 = .ok (.istore 7, 2) := dk_54 7 (dk_at dksX2_term_10 10 rfl rfl)
theorem dX2_term_241 : decode cX2_term 241 = .ok (.aload_n 0, 1) := dk_42 (dk_at dksX2_term_10 12 rfl rfl)
theorem dX2_term_242 : decode cX2_term 242 = .ok (.iload 7, 2) := dk_21 7 (dk_at dksX2_term_10 13 rfl rfl)
theorem dX2_term_244 : decode cX2_term 244 = .ok (.iload 6, 2) := dk_21 6 (dk_at dksX2_term_10 15 rfl rfl)
theorem dX2_term_246 : decode cX2_term 246 = .ok (.if_icmp .lt 27, 3) := dk_161 0 27 (dk_at dksX2_term_10 17 rfl rfl)
theorem dX2_term_249 : decode cX2_term 249 = .ok (.aload 5, 2) := dk_25 5 (dk_at dksX2_term_10 20 rfl rfl)
theorem dX2_term_251 : decode cX2_term 251 = .ok (.iload 7, 2) := dk_21 7 (dk_at dksX2_term_10 22 rfl rfl)
theorem dX2_term_253 : decode cX2_term 253 = .ok (.i2l, 1) := dk_133 (dk_at dksX2_term_11 0 rfl rfl)
theorem dX2_term_254 : decode cX2_term 254 = .ok (.invokevirtual 155, 3) := dk_182 0 155 (dk_at dksX2_term_11 1 rfl rfl)
theorem dX2_term_257 : decode cX2_term 257 = .ok (.ldc2_w 159, 3) := dk_20 0 159 (dk_at dksX2_term_11 4 rfl rfl)
theorem dX2_term_260 : decode cX2_term 260 = .ok (.ldc2_w 161, 3) := dk_20 0 161 (dk_at dksX2_term_11 7 rfl rfl)
theorem dX2_term_263 : decode cX2_term 263 = .ok (.invokestatic 37, 3) := dk_184 0 37 (dk_at dksX2_term_11 10 rfl rfl)
theorem dX2_term_266 : decode cX2_term 266 = .ok (.ifCond .eq 7, 3) := dk_153 0 7 (dk_at dksX2_term_11 13 rfl rfl)
theorem dX2_term_269 : decode cX2_term 269 = .ok (.iconst 1, 1) := dk_4 (dk_at dksX2_term_11 16 rfl rfl)
theorem dX2_term_270 : decode cX2_term 270 = .ok (.goto 4, 3) := dk_167 0 4 (dk_at dksX2_term_11 17 rfl rfl)
theorem dX2_term_273 : decode cX2_term 273 = .ok (.iconst 0, 1) := dk_3 (dk_at dksX2_term_11 20 rfl rfl)
theorem dX2_term_274 : decode cX2_term 274 = .ok (.iconst 3, 1) := dk_6 (dk_at dksX2_term_11 21 rfl rfl)
theorem dX2_term_275 : decode cX2_term 275 = .ok (.aload_n 0, 1) := dk_42 (dk_at dksX2_term_11 22 rfl rfl)
theorem dX2_term_276 : decode cX2_term 276 = .ok (.getfield 86, 3) := dk_180 0 86 (dk_at dksX2_term_12 0 rfl rfl)
theorem dX2_term_279 : decode cX2_term 279 = .ok (.invokevirtual 78, 3) := dk_182 0 78 (dk_at dksX2_term_12 3 rfl rfl)
theorem dX2_term_282 : decode cX2_term 282 = .ok (.new 117, 3) := dk_187 0 117 (dk_at dksX2_term_12 6 rfl rfl)
theorem dX2_term_285 : decode cX2_term 285 = .ok (.dup, 1) := dk_89 (dk_at dksX2_term_12 9 rfl rfl)
theorem dX2_term_286 : decode cX2_term 286 = .ok (.iload_n 2, 1) := dk_28 (dk_at dksX2_term_12 10 rfl rfl)
theorem dX2_term_287 : decode cX2_term 287 = .ok (.aload_n 0, 1) := dk_42 (dk_at dksX2_term_12 11 rfl rfl)
theorem dX2_term_288 : decode cX2_term 288 = .ok (.getfield 3, 3) := dk_180 0 3 (dk_at dksX2_term_12 12 rfl rfl)
theorem dX2_term_291 : decode cX2_term 291 = .ok (.getfield 137, 3) := dk_180 0 137 (dk_at dksX2_term_12 15 rfl rfl)
theorem dX2_term_294 : decode cX2_term 294 = .ok (.iload 4, 2) := dk_21 4 (dk_at dksX2_term_12 18 rfl rfl)
theorem dX2_term_296 : decode cX2_term 296 = .ok (.aaload, 1) := dk_50 (dk_at dksX2_term_12 20 rfl rfl)
theorem dX2_term_297 : decode cX2_term 297 = .ok (.iload 6, 2) := dk_21 6 (dk_at dksX2_term_12 21 rfl rfl)
theorem dX2_term_299 : decode cX2_term 299 = .ok (.iload 7, 2) := dk_21 7 (dk_at dksX2_term_13 0 rfl rfl)
theorem dX2_term_301 : decode cX2_term 301 = .ok (.invokespecial 141, 3) := dk_183 0 141 (dk_at dksX2_term_13 2 rfl rfl)
theorem dX2_term_304 : decode cX2_term 304 = .ok (.areturn, 1) := dk_176 (dk_at dksX2_term_13 5 rfl rfl)
abbrev cX2_isDigit : ByteArray := prog_19_method_5_code
def yX2_isDigit : MethodName := ⟨RX2, "isDigit", "()Z"⟩
def dkwX2_isDigit_0 : List UInt8 := [42, 182, 0, 29, 133, 20, 0, 33, 20, 0, 35, 184, 0, 37, 172]
abbrev dktX2_isDigit_0 : List UInt8 := dkwX2_isDigit_0 ++ []
theorem dksX2_isDigit_0 : cX2_isDigit.data.toList.drop 0 = dktX2_isDigit_0 := by decide +kernel
theorem dX2_isDigit_0 : decode cX2_isDigit 0 = .ok (.aload_n 0, 1) := dk_42 (dk_at dksX2_isDigit_0 0 rfl rfl)
theorem dX2_isDigit_1 : decode cX2_isDigit 1 = .ok (.invokevirtual 29, 3) := dk_182 0 29 (dk_at dksX2_isDigit_0 1 rfl rfl)
theorem dX2_isDigit_4 : decode cX2_isDigit 4 = .ok (.i2l, 1) := dk_133 (dk_at dksX2_isDigit_0 4 rfl rfl)
theorem dX2_isDigit_5 : decode cX2_isDigit 5 = .ok (.ldc2_w 33, 3) := dk_20 0 33 (dk_at dksX2_isDigit_0 5 rfl rfl)
theorem dX2_isDigit_8 : decode cX2_isDigit 8 = .ok (.ldc2_w 35, 3) := dk_20 0 35 (dk_at dksX2_isDigit_0 8 rfl rfl)
theorem dX2_isDigit_11 : decode cX2_isDigit 11 = .ok (.invokestatic 37, 3) := dk_184 0 37 (dk_at dksX2_isDigit_0 11 rfl rfl)
theorem dX2_isDigit_14 : decode cX2_isDigit 14 = .ok (.ireturn, 1) := dk_172 (dk_at dksX2_isDigit_0 14 rfl rfl)
abbrev cX2_kind : ByteArray := prog_19_method_14_code
def yX2_kind : MethodName := ⟨RX2, "kind", "()I"⟩
def dkwX2_kind_2 : List UInt8 := [172]
abbrev dktX2_kind_2 : List UInt8 := dkwX2_kind_2 ++ []
def dkwX2_kind_1 : List UInt8 := [180, 0, 128, 28, 50, 182, 0, 67, 153, 0, 7, 28, 167, 0, 4, 27, 60, 132, 2, 1, 167, 255, 216, 27]
abbrev dktX2_kind_1 : List UInt8 := dkwX2_kind_1 ++ dktX2_kind_2
def dkwX2_kind_0 : List UInt8 := [2, 60, 3, 61, 28, 42, 180, 0, 3, 180, 0, 128, 190, 162, 0, 34, 42, 182, 0, 64, 42, 180, 0, 3]
abbrev dktX2_kind_0 : List UInt8 := dkwX2_kind_0 ++ dktX2_kind_1
theorem dksX2_kind_0 : cX2_kind.data.toList.drop 0 = dktX2_kind_0 := by decide +kernel
theorem dksX2_kind_1 : cX2_kind.data.toList.drop 24 = dktX2_kind_1 := dk_seg dksX2_kind_0 24 rfl rfl
theorem dksX2_kind_2 : cX2_kind.data.toList.drop 48 = dktX2_kind_2 := dk_seg dksX2_kind_1 24 rfl rfl
theorem dX2_kind_0 : decode cX2_kind 0 = .ok (.iconst (-1), 1) := dk_2 (dk_at dksX2_kind_0 0 rfl rfl)
theorem dX2_kind_1 : decode cX2_kind 1 = .ok (.istore_n 1, 1) := dk_60 (dk_at dksX2_kind_0 1 rfl rfl)
theorem dX2_kind_2 : decode cX2_kind 2 = .ok (.iconst 0, 1) := dk_3 (dk_at dksX2_kind_0 2 rfl rfl)
theorem dX2_kind_3 : decode cX2_kind 3 = .ok (.istore_n 2, 1) := dk_61 (dk_at dksX2_kind_0 3 rfl rfl)
theorem dX2_kind_4 : decode cX2_kind 4 = .ok (.iload_n 2, 1) := dk_28 (dk_at dksX2_kind_0 4 rfl rfl)
theorem dX2_kind_5 : decode cX2_kind 5 = .ok (.aload_n 0, 1) := dk_42 (dk_at dksX2_kind_0 5 rfl rfl)
theorem dX2_kind_6 : decode cX2_kind 6 = .ok (.getfield 3, 3) := dk_180 0 3 (dk_at dksX2_kind_0 6 rfl rfl)
theorem dX2_kind_9 : decode cX2_kind 9 = .ok (.getfield 128, 3) := dk_180 0 128 (dk_at dksX2_kind_0 9 rfl rfl)
theorem dX2_kind_12 : decode cX2_kind 12 = .ok (.arraylength, 1) := dk_190 (dk_at dksX2_kind_0 12 rfl rfl)
theorem dX2_kind_13 : decode cX2_kind 13 = .ok (.if_icmp .ge 34, 3) := dk_162 0 34 (dk_at dksX2_kind_0 13 rfl rfl)
theorem dX2_kind_16 : decode cX2_kind 16 = .ok (.aload_n 0, 1) := dk_42 (dk_at dksX2_kind_0 16 rfl rfl)
theorem dX2_kind_17 : decode cX2_kind 17 = .ok (.invokevirtual 64, 3) := dk_182 0 64 (dk_at dksX2_kind_0 17 rfl rfl)
theorem dX2_kind_20 : decode cX2_kind 20 = .ok (.aload_n 0, 1) := dk_42 (dk_at dksX2_kind_0 20 rfl rfl)
theorem dX2_kind_21 : decode cX2_kind 21 = .ok (.getfield 3, 3) := dk_180 0 3 (dk_at dksX2_kind_0 21 rfl rfl)
theorem dX2_kind_24 : decode cX2_kind 24 = .ok (.getfield 128, 3) := dk_180 0 128 (dk_at dksX2_kind_1 0 rfl rfl)
theorem dX2_kind_27 : decode cX2_kind 27 = .ok (.iload_n 2, 1) := dk_28 (dk_at dksX2_kind_1 3 rfl rfl)
theorem dX2_kind_28 : decode cX2_kind 28 = .ok (.aaload, 1) := dk_50 (dk_at dksX2_kind_1 4 rfl rfl)
theorem dX2_kind_29 : decode cX2_kind 29 = .ok (.invokevirtual 67, 3) := dk_182 0 67 (dk_at dksX2_kind_1 5 rfl rfl)
theorem dX2_kind_32 : decode cX2_kind 32 = .ok (.ifCond .eq 7, 3) := dk_153 0 7 (dk_at dksX2_kind_1 8 rfl rfl)
theorem dX2_kind_35 : decode cX2_kind 35 = .ok (.iload_n 2, 1) := dk_28 (dk_at dksX2_kind_1 11 rfl rfl)
theorem dX2_kind_36 : decode cX2_kind 36 = .ok (.goto 4, 3) := dk_167 0 4 (dk_at dksX2_kind_1 12 rfl rfl)
theorem dX2_kind_39 : decode cX2_kind 39 = .ok (.iload_n 1, 1) := dk_27 (dk_at dksX2_kind_1 15 rfl rfl)
theorem dX2_kind_40 : decode cX2_kind 40 = .ok (.istore_n 1, 1) := dk_60 (dk_at dksX2_kind_1 16 rfl rfl)
theorem dX2_kind_41 : decode cX2_kind 41 = .ok (.iinc 2 1, 3) := dk_132 2 1 (dk_at dksX2_kind_1 17 rfl rfl)
theorem dX2_kind_44 : decode cX2_kind 44 = .ok (.goto (-40), 3) := dk_167 255 216 (dk_at dksX2_kind_1 20 rfl rfl)
theorem dX2_kind_47 : decode cX2_kind 47 = .ok (.iload_n 1, 1) := dk_27 (dk_at dksX2_kind_1 23 rfl rfl)
theorem dX2_kind_48 : decode cX2_kind 48 = .ok (.ireturn, 1) := dk_172 (dk_at dksX2_kind_2 0 rfl rfl)
abbrev cX2_seen : ByteArray := prog_19_method_7_code
def yX2_seen : MethodName := ⟨RX2, "seen", "()Ljava/lang/String;"⟩
def dkwX2_seen_3 : List UInt8 := [132, 2, 1, 167, 255, 196, 43, 182, 0, 60, 176]
abbrev dktX2_seen_3 : List UInt8 := dkwX2_seen_3 ++ []
def dkwX2_seen_2 : List UInt8 := [182, 0, 53, 16, 8, 162, 0, 24, 43, 42, 180, 0, 3, 180, 0, 25, 28, 51, 146, 182, 0, 56, 87]
abbrev dktX2_seen_2 : List UInt8 := dkwX2_seen_2 ++ dktX2_seen_3
def dkwX2_seen_1 : List UInt8 := [42, 180, 0, 3, 180, 0, 25, 28, 51, 133, 20, 0, 49, 20, 0, 51, 184, 0, 37, 153, 0, 33, 43]
abbrev dktX2_seen_1 : List UInt8 := dkwX2_seen_1 ++ dktX2_seen_2
def dkwX2_seen_0 : List UInt8 := [187, 0, 46, 89, 183, 0, 48, 76, 42, 180, 0, 18, 61, 28, 42, 180, 0, 3, 180, 0, 22, 162, 0, 55]
abbrev dktX2_seen_0 : List UInt8 := dkwX2_seen_0 ++ dktX2_seen_1
theorem dksX2_seen_0 : cX2_seen.data.toList.drop 0 = dktX2_seen_0 := by decide +kernel
theorem dksX2_seen_1 : cX2_seen.data.toList.drop 24 = dktX2_seen_1 := dk_seg dksX2_seen_0 24 rfl rfl
theorem dksX2_seen_2 : cX2_seen.data.toList.drop 47 = dktX2_seen_2 := dk_seg dksX2_seen_1 23 rfl rfl
theorem dksX2_seen_3 : cX2_seen.data.toList.drop 70 = dktX2_seen_3 := dk_seg dksX2_seen_2 23 rfl rfl
theorem dX2_seen_0 : decode cX2_seen 0 = .ok (.new 46, 3) := dk_187 0 46 (dk_at dksX2_seen_0 0 rfl rfl)
theorem dX2_seen_3 : decode cX2_seen 3 = .ok (.dup, 1) := dk_89 (dk_at dksX2_seen_0 3 rfl rfl)
theorem dX2_seen_4 : decode cX2_seen 4 = .ok (.invokespecial 48, 3) := dk_183 0 48 (dk_at dksX2_seen_0 4 rfl rfl)
theorem dX2_seen_7 : decode cX2_seen 7 = .ok (.astore_n 1, 1) := dk_76 (dk_at dksX2_seen_0 7 rfl rfl)
theorem dX2_seen_8 : decode cX2_seen 8 = .ok (.aload_n 0, 1) := dk_42 (dk_at dksX2_seen_0 8 rfl rfl)
theorem dX2_seen_9 : decode cX2_seen 9 = .ok (.getfield 18, 3) := dk_180 0 18 (dk_at dksX2_seen_0 9 rfl rfl)
theorem dX2_seen_12 : decode cX2_seen 12 = .ok (.istore_n 2, 1) := dk_61 (dk_at dksX2_seen_0 12 rfl rfl)
theorem dX2_seen_13 : decode cX2_seen 13 = .ok (.iload_n 2, 1) := dk_28 (dk_at dksX2_seen_0 13 rfl rfl)
theorem dX2_seen_14 : decode cX2_seen 14 = .ok (.aload_n 0, 1) := dk_42 (dk_at dksX2_seen_0 14 rfl rfl)
theorem dX2_seen_15 : decode cX2_seen 15 = .ok (.getfield 3, 3) := dk_180 0 3 (dk_at dksX2_seen_0 15 rfl rfl)
theorem dX2_seen_18 : decode cX2_seen 18 = .ok (.getfield 22, 3) := dk_180 0 22 (dk_at dksX2_seen_0 18 rfl rfl)
theorem dX2_seen_21 : decode cX2_seen 21 = .ok (.if_icmp .ge 55, 3) := dk_162 0 55 (dk_at dksX2_seen_0 21 rfl rfl)
theorem dX2_seen_24 : decode cX2_seen 24 = .ok (.aload_n 0, 1) := dk_42 (dk_at dksX2_seen_1 0 rfl rfl)
theorem dX2_seen_25 : decode cX2_seen 25 = .ok (.getfield 3, 3) := dk_180 0 3 (dk_at dksX2_seen_1 1 rfl rfl)
theorem dX2_seen_28 : decode cX2_seen 28 = .ok (.getfield 25, 3) := dk_180 0 25 (dk_at dksX2_seen_1 4 rfl rfl)
theorem dX2_seen_31 : decode cX2_seen 31 = .ok (.iload_n 2, 1) := dk_28 (dk_at dksX2_seen_1 7 rfl rfl)
theorem dX2_seen_32 : decode cX2_seen 32 = .ok (.baload, 1) := dk_51 (dk_at dksX2_seen_1 8 rfl rfl)
theorem dX2_seen_33 : decode cX2_seen 33 = .ok (.i2l, 1) := dk_133 (dk_at dksX2_seen_1 9 rfl rfl)
theorem dX2_seen_34 : decode cX2_seen 34 = .ok (.ldc2_w 49, 3) := dk_20 0 49 (dk_at dksX2_seen_1 10 rfl rfl)
theorem dX2_seen_37 : decode cX2_seen 37 = .ok (.ldc2_w 51, 3) := dk_20 0 51 (dk_at dksX2_seen_1 13 rfl rfl)
theorem dX2_seen_40 : decode cX2_seen 40 = .ok (.invokestatic 37, 3) := dk_184 0 37 (dk_at dksX2_seen_1 16 rfl rfl)
theorem dX2_seen_43 : decode cX2_seen 43 = .ok (.ifCond .eq 33, 3) := dk_153 0 33 (dk_at dksX2_seen_1 19 rfl rfl)
theorem dX2_seen_46 : decode cX2_seen 46 = .ok (.aload_n 1, 1) := dk_43 (dk_at dksX2_seen_1 22 rfl rfl)
theorem dX2_seen_47 : decode cX2_seen 47 = .ok (.invokevirtual 53, 3) := dk_182 0 53 (dk_at dksX2_seen_2 0 rfl rfl)
theorem dX2_seen_50 : decode cX2_seen 50 = .ok (.bipush 8, 2) := dk_16 8 (dk_at dksX2_seen_2 3 rfl rfl)
theorem dX2_seen_52 : decode cX2_seen 52 = .ok (.if_icmp .ge 24, 3) := dk_162 0 24 (dk_at dksX2_seen_2 5 rfl rfl)
theorem dX2_seen_55 : decode cX2_seen 55 = .ok (.aload_n 1, 1) := dk_43 (dk_at dksX2_seen_2 8 rfl rfl)
theorem dX2_seen_56 : decode cX2_seen 56 = .ok (.aload_n 0, 1) := dk_42 (dk_at dksX2_seen_2 9 rfl rfl)
theorem dX2_seen_57 : decode cX2_seen 57 = .ok (.getfield 3, 3) := dk_180 0 3 (dk_at dksX2_seen_2 10 rfl rfl)
theorem dX2_seen_60 : decode cX2_seen 60 = .ok (.getfield 25, 3) := dk_180 0 25 (dk_at dksX2_seen_2 13 rfl rfl)
theorem dX2_seen_63 : decode cX2_seen 63 = .ok (.iload_n 2, 1) := dk_28 (dk_at dksX2_seen_2 16 rfl rfl)
theorem dX2_seen_64 : decode cX2_seen 64 = .ok (.baload, 1) := dk_51 (dk_at dksX2_seen_2 17 rfl rfl)
theorem dX2_seen_65 : decode cX2_seen 65 = .ok (.i2c, 1) := dk_146 (dk_at dksX2_seen_2 18 rfl rfl)
theorem dX2_seen_66 : decode cX2_seen 66 = .ok (.invokevirtual 56, 3) := dk_182 0 56 (dk_at dksX2_seen_2 19 rfl rfl)
theorem dX2_seen_69 : decode cX2_seen 69 = .ok (.pop, 1) := dk_87 (dk_at dksX2_seen_2 22 rfl rfl)
theorem dX2_seen_70 : decode cX2_seen 70 = .ok (.iinc 2 1, 3) := dk_132 2 1 (dk_at dksX2_seen_3 0 rfl rfl)
theorem dX2_seen_73 : decode cX2_seen 73 = .ok (.goto (-60), 3) := dk_167 255 196 (dk_at dksX2_seen_3 3 rfl rfl)
theorem dX2_seen_76 : decode cX2_seen 76 = .ok (.aload_n 1, 1) := dk_43 (dk_at dksX2_seen_3 6 rfl rfl)
theorem dX2_seen_77 : decode cX2_seen 77 = .ok (.invokevirtual 60, 3) := dk_182 0 60 (dk_at dksX2_seen_3 7 rfl rfl)
theorem dX2_seen_80 : decode cX2_seen 80 = .ok (.areturn, 1) := dk_176 (dk_at dksX2_seen_3 10 rfl rfl)
abbrev cX2_must : ByteArray := prog_19_method_6_code
def yX2_must : MethodName := ⟨RX2, "must", "(ZII)V"⟩
def dkwX2_must_0 : List UInt8 := [27, 154, 0, 13, 187, 0, 41, 89, 28, 29, 183, 0, 43, 191, 177]
abbrev dktX2_must_0 : List UInt8 := dkwX2_must_0 ++ []
theorem dksX2_must_0 : cX2_must.data.toList.drop 0 = dktX2_must_0 := by decide +kernel
theorem dX2_must_0 : decode cX2_must 0 = .ok (.iload_n 1, 1) := dk_27 (dk_at dksX2_must_0 0 rfl rfl)
theorem dX2_must_1 : decode cX2_must 1 = .ok (.ifCond .ne 13, 3) := dk_154 0 13 (dk_at dksX2_must_0 1 rfl rfl)
theorem dX2_must_4 : decode cX2_must 4 = .ok (.new 41, 3) := dk_187 0 41 (dk_at dksX2_must_0 4 rfl rfl)
theorem dX2_must_7 : decode cX2_must 7 = .ok (.dup, 1) := dk_89 (dk_at dksX2_must_0 7 rfl rfl)
theorem dX2_must_8 : decode cX2_must 8 = .ok (.iload_n 2, 1) := dk_28 (dk_at dksX2_must_0 8 rfl rfl)
theorem dX2_must_9 : decode cX2_must 9 = .ok (.iload_n 3, 1) := dk_29 (dk_at dksX2_must_0 9 rfl rfl)
theorem dX2_must_10 : decode cX2_must 10 = .ok (.invokespecial 43, 3) := dk_183 0 43 (dk_at dksX2_must_0 10 rfl rfl)
theorem dX2_must_13 : decode cX2_must 13 = .ok (.athrow, 1) := dk_191 (dk_at dksX2_must_0 13 rfl rfl)
theorem dX2_must_14 : decode cX2_must 14 = .ok (.return_, 1) := dk_177 (dk_at dksX2_must_0 14 rfl rfl)
abbrev cX2_number : ByteArray := prog_19_method_11_code
def yX2_number : MethodName := ⟨RX2, "number", "()I"⟩
def dkwX2_number_4 : List UInt8 := [182, 0, 78, 42, 182, 0, 15, 27, 172]
abbrev dktX2_number_4 : List UInt8 := dkwX2_number_4 ++ []
def dkwX2_number_3 : List UInt8 := [180, 0, 18, 42, 180, 0, 86, 100, 7, 163, 0, 7, 4, 167, 0, 4, 3, 4, 42, 180, 0, 86]
abbrev dktX2_number_3 : List UInt8 := dkwX2_number_3 ++ dktX2_number_4
def dkwX2_number_2 : List UInt8 := [182, 0, 29, 96, 16, 48, 100, 60, 42, 89, 180, 0, 18, 4, 96, 181, 0, 18, 167, 255, 213, 42, 42]
abbrev dktX2_number_2 : List UInt8 := dkwX2_number_2 ++ dktX2_number_3
def dkwX2_number_1 : List UInt8 := [182, 0, 82, 153, 0, 42, 42, 180, 0, 18, 42, 180, 0, 86, 100, 7, 162, 0, 16, 16, 10, 27, 104, 42]
abbrev dktX2_number_1 : List UInt8 := dkwX2_number_1 ++ dktX2_number_2
def dkwX2_number_0 : List UInt8 := [42, 42, 182, 0, 82, 4, 42, 180, 0, 18, 182, 0, 78, 42, 42, 180, 0, 18, 181, 0, 86, 3, 60, 42]
abbrev dktX2_number_0 : List UInt8 := dkwX2_number_0 ++ dktX2_number_1
theorem dksX2_number_0 : cX2_number.data.toList.drop 0 = dktX2_number_0 := by decide +kernel
theorem dksX2_number_1 : cX2_number.data.toList.drop 24 = dktX2_number_1 := dk_seg dksX2_number_0 24 rfl rfl
theorem dksX2_number_2 : cX2_number.data.toList.drop 48 = dktX2_number_2 := dk_seg dksX2_number_1 24 rfl rfl
theorem dksX2_number_3 : cX2_number.data.toList.drop 71 = dktX2_number_3 := dk_seg dksX2_number_2 23 rfl rfl
theorem dksX2_number_4 : cX2_number.data.toList.drop 93 = dktX2_number_4 := dk_seg dksX2_number_3 22 rfl rfl
theorem dX2_number_0 : decode cX2_number 0 = .ok (.aload_n 0, 1) := dk_42 (dk_at dksX2_number_0 0 rfl rfl)
theorem dX2_number_1 : decode cX2_number 1 = .ok (.aload_n 0, 1) := dk_42 (dk_at dksX2_number_0 1 rfl rfl)
theorem dX2_number_2 : decode cX2_number 2 = .ok (.invokevirtual 82, 3) := dk_182 0 82 (dk_at dksX2_number_0 2 rfl rfl)
theorem dX2_number_5 : decode cX2_number 5 = .ok (.iconst 1, 1) := dk_4 (dk_at dksX2_number_0 5 rfl rfl)
theorem dX2_number_6 : decode cX2_number 6 = .ok (.aload_n 0, 1) := dk_42 (dk_at dksX2_number_0 6 rfl rfl)
theorem dX2_number_7 : decode cX2_number 7 = .ok (.getfield 18, 3) := dk_180 0 18 (dk_at dksX2_number_0 7 rfl rfl)
theorem dX2_number_10 : decode cX2_number 10 = .ok (.invokevirtual 78, 3) := dk_182 0 78 (dk_at dksX2_number_0 10 rfl rfl)
theorem dX2_number_13 : decode cX2_number 13 = .ok (.aload_n 0, 1) := dk_42 (dk_at dksX2_number_0 13 rfl rfl)
theorem dX2_number_14 : decode cX2_number 14 = .ok (.aload_n 0, 1) := dk_42 (dk_at dksX2_number_0 14 rfl rfl)
theorem dX2_number_15 : decode cX2_number 15 = .ok (.getfield 18, 3) := dk_180 0 18 (dk_at dksX2_number_0 15 rfl rfl)
theorem dX2_number_18 : decode cX2_number 18 = .ok (.putfield 86, 3) := dk_181 0 86 (dk_at dksX2_number_0 18 rfl rfl)
theorem dX2_number_21 : decode cX2_number 21 = .ok (.iconst 0, 1) := dk_3 (dk_at dksX2_number_0 21 rfl rfl)
theorem dX2_number_22 : decode cX2_number 22 = .ok (.istore_n 1, 1) := dk_60 (dk_at dksX2_number_0 22 rfl rfl)
theorem dX2_number_23 : decode cX2_number 23 = .ok (.aload_n 0, 1) := dk_42 (dk_at dksX2_number_0 23 rfl rfl)
theorem dX2_number_24 : decode cX2_number 24 = .ok (.invokevirtual 82, 3) := dk_182 0 82 (dk_at dksX2_number_1 0 rfl rfl)
theorem dX2_number_27 : decode cX2_number 27 = .ok (.ifCond .eq 42, 3) := dk_153 0 42 (dk_at dksX2_number_1 3 rfl rfl)
theorem dX2_number_30 : decode cX2_number 30 = .ok (.aload_n 0, 1) := dk_42 (dk_at dksX2_number_1 6 rfl rfl)
theorem dX2_number_31 : decode cX2_number 31 = .ok (.getfield 18, 3) := dk_180 0 18 (dk_at dksX2_number_1 7 rfl rfl)
theorem dX2_number_34 : decode cX2_number 34 = .ok (.aload_n 0, 1) := dk_42 (dk_at dksX2_number_1 10 rfl rfl)
theorem dX2_number_35 : decode cX2_number 35 = .ok (.getfield 86, 3) := dk_180 0 86 (dk_at dksX2_number_1 11 rfl rfl)
theorem dX2_number_38 : decode cX2_number 38 = .ok (.isub, 1) := dk_100 (dk_at dksX2_number_1 14 rfl rfl)
theorem dX2_number_39 : decode cX2_number 39 = .ok (.iconst 4, 1) := dk_7 (dk_at dksX2_number_1 15 rfl rfl)
theorem dX2_number_40 : decode cX2_number 40 = .ok (.if_icmp .ge 16, 3) := dk_162 0 16 (dk_at dksX2_number_1 16 rfl rfl)
theorem dX2_number_43 : decode cX2_number 43 = .ok (.bipush 10, 2) := dk_16 10 (dk_at dksX2_number_1 19 rfl rfl)
theorem dX2_number_45 : decode cX2_number 45 = .ok (.iload_n 1, 1) := dk_27 (dk_at dksX2_number_1 21 rfl rfl)
theorem dX2_number_46 : decode cX2_number 46 = .ok (.imul, 1) := dk_104 (dk_at dksX2_number_1 22 rfl rfl)
theorem dX2_number_47 : decode cX2_number 47 = .ok (.aload_n 0, 1) := dk_42 (dk_at dksX2_number_1 23 rfl rfl)
theorem dX2_number_48 : decode cX2_number 48 = .ok (.invokevirtual 29, 3) := dk_182 0 29 (dk_at dksX2_number_2 0 rfl rfl)
theorem dX2_number_51 : decode cX2_number 51 = .ok (.iadd, 1) := dk_96 (dk_at dksX2_number_2 3 rfl rfl)
theorem dX2_number_52 : decode cX2_number 52 = .ok (.bipush 48, 2) := dk_16 48 (dk_at dksX2_number_2 4 rfl rfl)
theorem dX2_number_54 : decode cX2_number 54 = .ok (.isub, 1) := dk_100 (dk_at dksX2_number_2 6 rfl rfl)
theorem dX2_number_55 : decode cX2_number 55 = .ok (.istore_n 1, 1) := dk_60 (dk_at dksX2_number_2 7 rfl rfl)
theorem dX2_number_56 : decode cX2_number 56 = .ok (.aload_n 0, 1) := dk_42 (dk_at dksX2_number_2 8 rfl rfl)
theorem dX2_number_57 : decode cX2_number 57 = .ok (.dup, 1) := dk_89 (dk_at dksX2_number_2 9 rfl rfl)
theorem dX2_number_58 : decode cX2_number 58 = .ok (.getfield 18, 3) := dk_180 0 18 (dk_at dksX2_number_2 10 rfl rfl)
theorem dX2_number_61 : decode cX2_number 61 = .ok (.iconst 1, 1) := dk_4 (dk_at dksX2_number_2 13 rfl rfl)
theorem dX2_number_62 : decode cX2_number 62 = .ok (.iadd, 1) := dk_96 (dk_at dksX2_number_2 14 rfl rfl)
theorem dX2_number_63 : decode cX2_number 63 = .ok (.putfield 18, 3) := dk_181 0 18 (dk_at dksX2_number_2 15 rfl rfl)
theorem dX2_number_66 : decode cX2_number 66 = .ok (.goto (-43), 3) := dk_167 255 213 (dk_at dksX2_number_2 18 rfl rfl)
theorem dX2_number_69 : decode cX2_number 69 = .ok (.aload_n 0, 1) := dk_42 (dk_at dksX2_number_2 21 rfl rfl)
theorem dX2_number_70 : decode cX2_number 70 = .ok (.aload_n 0, 1) := dk_42 (dk_at dksX2_number_2 22 rfl rfl)
theorem dX2_number_71 : decode cX2_number 71 = .ok (.getfield 18, 3) := dk_180 0 18 (dk_at dksX2_number_3 0 rfl rfl)
theorem dX2_number_74 : decode cX2_number 74 = .ok (.aload_n 0, 1) := dk_42 (dk_at dksX2_number_3 3 rfl rfl)
theorem dX2_number_75 : decode cX2_number 75 = .ok (.getfield 86, 3) := dk_180 0 86 (dk_at dksX2_number_3 4 rfl rfl)
theorem dX2_number_78 : decode cX2_number 78 = .ok (.isub, 1) := dk_100 (dk_at dksX2_number_3 7 rfl rfl)
theorem dX2_number_79 : decode cX2_number 79 = .ok (.iconst 4, 1) := dk_7 (dk_at dksX2_number_3 8 rfl rfl)
theorem dX2_number_80 : decode cX2_number 80 = .ok (.if_icmp .gt 7, 3) := dk_163 0 7 (dk_at dksX2_number_3 9 rfl rfl)
theorem dX2_number_83 : decode cX2_number 83 = .ok (.iconst 1, 1) := dk_4 (dk_at dksX2_number_3 12 rfl rfl)
theorem dX2_number_84 : decode cX2_number 84 = .ok (.goto 4, 3) := dk_167 0 4 (dk_at dksX2_number_3 13 rfl rfl)
theorem dX2_number_87 : decode cX2_number 87 = .ok (.iconst 0, 1) := dk_3 (dk_at dksX2_number_3 16 rfl rfl)
theorem dX2_number_88 : decode cX2_number 88 = .ok (.iconst 1, 1) := dk_4 (dk_at dksX2_number_3 17 rfl rfl)
theorem dX2_number_89 : decode cX2_number 89 = .ok (.aload_n 0, 1) := dk_42 (dk_at dksX2_number_3 18 rfl rfl)
theorem dX2_number_90 : decode cX2_number 90 = .ok (.getfield 86, 3) := dk_180 0 86 (dk_at dksX2_number_3 19 rfl rfl)
theorem dX2_number_93 : decode cX2_number 93 = .ok (.invokevirtual 78, 3) := dk_182 0 78 (dk_at dksX2_number_4 0 rfl rfl)
theorem dX2_number_96 : decode cX2_number 96 = .ok (.aload_n 0, 1) := dk_42 (dk_at dksX2_number_4 3 rfl rfl)
theorem dX2_number_97 : decode cX2_number 97 = .ok (.invokevirtual 15, 3) := dk_182 0 15 (dk_at dksX2_number_4 4 rfl rfl)
theorem dX2_number_100 : decode cX2_number 100 = .ok (.iload_n 1, 1) := dk_27 (dk_at dksX2_number_4 7 rfl rfl)
theorem dX2_number_101 : decode cX2_number 101 = .ok (.ireturn, 1) := dk_172 (dk_at dksX2_number_4 8 rfl rfl)
abbrev cX2_passes : ByteArray := prog_19_method_8_code
def yX2_passes : MethodName := ⟨RX2, "passes", "(Ljava/lang/String;)Z"⟩
def dkwX2_passes_1 : List UInt8 := [181, 0, 18, 42, 182, 0, 15, 4, 172]
abbrev dktX2_passes_1 : List UInt8 := dkwX2_passes_1 ++ []
def dkwX2_passes_0 : List UInt8 := [42, 182, 0, 64, 43, 182, 0, 67, 154, 0, 5, 3, 172, 42, 89, 180, 0, 18, 43, 182, 0, 73, 96]
abbrev dktX2_passes_0 : List UInt8 := dkwX2_passes_0 ++ dktX2_passes_1
theorem dksX2_passes_0 : cX2_passes.data.toList.drop 0 = dktX2_passes_0 := by decide +kernel
theorem dksX2_passes_1 : cX2_passes.data.toList.drop 23 = dktX2_passes_1 := dk_seg dksX2_passes_0 23 rfl rfl
theorem dX2_passes_0 : decode cX2_passes 0 = .ok (.aload_n 0, 1) := dk_42 (dk_at dksX2_passes_0 0 rfl rfl)
theorem dX2_passes_1 : decode cX2_passes 1 = .ok (.invokevirtual 64, 3) := dk_182 0 64 (dk_at dksX2_passes_0 1 rfl rfl)
theorem dX2_passes_4 : decode cX2_passes 4 = .ok (.aload_n 1, 1) := dk_43 (dk_at dksX2_passes_0 4 rfl rfl)
theorem dX2_passes_5 : decode cX2_passes 5 = .ok (.invokevirtual 67, 3) := dk_182 0 67 (dk_at dksX2_passes_0 5 rfl rfl)
theorem dX2_passes_8 : decode cX2_passes 8 = .ok (.ifCond .ne 5, 3) := dk_154 0 5 (dk_at dksX2_passes_0 8 rfl rfl)
theorem dX2_passes_11 : decode cX2_passes 11 = .ok (.iconst 0, 1) := dk_3 (dk_at dksX2_passes_0 11 rfl rfl)
theorem dX2_passes_12 : decode cX2_passes 12 = .ok (.ireturn, 1) := dk_172 (dk_at dksX2_passes_0 12 rfl rfl)
theorem dX2_passes_13 : decode cX2_passes 13 = .ok (.aload_n 0, 1) := dk_42 (dk_at dksX2_passes_0 13 rfl rfl)
theorem dX2_passes_14 : decode cX2_passes 14 = .ok (.dup, 1) := dk_89 (dk_at dksX2_passes_0 14 rfl rfl)
theorem dX2_passes_15 : decode cX2_passes 15 = .ok (.getfield 18, 3) := dk_180 0 18 (dk_at dksX2_passes_0 15 rfl rfl)
theorem dX2_passes_18 : decode cX2_passes 18 = .ok (.aload_n 1, 1) := dk_43 (dk_at dksX2_passes_0 18 rfl rfl)
theorem dX2_passes_19 : decode cX2_passes 19 = .ok (.invokevirtual 73, 3) := dk_182 0 73 (dk_at dksX2_passes_0 19 rfl rfl)
theorem dX2_passes_22 : decode cX2_passes 22 = .ok (.iadd, 1) := dk_96 (dk_at dksX2_passes_0 22 rfl rfl)
theorem dX2_passes_23 : decode cX2_passes 23 = .ok (.putfield 18, 3) := dk_181 0 18 (dk_at dksX2_passes_1 0 rfl rfl)
theorem dX2_passes_26 : decode cX2_passes 26 = .ok (.aload_n 0, 1) := dk_42 (dk_at dksX2_passes_1 3 rfl rfl)
theorem dX2_passes_27 : decode cX2_passes 27 = .ok (.invokevirtual 15, 3) := dk_182 0 15 (dk_at dksX2_passes_1 4 rfl rfl)
theorem dX2_passes_30 : decode cX2_passes 30 = .ok (.iconst 1, 1) := dk_4 (dk_at dksX2_passes_1 7 rfl rfl)
theorem dX2_passes_31 : decode cX2_passes 31 = .ok (.ireturn, 1) := dk_172 (dk_at dksX2_passes_1 8 rfl rfl)
abbrev cX2_highest : ByteArray := prog_19_method_16_code
def yX2_highest : MethodName := ⟨RX2, "highest", "(LToldPowers$Term;)I"⟩
def dkwX2_highest_1 : List UInt8 := [172]
abbrev dktX2_highest_1 : List UInt8 := dkwX2_highest_1 ++ []
def dkwX2_highest_0 : List UInt8 := [3, 61, 43, 28, 4, 96, 133, 182, 0, 155, 20, 0, 161, 148, 157, 0, 9, 132, 2, 1, 167, 255, 238, 28]
abbrev dktX2_highest_0 : List UInt8 := dkwX2_highest_0 ++ dktX2_highest_1
theorem dksX2_highest_0 : cX2_highest.data.toList.drop 0 = dktX2_highest_0 := by decide +kernel
theorem dksX2_highest_1 : cX2_highest.data.toList.drop 24 = dktX2_highest_1 := dk_seg dksX2_highest_0 24 rfl rfl
theorem dX2_highest_0 : decode cX2_highest 0 = .ok (.iconst 0, 1) := dk_3 (dk_at dksX2_highest_0 0 rfl rfl)
theorem dX2_highest_1 : decode cX2_highest 1 = .ok (.istore_n 2, 1) := dk_61 (dk_at dksX2_highest_0 1 rfl rfl)
theorem dX2_highest_2 : decode cX2_highest 2 = .ok (.aload_n 1, 1) := dk_43 (dk_at dksX2_highest_0 2 rfl rfl)
theorem dX2_highest_3 : decode cX2_highest 3 = .ok (.iload_n 2, 1) := dk_28 (dk_at dksX2_highest_0 3 rfl rfl)
theorem dX2_highest_4 : decode cX2_highest 4 = .ok (.iconst 1, 1) := dk_4 (dk_at dksX2_highest_0 4 rfl rfl)
theorem dX2_highest_5 : decode cX2_highest 5 = .ok (.iadd, 1) := dk_96 (dk_at dksX2_highest_0 5 rfl rfl)
theorem dX2_highest_6 : decode cX2_highest 6 = .ok (.i2l, 1) := dk_133 (dk_at dksX2_highest_0 6 rfl rfl)
theorem dX2_highest_7 : decode cX2_highest 7 = .ok (.invokevirtual 155, 3) := dk_182 0 155 (dk_at dksX2_highest_0 7 rfl rfl)
theorem dX2_highest_10 : decode cX2_highest 10 = .ok (.ldc2_w 161, 3) := dk_20 0 161 (dk_at dksX2_highest_0 10 rfl rfl)
theorem dX2_highest_13 : decode cX2_highest 13 = .ok (.lcmp, 1) := dk_148 (dk_at dksX2_highest_0 13 rfl rfl)
theorem dX2_highest_14 : decode cX2_highest 14 = .ok (.ifCond .gt 9, 3) := dk_157 0 9 (dk_at dksX2_highest_0 14 rfl rfl)
theorem dX2_highest_17 : decode cX2_highest 17 = .ok (.iinc 2 1, 3) := dk_132 2 1 (dk_at dksX2_highest_0 17 rfl rfl)
theorem dX2_highest_20 : decode cX2_highest 20 = .ok (.goto (-18), 3) := dk_167 255 238 (dk_at dksX2_highest_0 20 rfl rfl)
theorem dX2_highest_23 : decode cX2_highest 23 = .ok (.iload_n 2, 1) := dk_28 (dk_at dksX2_highest_0 23 rfl rfl)
theorem dX2_highest_24 : decode cX2_highest 24 = .ok (.ireturn, 1) := dk_172 (dk_at dksX2_highest_1 0 rfl rfl)
abbrev cX2_whole : ByteArray := prog_19_method_12_code
def yX2_whole : MethodName := ⟨RX2, "whole", "()I"⟩
def dkwX2_whole_0 : List UInt8 := [42, 16, 45, 182, 0, 74, 153, 0, 11, 42, 182, 0, 89, 116, 167, 0, 7, 42, 182, 0, 89, 172]
abbrev dktX2_whole_0 : List UInt8 := dkwX2_whole_0 ++ []
theorem dksX2_whole_0 : cX2_whole.data.toList.drop 0 = dktX2_whole_0 := by decide +kernel
theorem dX2_whole_0 : decode cX2_whole 0 = .ok (.aload_n 0, 1) := dk_42 (dk_at dksX2_whole_0 0 rfl rfl)
theorem dX2_whole_1 : decode cX2_whole 1 = .ok (.bipush 45, 2) := dk_16 45 (dk_at dksX2_whole_0 1 rfl rfl)
theorem dX2_whole_3 : decode cX2_whole 3 = .ok (.invokevirtual 74, 3) := dk_182 0 74 (dk_at dksX2_whole_0 3 rfl rfl)
theorem dX2_whole_6 : decode cX2_whole 6 = .ok (.ifCond .eq 11, 3) := dk_153 0 11 (dk_at dksX2_whole_0 6 rfl rfl)
theorem dX2_whole_9 : decode cX2_whole 9 = .ok (.aload_n 0, 1) := dk_42 (dk_at dksX2_whole_0 9 rfl rfl)
theorem dX2_whole_10 : decode cX2_whole 10 = .ok (.invokevirtual 89, 3) := dk_182 0 89 (dk_at dksX2_whole_0 10 rfl rfl)
theorem dX2_whole_13 : decode cX2_whole 13 = .ok (.ineg, 1) := dk_116 (dk_at dksX2_whole_0 13 rfl rfl)
theorem dX2_whole_14 : decode cX2_whole 14 = .ok (.goto 7, 3) := dk_167 0 7 (dk_at dksX2_whole_0 14 rfl rfl)
theorem dX2_whole_17 : decode cX2_whole 17 = .ok (.aload_n 0, 1) := dk_42 (dk_at dksX2_whole_0 17 rfl rfl)
theorem dX2_whole_18 : decode cX2_whole 18 = .ok (.invokevirtual 89, 3) := dk_182 0 89 (dk_at dksX2_whole_0 18 rfl rfl)
theorem dX2_whole_21 : decode cX2_whole 21 = .ok (.ireturn, 1) := dk_172 (dk_at dksX2_whole_0 21 rfl rfl)
abbrev cX2_passes_2 : ByteArray := prog_19_method_9_code
def yX2_passes_2 : MethodName := ⟨RX2, "passes", "(C)Z"⟩
def dkwX2_passes_2_1 : List UInt8 := [4, 172]
abbrev dktX2_passes_2_1 : List UInt8 := dkwX2_passes_2_1 ++ []
def dkwX2_passes_2_0 : List UInt8 := [42, 182, 0, 29, 27, 159, 0, 5, 3, 172, 42, 89, 180, 0, 18, 4, 96, 181, 0, 18, 42, 182, 0, 15]
abbrev dktX2_passes_2_0 : List UInt8 := dkwX2_passes_2_0 ++ dktX2_passes_2_1
theorem dksX2_passes_2_0 : cX2_passes_2.data.toList.drop 0 = dktX2_passes_2_0 := by decide +kernel
theorem dksX2_passes_2_1 : cX2_passes_2.data.toList.drop 24 = dktX2_passes_2_1 := dk_seg dksX2_passes_2_0 24 rfl rfl
theorem dX2_passes_2_0 : decode cX2_passes_2 0 = .ok (.aload_n 0, 1) := dk_42 (dk_at dksX2_passes_2_0 0 rfl rfl)
theorem dX2_passes_2_1 : decode cX2_passes_2 1 = .ok (.invokevirtual 29, 3) := dk_182 0 29 (dk_at dksX2_passes_2_0 1 rfl rfl)
theorem dX2_passes_2_4 : decode cX2_passes_2 4 = .ok (.iload_n 1, 1) := dk_27 (dk_at dksX2_passes_2_0 4 rfl rfl)
theorem dX2_passes_2_5 : decode cX2_passes_2 5 = .ok (.if_icmp .eq 5, 3) := dk_159 0 5 (dk_at dksX2_passes_2_0 5 rfl rfl)
theorem dX2_passes_2_8 : decode cX2_passes_2 8 = .ok (.iconst 0, 1) := dk_3 (dk_at dksX2_passes_2_0 8 rfl rfl)
theorem dX2_passes_2_9 : decode cX2_passes_2 9 = .ok (.ireturn, 1) := dk_172 (dk_at dksX2_passes_2_0 9 rfl rfl)
theorem dX2_passes_2_10 : decode cX2_passes_2 10 = .ok (.aload_n 0, 1) := dk_42 (dk_at dksX2_passes_2_0 10 rfl rfl)
theorem dX2_passes_2_11 : decode cX2_passes_2 11 = .ok (.dup, 1) := dk_89 (dk_at dksX2_passes_2_0 11 rfl rfl)
theorem dX2_passes_2_12 : decode cX2_passes_2 12 = .ok (.getfield 18, 3) := dk_180 0 18 (dk_at dksX2_passes_2_0 12 rfl rfl)
theorem dX2_passes_2_15 : decode cX2_passes_2 15 = .ok (.iconst 1, 1) := dk_4 (dk_at dksX2_passes_2_0 15 rfl rfl)
theorem dX2_passes_2_16 : decode cX2_passes_2 16 = .ok (.iadd, 1) := dk_96 (dk_at dksX2_passes_2_0 16 rfl rfl)
theorem dX2_passes_2_17 : decode cX2_passes_2 17 = .ok (.putfield 18, 3) := dk_181 0 18 (dk_at dksX2_passes_2_0 17 rfl rfl)
theorem dX2_passes_2_20 : decode cX2_passes_2 20 = .ok (.aload_n 0, 1) := dk_42 (dk_at dksX2_passes_2_0 20 rfl rfl)
theorem dX2_passes_2_21 : decode cX2_passes_2 21 = .ok (.invokevirtual 15, 3) := dk_182 0 15 (dk_at dksX2_passes_2_0 21 rfl rfl)
theorem dX2_passes_2_24 : decode cX2_passes_2 24 = .ok (.iconst 1, 1) := dk_4 (dk_at dksX2_passes_2_1 0 rfl rfl)
theorem dX2_passes_2_25 : decode cX2_passes_2 25 = .ok (.ireturn, 1) := dk_172 (dk_at dksX2_passes_2_1 1 rfl rfl)
abbrev cX2_isOver : ByteArray := prog_19_method_4_code
def yX2_isOver : MethodName := ⟨RX2, "isOver", "()Z"⟩
def dkwX2_isOver_0 : List UInt8 := [42, 182, 0, 29, 2, 160, 0, 7, 4, 167, 0, 4, 3, 172]
abbrev dktX2_isOver_0 : List UInt8 := dkwX2_isOver_0 ++ []
theorem dksX2_isOver_0 : cX2_isOver.data.toList.drop 0 = dktX2_isOver_0 := by decide +kernel
theorem dX2_isOver_0 : decode cX2_isOver 0 = .ok (.aload_n 0, 1) := dk_42 (dk_at dksX2_isOver_0 0 rfl rfl)
theorem dX2_isOver_1 : decode cX2_isOver 1 = .ok (.invokevirtual 29, 3) := dk_182 0 29 (dk_at dksX2_isOver_0 1 rfl rfl)
theorem dX2_isOver_4 : decode cX2_isOver 4 = .ok (.iconst (-1), 1) := dk_2 (dk_at dksX2_isOver_0 4 rfl rfl)
theorem dX2_isOver_5 : decode cX2_isOver 5 = .ok (.if_icmp .ne 7, 3) := dk_160 0 7 (dk_at dksX2_isOver_0 5 rfl rfl)
theorem dX2_isOver_8 : decode cX2_isOver 8 = .ok (.iconst 1, 1) := dk_4 (dk_at dksX2_isOver_0 8 rfl rfl)
theorem dX2_isOver_9 : decode cX2_isOver 9 = .ok (.goto 4, 3) := dk_167 0 4 (dk_at dksX2_isOver_0 9 rfl rfl)
theorem dX2_isOver_12 : decode cX2_isOver 12 = .ok (.iconst 0, 1) := dk_3 (dk_at dksX2_isOver_0 12 rfl rfl)
theorem dX2_isOver_13 : decode cX2_isOver 13 = .ok (.ireturn, 1) := dk_172 (dk_at dksX2_isOver_0 13 rfl rfl)
abbrev cX2_asks : ByteArray := prog_19_method_10_code
def yX2_asks : MethodName := ⟨RX2, "asks", "(C)V"⟩
def dkwX2_asks_0 : List UInt8 := [42, 42, 27, 182, 0, 74, 4, 42, 180, 0, 18, 182, 0, 78, 177]
abbrev dktX2_asks_0 : List UInt8 := dkwX2_asks_0 ++ []
theorem dksX2_asks_0 : cX2_asks.data.toList.drop 0 = dktX2_asks_0 := by decide +kernel
theorem dX2_asks_0 : decode cX2_asks 0 = .ok (.aload_n 0, 1) := dk_42 (dk_at dksX2_asks_0 0 rfl rfl)
theorem dX2_asks_1 : decode cX2_asks 1 = .ok (.aload_n 0, 1) := dk_42 (dk_at dksX2_asks_0 1 rfl rfl)
theorem dX2_asks_2 : decode cX2_asks 2 = .ok (.iload_n 1, 1) := dk_27 (dk_at dksX2_asks_0 2 rfl rfl)
theorem dX2_asks_3 : decode cX2_asks 3 = .ok (.invokevirtual 74, 3) := dk_182 0 74 (dk_at dksX2_asks_0 3 rfl rfl)
theorem dX2_asks_6 : decode cX2_asks 6 = .ok (.iconst 1, 1) := dk_4 (dk_at dksX2_asks_0 6 rfl rfl)
theorem dX2_asks_7 : decode cX2_asks 7 = .ok (.aload_n 0, 1) := dk_42 (dk_at dksX2_asks_0 7 rfl rfl)
theorem dX2_asks_8 : decode cX2_asks 8 = .ok (.getfield 18, 3) := dk_180 0 18 (dk_at dksX2_asks_0 8 rfl rfl)
theorem dX2_asks_11 : decode cX2_asks 11 = .ok (.invokevirtual 78, 3) := dk_182 0 78 (dk_at dksX2_asks_0 11 rfl rfl)
theorem dX2_asks_14 : decode cX2_asks 14 = .ok (.return_, 1) := dk_177 (dk_at dksX2_asks_0 14 rfl rfl)
abbrev cX2_proof : ByteArray := prog_19_method_17_code
def yX2_proof : MethodName := ⟨RX2, "proof", "(LToldPowers$Form;)I"⟩
def dkwX2_proof_3 : List UInt8 := [187, 0, 109, 89, 29, 25, 4, 183, 0, 111, 191, 132, 3, 1, 167, 255, 187, 29, 172]
abbrev dktX2_proof_3 : List UInt8 := dkwX2_proof_3 ++ []
def dkwX2_proof_2 : List UInt8 := [180, 0, 18, 182, 0, 78, 42, 43, 44, 29, 182, 0, 173, 42, 16, 59, 182, 0, 105, 167, 0, 16, 58, 4]
abbrev dktX2_proof_2 : List UInt8 := dkwX2_proof_2 ++ dktX2_proof_3
def dkwX2_proof_1 : List UInt8 := [42, 29, 16, 60, 161, 0, 12, 42, 182, 0, 29, 16, 45, 159, 0, 7, 4, 167, 0, 4, 3, 16, 9, 42]
abbrev dktX2_proof_1 : List UInt8 := dkwX2_proof_1 ++ dktX2_proof_2
def dkwX2_proof_0 : List UInt8 := [187, 0, 165, 89, 187, 0, 167, 89, 183, 0, 169, 183, 0, 170, 77, 3, 62, 42, 182, 0, 102, 154, 0, 68]
abbrev dktX2_proof_0 : List UInt8 := dkwX2_proof_0 ++ dktX2_proof_1
theorem dksX2_proof_0 : cX2_proof.data.toList.drop 0 = dktX2_proof_0 := by decide +kernel
theorem dksX2_proof_1 : cX2_proof.data.toList.drop 24 = dktX2_proof_1 := dk_seg dksX2_proof_0 24 rfl rfl
theorem dksX2_proof_2 : cX2_proof.data.toList.drop 48 = dktX2_proof_2 := dk_seg dksX2_proof_1 24 rfl rfl
theorem dksX2_proof_3 : cX2_proof.data.toList.drop 72 = dktX2_proof_3 := dk_seg dksX2_proof_2 24 rfl rfl
theorem dX2_proof_0 : decode cX2_proof 0 = .ok (.new 165, 3) := dk_187 0 165 (dk_at dksX2_proof_0 0 rfl rfl)
theorem dX2_proof_3 : decode cX2_proof 3 = .ok (.dup, 1) := dk_89 (dk_at dksX2_proof_0 3 rfl rfl)
theorem dX2_proof_4 : decode cX2_proof 4 = .ok (.new 167, 3) := dk_187 0 167 (dk_at dksX2_proof_0 4 rfl rfl)
theorem dX2_proof_7 : decode cX2_proof 7 = .ok (.dup, 1) := dk_89 (dk_at dksX2_proof_0 7 rfl rfl)
theorem dX2_proof_8 : decode cX2_proof 8 = .ok (.invokespecial 169, 3) := dk_183 0 169 (dk_at dksX2_proof_0 8 rfl rfl)
theorem dX2_proof_11 : decode cX2_proof 11 = .ok (.invokespecial 170, 3) := dk_183 0 170 (dk_at dksX2_proof_0 11 rfl rfl)
theorem dX2_proof_14 : decode cX2_proof 14 = .ok (.astore_n 2, 1) := dk_77 (dk_at dksX2_proof_0 14 rfl rfl)
theorem dX2_proof_15 : decode cX2_proof 15 = .ok (.iconst 0, 1) := dk_3 (dk_at dksX2_proof_0 15 rfl rfl)
theorem dX2_proof_16 : decode cX2_proof 16 = .ok (.istore_n 3, 1) := dk_62 (dk_at dksX2_proof_0 16 rfl rfl)
theorem dX2_proof_17 : decode cX2_proof 17 = .ok (.aload_n 0, 1) := dk_42 (dk_at dksX2_proof_0 17 rfl rfl)
theorem dX2_proof_18 : decode cX2_proof 18 = .ok (.invokevirtual 102, 3) := dk_182 0 102 (dk_at dksX2_proof_0 18 rfl rfl)
theorem dX2_proof_21 : decode cX2_proof 21 = .ok (.ifCond .ne 68, 3) := dk_154 0 68 (dk_at dksX2_proof_0 21 rfl rfl)
theorem dX2_proof_24 : decode cX2_proof 24 = .ok (.aload_n 0, 1) := dk_42 (dk_at dksX2_proof_1 0 rfl rfl)
theorem dX2_proof_25 : decode cX2_proof 25 = .ok (.iload_n 3, 1) := dk_29 (dk_at dksX2_proof_1 1 rfl rfl)
theorem dX2_proof_26 : decode cX2_proof 26 = .ok (.bipush 60, 2) := dk_16 60 (dk_at dksX2_proof_1 2 rfl rfl)
theorem dX2_proof_28 : decode cX2_proof 28 = .ok (.if_icmp .lt 12, 3) := dk_161 0 12 (dk_at dksX2_proof_1 4 rfl rfl)
theorem dX2_proof_31 : decode cX2_proof 31 = .ok (.aload_n 0, 1) := dk_42 (dk_at dksX2_proof_1 7 rfl rfl)
theorem dX2_proof_32 : decode cX2_proof 32 = .ok (.invokevirtual 29, 3) := dk_182 0 29 (dk_at dksX2_proof_1 8 rfl rfl)
theorem dX2_proof_35 : decode cX2_proof 35 = .ok (.bipush 45, 2) := dk_16 45 (dk_at dksX2_proof_1 11 rfl rfl)
theorem dX2_proof_37 : decode cX2_proof 37 = .ok (.if_icmp .eq 7, 3) := dk_159 0 7 (dk_at dksX2_proof_1 13 rfl rfl)
theorem dX2_proof_40 : decode cX2_proof 40 = .ok (.iconst 1, 1) := dk_4 (dk_at dksX2_proof_1 16 rfl rfl)
theorem dX2_proof_41 : decode cX2_proof 41 = .ok (.goto 4, 3) := dk_167 0 4 (dk_at dksX2_proof_1 17 rfl rfl)
theorem dX2_proof_44 : decode cX2_proof 44 = .ok (.iconst 0, 1) := dk_3 (dk_at dksX2_proof_1 20 rfl rfl)
theorem dX2_proof_45 : decode cX2_proof 45 = .ok (.bipush 9, 2) := dk_16 9 (dk_at dksX2_proof_1 21 rfl rfl)
theorem dX2_proof_47 : decode cX2_proof 47 = .ok (.aload_n 0, 1) := dk_42 (dk_at dksX2_proof_1 23 rfl rfl)
theorem dX2_proof_48 : decode cX2_proof 48 = .ok (.getfield 18, 3) := dk_180 0 18 (dk_at dksX2_proof_2 0 rfl rfl)
theorem dX2_proof_51 : decode cX2_proof 51 = .ok (.invokevirtual 78, 3) := dk_182 0 78 (dk_at dksX2_proof_2 3 rfl rfl)
theorem dX2_proof_54 : decode cX2_proof 54 = .ok (.aload_n 0, 1) := dk_42 (dk_at dksX2_proof_2 6 rfl rfl)
theorem dX2_proof_55 : decode cX2_proof 55 = .ok (.aload_n 1, 1) := dk_43 (dk_at dksX2_proof_2 7 rfl rfl)
theorem dX2_proof_56 : decode cX2_proof 56 = .ok (.aload_n 2, 1) := dk_44 (dk_at dksX2_proof_2 8 rfl rfl)
theorem dX2_proof_57 : decode cX2_proof 57 = .ok (.iload_n 3, 1) := dk_29 (dk_at dksX2_proof_2 9 rfl rfl)
theorem dX2_proof_58 : decode cX2_proof 58 = .ok (.invokevirtual 173, 3) := dk_182 0 173 (dk_at dksX2_proof_2 10 rfl rfl)
theorem dX2_proof_61 : decode cX2_proof 61 = .ok (.aload_n 0, 1) := dk_42 (dk_at dksX2_proof_2 13 rfl rfl)
theorem dX2_proof_62 : decode cX2_proof 62 = .ok (.bipush 59, 2) := dk_16 59 (dk_at dksX2_proof_2 14 rfl rfl)
theorem dX2_proof_64 : decode cX2_proof 64 = .ok (.invokevirtual 105, 3) := dk_182 0 105 (dk_at dksX2_proof_2 16 rfl rfl)
theorem dX2_proof_67 : decode cX2_proof 67 = .ok (.goto 16, 3) := dk_167 0 16 (dk_at dksX2_proof_2 19 rfl rfl)
theorem dX2_proof_70 : decode cX2_proof 70 = .ok (.astore 4, 2) := dk_58 4 (dk_at dksX2_proof_2 22 rfl rfl)
theorem dX2_proof_72 : decode cX2_proof 72 = .ok (.new 109, 3) := dk_187 0 109 (dk_at dksX2_proof_3 0 rfl rfl)
theorem dX2_proof_75 : decode cX2_proof 75 = .ok (.dup, 1) := dk_89 (dk_at dksX2_proof_3 3 rfl rfl)
theorem dX2_proof_76 : decode cX2_proof 76 = .ok (.iload_n 3, 1) := dk_29 (dk_at dksX2_proof_3 4 rfl rfl)
theorem dX2_proof_77 : decode cX2_proof 77 = .ok (.aload 4, 2) := dk_25 4 (dk_at dksX2_proof_3 5 rfl rfl)
theorem dX2_proof_79 : decode cX2_proof 79 = .ok (.invokespecial 111, 3) := dk_183 0 111 (dk_at dksX2_proof_3 7 rfl rfl)
theorem dX2_proof_82 : decode cX2_proof 82 = .ok (.athrow, 1) := dk_191 (dk_at dksX2_proof_3 10 rfl rfl)
theorem dX2_proof_83 : decode cX2_proof 83 = .ok (.iinc 3 1, 3) := dk_132 3 1 (dk_at dksX2_proof_3 11 rfl rfl)
theorem dX2_proof_86 : decode cX2_proof 86 = .ok (.goto (-69), 3) := dk_167 255 187 (dk_at dksX2_proof_3 14 rfl rfl)
theorem dX2_proof_89 : decode cX2_proof 89 = .ok (.iload_n 3, 1) := dk_29 (dk_at dksX2_proof_3 17 rfl rfl)
theorem dX2_proof_90 : decode cX2_proof 90 = .ok (.ireturn, 1) := dk_172 (dk_at dksX2_proof_3 18 rfl rfl)
abbrev cX2_line : ByteArray := prog_19_method_18_code
def yX2_line : MethodName := ⟨RX2, "line", "(LToldPowers$Form;Ljava/util/TreeMap;I)V"⟩
def dkwX2_line_10 : List UInt8 := [180, 0, 18, 182, 0, 78, 177]
abbrev dktX2_line_10 : List UInt8 := dkwX2_line_10 ++ []
def dkwX2_line_9 : List UInt8 := [180, 0, 18, 182, 0, 78, 42, 22, 6, 21, 4, 133, 148, 154, 0, 7, 4, 167, 0, 4, 3, 16, 8, 42]
abbrev dktX2_line_9 : List UInt8 := dkwX2_line_9 ++ dktX2_line_10
def dkwX2_line_8 : List UInt8 := [180, 0, 18, 182, 0, 78, 42, 21, 8, 43, 182, 0, 207, 160, 0, 7, 4, 167, 0, 4, 3, 16, 7, 42]
abbrev dktX2_line_8 : List UInt8 := dkwX2_line_8 ++ dktX2_line_9
def dkwX2_line_7 : List UInt8 := [182, 0, 74, 154, 255, 218, 42, 42, 182, 0, 29, 16, 59, 160, 0, 7, 4, 167, 0, 4, 3, 4, 42]
abbrev dktX2_line_7 : List UInt8 := dkwX2_line_7 ++ dktX2_line_8
def dkwX2_line_6 : List UInt8 := [167, 0, 17, 58, 9, 187, 0, 177, 89, 21, 8, 25, 9, 183, 0, 204, 191, 132, 8, 1, 42, 16, 44]
abbrev dktX2_line_6 : List UInt8 := dkwX2_line_6 ++ dktX2_line_7
def dkwX2_line_5 : List UInt8 := [42, 16, 61, 182, 0, 105, 9, 55, 6, 3, 54, 8, 22, 6, 42, 43, 21, 8, 182, 0, 202, 97, 55, 6]
abbrev dktX2_line_5 : List UInt8 := dkwX2_line_5 ++ dktX2_line_6
def dkwX2_line_4 : List UInt8 := [43, 21, 4, 182, 0, 198, 9, 148, 154, 0, 7, 4, 167, 0, 4, 3, 16, 8, 21, 5, 182, 0, 78, 177]
abbrev dktX2_line_4 : List UInt8 := dkwX2_line_4 ++ dktX2_line_5
def dkwX2_line_3 : List UInt8 := [182, 0, 192, 87, 42, 180, 0, 18, 54, 5, 42, 18, 196, 182, 0, 145, 153, 0, 32, 42, 42, 180, 0, 3]
abbrev dktX2_line_3 : List UInt8 := dkwX2_line_3 ++ dktX2_line_4
def dkwX2_line_2 : List UInt8 := [167, 0, 4, 3, 16, 9, 42, 180, 0, 86, 182, 0, 78, 44, 21, 4, 184, 0, 183, 29, 184, 0, 183]
abbrev dktX2_line_2 : List UInt8 := dkwX2_line_2 ++ dktX2_line_3
def dkwX2_line_1 : List UInt8 := [154, 0, 7, 4, 167, 0, 4, 3, 8, 42, 180, 0, 86, 182, 0, 78, 42, 29, 16, 60, 162, 0, 7, 4]
abbrev dktX2_line_1 : List UInt8 := dkwX2_line_1 ++ dktX2_line_2
def dkwX2_line_0 : List UInt8 := [42, 182, 0, 152, 54, 4, 42, 21, 4, 184, 0, 179, 153, 0, 19, 44, 21, 4, 184, 0, 183, 182, 0, 189]
abbrev dktX2_line_0 : List UInt8 := dkwX2_line_0 ++ dktX2_line_1
theorem dksX2_line_0 : cX2_line.data.toList.drop 0 = dktX2_line_0 := by decide +kernel
theorem dksX2_line_1 : cX2_line.data.toList.drop 24 = dktX2_line_1 := dk_seg dksX2_line_0 24 rfl rfl
theorem dksX2_line_2 : cX2_line.data.toList.drop 48 = dktX2_line_2 := dk_seg dksX2_line_1 24 rfl rfl
theorem dksX2_line_3 : cX2_line.data.toList.drop 71 = dktX2_line_3 := dk_seg dksX2_line_2 23 rfl rfl
theorem dksX2_line_4 : cX2_line.data.toList.drop 95 = dktX2_line_4 := dk_seg dksX2_line_3 24 rfl rfl
theorem dksX2_line_5 : cX2_line.data.toList.drop 119 = dktX2_line_5 := dk_seg dksX2_line_4 24 rfl rfl
theorem dksX2_line_6 : cX2_line.data.toList.drop 143 = dktX2_line_6 := dk_seg dksX2_line_5 24 rfl rfl
theorem dksX2_line_7 : cX2_line.data.toList.drop 166 = dktX2_line_7 := dk_seg dksX2_line_6 23 rfl rfl
theorem dksX2_line_8 : cX2_line.data.toList.drop 189 = dktX2_line_8 := dk_seg dksX2_line_7 23 rfl rfl
theorem dksX2_line_9 : cX2_line.data.toList.drop 213 = dktX2_line_9 := dk_seg dksX2_line_8 24 rfl rfl
theorem dksX2_line_10 : cX2_line.data.toList.drop 237 = dktX2_line_10 := dk_seg dksX2_line_9 24 rfl rfl
theorem dX2_line_0 : decode cX2_line 0 = .ok (.aload_n 0, 1) := dk_42 (dk_at dksX2_line_0 0 rfl rfl)
theorem dX2_line_1 : decode cX2_line 1 = .ok (.invokevirtual 152, 3) := dk_182 0 152 (dk_at dksX2_line_0 1 rfl rfl)
theorem dX2_line_4 : decode cX2_line 4 = .ok (.istore 4, 2) := dk_54 4 (dk_at dksX2_line_0 4 rfl rfl)
theorem dX2_line_6 : decode cX2_line 6 = .ok (.aload_n 0, 1) := dk_42 (dk_at dksX2_line_0 6 rfl rfl)
theorem dX2_line_7 : decode cX2_line 7 = .ok (.iload 4, 2) := dk_21 4 (dk_at dksX2_line_0 7 rfl rfl)
theorem dX2_line_9 : decode cX2_line 9 = .ok (.invokestatic 179, 3) := dk_184 0 179 (dk_at dksX2_line_0 9 rfl rfl)
theorem dX2_line_12 : decode cX2_line 12 = .ok (.ifCond .eq 19, 3) := dk_153 0 19 (dk_at dksX2_line_0 12 rfl rfl)
theorem dX2_line_15 : decode cX2_line 15 = .ok (.aload_n 2, 1) := dk_44 (dk_at dksX2_line_0 15 rfl rfl)
theorem dX2_line_16 : decode cX2_line 16 = .ok (.iload 4, 2) := dk_21 4 (dk_at dksX2_line_0 16 rfl rfl)
theorem dX2_line_18 : decode cX2_line 18 = .ok (.invokestatic 183, 3) := dk_184 0 183 (dk_at dksX2_line_0 18 rfl rfl)
theorem dX2_line_21 : decode cX2_line 21 = .ok (.invokevirtual 189, 3) := dk_182 0 189 (dk_at dksX2_line_0 21 rfl rfl)
theorem dX2_line_24 : decode cX2_line 24 = .ok (.ifCond .ne 7, 3) := dk_154 0 7 (dk_at dksX2_line_1 0 rfl rfl)
theorem dX2_line_27 : decode cX2_line 27 = .ok (.iconst 1, 1) := dk_4 (dk_at dksX2_line_1 3 rfl rfl)
theorem dX2_line_28 : decode cX2_line 28 = .ok (.goto 4, 3) := dk_167 0 4 (dk_at dksX2_line_1 4 rfl rfl)
theorem dX2_line_31 : decode cX2_line 31 = .ok (.iconst 0, 1) := dk_3 (dk_at dksX2_line_1 7 rfl rfl)
theorem dX2_line_32 : decode cX2_line 32 = .ok (.iconst 5, 1) := dk_8 (dk_at dksX2_line_1 8 rfl rfl)
theorem dX2_line_33 : decode cX2_line 33 = .ok (.aload_n 0, 1) := dk_42 (dk_at dksX2_line_1 9 rfl rfl)
theorem dX2_line_34 : decode cX2_line 34 = .ok (.getfield 86, 3) := dk_180 0 86 (dk_at dksX2_line_1 10 rfl rfl)
theorem dX2_line_37 : decode cX2_line 37 = .ok (.invokevirtual 78, 3) := dk_182 0 78 (dk_at dksX2_line_1 13 rfl rfl)
theorem dX2_line_40 : decode cX2_line 40 = .ok (.aload_n 0, 1) := dk_42 (dk_at dksX2_line_1 16 rfl rfl)
theorem dX2_line_41 : decode cX2_line 41 = .ok (.iload_n 3, 1) := dk_29 (dk_at dksX2_line_1 17 rfl rfl)
theorem dX2_line_42 : decode cX2_line 42 = .ok (.bipush 60, 2) := dk_16 60 (dk_at dksX2_line_1 18 rfl rfl)
theorem dX2_line_44 : decode cX2_line 44 = .ok (.if_icmp .ge 7, 3) := dk_162 0 7 (dk_at dksX2_line_1 20 rfl rfl)
theorem dX2_line_47 : decode cX2_line 47 = .ok (.iconst 1, 1) := dk_4 (dk_at dksX2_line_1 23 rfl rfl)
theorem dX2_line_48 : decode cX2_line 48 = .ok (.goto 4, 3) := dk_167 0 4 (dk_at dksX2_line_2 0 rfl rfl)
theorem dX2_line_51 : decode cX2_line 51 = .ok (.iconst 0, 1) := dk_3 (dk_at dksX2_line_2 3 rfl rfl)
theorem dX2_line_52 : decode cX2_line 52 = .ok (.bipush 9, 2) := dk_16 9 (dk_at dksX2_line_2 4 rfl rfl)
theorem dX2_line_54 : decode cX2_line 54 = .ok (.aload_n 0, 1) := dk_42 (dk_at dksX2_line_2 6 rfl rfl)
theorem dX2_line_55 : decode cX2_line 55 = .ok (.getfield 86, 3) := dk_180 0 86 (dk_at dksX2_line_2 7 rfl rfl)
theorem dX2_line_58 : decode cX2_line 58 = .ok (.invokevirtual 78, 3) := dk_182 0 78 (dk_at dksX2_line_2 10 rfl rfl)
theorem dX2_line_61 : decode cX2_line 61 = .ok (.aload_n 2, 1) := dk_44 (dk_at dksX2_line_2 13 rfl rfl)
theorem dX2_line_62 : decode cX2_line 62 = .ok (.iload 4, 2) := dk_21 4 (dk_at dksX2_line_2 14 rfl rfl)
theorem dX2_line_64 : decode cX2_line 64 = .ok (.invokestatic 183, 3) := dk_184 0 183 (dk_at dksX2_line_2 16 rfl rfl)
theorem dX2_line_67 : decode cX2_line 67 = .ok (.iload_n 3, 1) := dk_29 (dk_at dksX2_line_2 19 rfl rfl)
theorem dX2_line_68 : decode cX2_line 68 = .ok (.invokestatic 183, 3) := dk_184 0 183 (dk_at dksX2_line_2 20 rfl rfl)
theorem dX2_line_71 : decode cX2_line 71 = .ok (.invokevirtual 192, 3) := dk_182 0 192 (dk_at dksX2_line_3 0 rfl rfl)
theorem dX2_line_74 : decode cX2_line 74 = .ok (.pop, 1) := dk_87 (dk_at dksX2_line_3 3 rfl rfl)
theorem dX2_line_75 : decode cX2_line 75 = .ok (.aload_n 0, 1) := dk_42 (dk_at dksX2_line_3 4 rfl rfl)
theorem dX2_line_76 : decode cX2_line 76 = .ok (.getfield 18, 3) := dk_180 0 18 (dk_at dksX2_line_3 5 rfl rfl)
theorem dX2_line_79 : decode cX2_line 79 = .ok (.istore 5, 2) := dk_54 5 (dk_at dksX2_line_3 8 rfl rfl)
theorem dX2_line_81 : decode cX2_line 81 = .ok (.aload_n 0, 1) := dk_42 (dk_at dksX2_line_3 10 rfl rfl)
theorem dX2_line_82 : decode cX2_line 82 = .ok (.ldc 196, 2) := dk_18 196 (dk_at dksX2_line_3 11 rfl rfl)
theorem dX2_line_84 : decode cX2_line 84 = .ok (.invokevirtual 145, 3) := dk_182 0 145 (dk_at dksX2_line_3 13 rfl rfl)
theorem dX2_line_87 : decode cX2_line 87 = .ok (.ifCond .eq 32, 3) := dk_153 0 32 (dk_at dksX2_line_3 16 rfl rfl)
theorem dX2_line_90 : decode cX2_line 90 = .ok (.aload_n 0, 1) := dk_42 (dk_at dksX2_line_3 19 rfl rfl)
theorem dX2_line_91 : decode cX2_line 91 = .ok (.aload_n 0, 1) := dk_42 (dk_at dksX2_line_3 20 rfl rfl)
theorem dX2_line_92 : decode cX2_line 92 = .ok (.getfield 3, 3) := dk_180 0 3 (dk_at dksX2_line_3 21 rfl rfl)
theorem dX2_line_95 : decode cX2_line 95 = .ok (.aload_n 1, 1) := dk_43 (dk_at dksX2_line_4 0 rfl rfl)
theorem dX2_line_96 : decode cX2_line 96 = .ok (.iload 4, 2) := dk_21 4 (dk_at dksX2_line_4 1 rfl rfl)
theorem dX2_line_98 : decode cX2_line 98 = .ok (.invokevirtual 198, 3) := dk_182 0 198 (dk_at dksX2_line_4 3 rfl rfl)
theorem dX2_line_101 : decode cX2_line 101 = .ok (.lconst 0, 1) := dk_9 (dk_at dksX2_line_4 6 rfl rfl)
theorem dX2_line_102 : decode cX2_line 102 = .ok (.lcmp, 1) := dk_148 (dk_at dksX2_line_4 7 rfl rfl)
theorem dX2_line_103 : decode cX2_line 103 = .ok (.ifCond .ne 7, 3) := dk_154 0 7 (dk_at dksX2_line_4 8 rfl rfl)
theorem dX2_line_106 : decode cX2_line 106 = .ok (.iconst 1, 1) := dk_4 (dk_at dksX2_line_4 11 rfl rfl)
theorem dX2_line_107 : decode cX2_line 107 = .ok (.goto 4, 3) := dk_167 0 4 (dk_at dksX2_line_4 12 rfl rfl)
theorem dX2_line_110 : decode cX2_line 110 = .ok (.iconst 0, 1) := dk_3 (dk_at dksX2_line_4 15 rfl rfl)
theorem dX2_line_111 : decode cX2_line 111 = .ok (.bipush 8, 2) := dk_16 8 (dk_at dksX2_line_4 16 rfl rfl)
theorem dX2_line_113 : decode cX2_line 113 = .ok (.iload 5, 2) := dk_21 5 (dk_at dksX2_line_4 18 rfl rfl)
theorem dX2_line_115 : decode cX2_line 115 = .ok (.invokevirtual 78, 3) := dk_182 0 78 (dk_at dksX2_line_4 20 rfl rfl)
theorem dX2_line_118 : decode cX2_line 118 = .ok (.return_, 1) := dk_177 (dk_at dksX2_line_4 23 rfl rfl)
theorem dX2_line_119 : decode cX2_line 119 = .ok (.aload_n 0, 1) := dk_42 (dk_at dksX2_line_5 0 rfl rfl)
theorem dX2_line_120 : decode cX2_line 120 = .ok (.bipush 61, 2) := dk_16 61 (dk_at dksX2_line_5 1 rfl rfl)
theorem dX2_line_122 : decode cX2_line 122 = .ok (.invokevirtual 105, 3) := dk_182 0 105 (dk_at dksX2_line_5 3 rfl rfl)
theorem dX2_line_125 : decode cX2_line 125 = .ok (.lconst 0, 1) := dk_9 (dk_at dksX2_line_5 6 rfl rfl)
theorem dX2_line_126 : decode cX2_line 126 = .ok (.lstore 6, 2) := dk_55 6 (dk_at dksX2_line_5 7 rfl rfl)
theorem dX2_line_128 : decode cX2_line 128 = .ok (.iconst 0, 1) := dk_3 (dk_at dksX2_line_5 9 rfl rfl)
theorem dX2_line_129 : decode cX2_line 129 = .ok (.istore 8, 2) := dk_54 8 (dk_at dksX2_line_5 10 rfl rfl)
theorem dX2_line_131 : decode cX2_line 131 = .ok (.lload 6, 2) := dk_22 6 (dk_at dksX2_line_5 12 rfl rfl)
theorem dX2_line_133 : decode cX2_line 133 = .ok (.aload_n 0, 1) := dk_42 (dk_at dksX2_line_5 14 rfl rfl)
theorem dX2_line_134 : decode cX2_line 134 = .ok (.aload_n 1, 1) := dk_43 (dk_at dksX2_line_5 15 rfl rfl)
theorem dX2_line_135 : decode cX2_line 135 = .ok (.iload 8, 2) := dk_21 8 (dk_at dksX2_line_5 16 rfl rfl)
theorem dX2_line_137 : decode cX2_line 137 = .ok (.invokevirtual 202, 3) := dk_182 0 202 (dk_at dksX2_line_5 18 rfl rfl)
theorem dX2_line_140 : decode cX2_line 140 = .ok (.ladd, 1) := dk_97 (dk_at dksX2_line_5 21 rfl rfl)
theorem dX2_line_141 : decode cX2_line 141 = .ok (.lstore 6, 2) := dk_55 6 (dk_at dksX2_line_5 22 rfl rfl)
theorem dX2_line_143 : decode cX2_line 143 = .ok (.goto 17, 3) := dk_167 0 17 (dk_at dksX2_line_6 0 rfl rfl)
theorem dX2_line_146 : decode cX2_line 146 = .ok (.astore 9, 2) := dk_58 9 (dk_at dksX2_line_6 3 rfl rfl)
theorem dX2_line_148 : decode cX2_line 148 = .ok (.new 177, 3) := dk_187 0 177 (dk_at dksX2_line_6 5 rfl rfl)
theorem dX2_line_151 : decode cX2_line 151 = .ok (.dup, 1) := dk_89 (dk_at dksX2_line_6 8 rfl rfl)
theorem dX2_line_152 : decode cX2_line 152 = .ok (.iload 8, 2) := dk_21 8 (dk_at dksX2_line_6 9 rfl rfl)
theorem dX2_line_154 : decode cX2_line 154 = .ok (.aload 9, 2) := dk_25 9 (dk_at dksX2_line_6 11 rfl rfl)
theorem dX2_line_156 : decode cX2_line 156 = .ok (.invokespecial 204, 3) := dk_183 0 204 (dk_at dksX2_line_6 13 rfl rfl)
theorem dX2_line_159 : decode cX2_line 159 = .ok (.athrow, 1) := dk_191 (dk_at dksX2_line_6 16 rfl rfl)
theorem dX2_line_160 : decode cX2_line 160 = .ok (.iinc 8 1, 3) := dk_132 8 1 (dk_at dksX2_line_6 17 rfl rfl)
theorem dX2_line_163 : decode cX2_line 163 = .ok (.aload_n 0, 1) := dk_42 (dk_at dksX2_line_6 20 rfl rfl)
theorem dX2_line_164 : decode cX2_line 164 = .ok (.bipush 44, 2) := dk_16 44 (dk_at dksX2_line_6 21 rfl rfl)
theorem dX2_line_166 : decode cX2_line 166 = .ok (.invokevirtual 74, 3) := dk_182 0 74 (dk_at dksX2_line_7 0 rfl rfl)
theorem dX2_line_169 : decode cX2_line 169 = .ok (.ifCond .ne (-38), 3) := dk_154 255 218 (dk_at dksX2_line_7 3 rfl rfl)
theorem dX2_line_172 : decode cX2_line 172 = .ok (.aload_n 0, 1) := dk_42 (dk_at dksX2_line_7 6 rfl rfl)
theorem dX2_line_173 : decode cX2_line 173 = .ok (.aload_n 0, 1) := dk_42 (dk_at dksX2_line_7 7 rfl rfl)
theorem dX2_line_174 : decode cX2_line 174 = .ok (.invokevirtual 29, 3) := dk_182 0 29 (dk_at dksX2_line_7 8 rfl rfl)
theorem dX2_line_177 : decode cX2_line 177 = .ok (.bipush 59, 2) := dk_16 59 (dk_at dksX2_line_7 11 rfl rfl)
theorem dX2_line_179 : decode cX2_line 179 = .ok (.if_icmp .ne 7, 3) := dk_160 0 7 (dk_at dksX2_line_7 13 rfl rfl)
theorem dX2_line_182 : decode cX2_line 182 = .ok (.iconst 1, 1) := dk_4 (dk_at dksX2_line_7 16 rfl rfl)
theorem dX2_line_183 : decode cX2_line 183 = .ok (.goto 4, 3) := dk_167 0 4 (dk_at dksX2_line_7 17 rfl rfl)
theorem dX2_line_186 : decode cX2_line 186 = .ok (.iconst 0, 1) := dk_3 (dk_at dksX2_line_7 20 rfl rfl)
theorem dX2_line_187 : decode cX2_line 187 = .ok (.iconst 1, 1) := dk_4 (dk_at dksX2_line_7 21 rfl rfl)
theorem dX2_line_188 : decode cX2_line 188 = .ok (.aload_n 0, 1) := dk_42 (dk_at dksX2_line_7 22 rfl rfl)
theorem dX2_line_189 : decode cX2_line 189 = .ok (.getfield 18, 3) := dk_180 0 18 (dk_at dksX2_line_8 0 rfl rfl)
theorem dX2_line_192 : decode cX2_line 192 = .ok (.invokevirtual 78, 3) := dk_182 0 78 (dk_at dksX2_line_8 3 rfl rfl)
theorem dX2_line_195 : decode cX2_line 195 = .ok (.aload_n 0, 1) := dk_42 (dk_at dksX2_line_8 6 rfl rfl)
theorem dX2_line_196 : decode cX2_line 196 = .ok (.iload 8, 2) := dk_21 8 (dk_at dksX2_line_8 7 rfl rfl)
theorem dX2_line_198 : decode cX2_line 198 = .ok (.aload_n 1, 1) := dk_43 (dk_at dksX2_line_8 9 rfl rfl)
theorem dX2_line_199 : decode cX2_line 199 = .ok (.invokevirtual 207, 3) := dk_182 0 207 (dk_at dksX2_line_8 10 rfl rfl)
theorem dX2_line_202 : decode cX2_line 202 = .ok (.if_icmp .ne 7, 3) := dk_160 0 7 (dk_at dksX2_line_8 13 rfl rfl)
theorem dX2_line_205 : decode cX2_line 205 = .ok (.iconst 1, 1) := dk_4 (dk_at dksX2_line_8 16 rfl rfl)
theorem dX2_line_206 : decode cX2_line 206 = .ok (.goto 4, 3) := dk_167 0 4 (dk_at dksX2_line_8 17 rfl rfl)
theorem dX2_line_209 : decode cX2_line 209 = .ok (.iconst 0, 1) := dk_3 (dk_at dksX2_line_8 20 rfl rfl)
theorem dX2_line_210 : decode cX2_line 210 = .ok (.bipush 7, 2) := dk_16 7 (dk_at dksX2_line_8 21 rfl rfl)
theorem dX2_line_212 : decode cX2_line 212 = .ok (.aload_n 0, 1) := dk_42 (dk_at dksX2_line_8 23 rfl rfl)
theorem dX2_line_213 : decode cX2_line 213 = .ok (.getfield 18, 3) := dk_180 0 18 (dk_at dksX2_line_9 0 rfl rfl)
theorem dX2_line_216 : decode cX2_line 216 = .ok (.invokevirtual 78, 3) := dk_182 0 78 (dk_at dksX2_line_9 3 rfl rfl)
theorem dX2_line_219 : decode cX2_line 219 = .ok (.aload_n 0, 1) := dk_42 (dk_at dksX2_line_9 6 rfl rfl)
theorem dX2_line_220 : decode cX2_line 220 = .ok (.lload 6, 2) := dk_22 6 (dk_at dksX2_line_9 7 rfl rfl)
theorem dX2_line_222 : decode cX2_line 222 = .ok (.iload 4, 2) := dk_21 4 (dk_at dksX2_line_9 9 rfl rfl)
theorem dX2_line_224 : decode cX2_line 224 = .ok (.i2l, 1) := dk_133 (dk_at dksX2_line_9 11 rfl rfl)
theorem dX2_line_225 : decode cX2_line 225 = .ok (.lcmp, 1) := dk_148 (dk_at dksX2_line_9 12 rfl rfl)
theorem dX2_line_226 : decode cX2_line 226 = .ok (.ifCond .ne 7, 3) := dk_154 0 7 (dk_at dksX2_line_9 13 rfl rfl)
theorem dX2_line_229 : decode cX2_line 229 = .ok (.iconst 1, 1) := dk_4 (dk_at dksX2_line_9 16 rfl rfl)
theorem dX2_line_230 : decode cX2_line 230 = .ok (.goto 4, 3) := dk_167 0 4 (dk_at dksX2_line_9 17 rfl rfl)
theorem dX2_line_233 : decode cX2_line 233 = .ok (.iconst 0, 1) := dk_3 (dk_at dksX2_line_9 20 rfl rfl)
theorem dX2_line_234 : decode cX2_line 234 = .ok (.bipush 8, 2) := dk_16 8 (dk_at dksX2_line_9 21 rfl rfl)
theorem dX2_line_236 : decode cX2_line 236 = .ok (.aload_n 0, 1) := dk_42 (dk_at dksX2_line_9 23 rfl rfl)
theorem dX2_line_237 : decode cX2_line 237 = .ok (.getfield 18, 3) := dk_180 0 18 (dk_at dksX2_line_10 0 rfl rfl)
theorem dX2_line_240 : decode cX2_line 240 = .ok (.invokevirtual 78, 3) := dk_182 0 78 (dk_at dksX2_line_10 3 rfl rfl)
theorem dX2_line_243 : decode cX2_line 243 = .ok (.return_, 1) := dk_177 (dk_at dksX2_line_10 6 rfl rfl)
abbrev cX2_value : ByteArray := prog_19_method_19_code
def yX2_value : MethodName := ⟨RX2, "value", "(LToldPowers$Form;I)J"⟩
def dkwX2_value_4 : List UInt8 := [182, 0, 78, 43, 180, 0, 210, 28, 50, 21, 4, 133, 182, 0, 155, 173]
abbrev dktX2_value_4 : List UInt8 := dkwX2_value_4 ++ []
def dkwX2_value_3 : List UInt8 := [180, 0, 214, 133, 43, 180, 0, 210, 28, 50, 180, 0, 217, 133, 184, 0, 37, 16, 6, 42, 180, 0, 86]
abbrev dktX2_value_3 : List UInt8 := dkwX2_value_3 ++ dktX2_value_4
def dkwX2_value_2 : List UInt8 := [162, 0, 7, 4, 167, 0, 4, 3, 16, 7, 29, 182, 0, 78, 42, 21, 4, 133, 43, 180, 0, 210, 28, 50]
abbrev dktX2_value_2 : List UInt8 := dkwX2_value_2 ++ dktX2_value_3
def dkwX2_value_1 : List UInt8 := [167, 0, 4, 3, 16, 7, 29, 182, 0, 78, 42, 182, 0, 152, 54, 4, 42, 28, 43, 182, 0, 207]
abbrev dktX2_value_1 : List UInt8 := dkwX2_value_1 ++ dktX2_value_2
def dkwX2_value_0 : List UInt8 := [42, 180, 0, 18, 62, 42, 42, 182, 0, 29, 16, 45, 160, 0, 11, 28, 43, 182, 0, 207, 162, 0, 7, 4]
abbrev dktX2_value_0 : List UInt8 := dkwX2_value_0 ++ dktX2_value_1
theorem dksX2_value_0 : cX2_value.data.toList.drop 0 = dktX2_value_0 := by decide +kernel
theorem dksX2_value_1 : cX2_value.data.toList.drop 24 = dktX2_value_1 := dk_seg dksX2_value_0 24 rfl rfl
theorem dksX2_value_2 : cX2_value.data.toList.drop 46 = dktX2_value_2 := dk_seg dksX2_value_1 22 rfl rfl
theorem dksX2_value_3 : cX2_value.data.toList.drop 70 = dktX2_value_3 := dk_seg dksX2_value_2 24 rfl rfl
theorem dksX2_value_4 : cX2_value.data.toList.drop 93 = dktX2_value_4 := dk_seg dksX2_value_3 23 rfl rfl
theorem dX2_value_0 : decode cX2_value 0 = .ok (.aload_n 0, 1) := dk_42 (dk_at dksX2_value_0 0 rfl rfl)
theorem dX2_value_1 : decode cX2_value 1 = .ok (.getfield 18, 3) := dk_180 0 18 (dk_at dksX2_value_0 1 rfl rfl)
theorem dX2_value_4 : decode cX2_value 4 = .ok (.istore_n 3, 1) := dk_62 (dk_at dksX2_value_0 4 rfl rfl)
theorem dX2_value_5 : decode cX2_value 5 = .ok (.aload_n 0, 1) := dk_42 (dk_at dksX2_value_0 5 rfl rfl)
theorem dX2_value_6 : decode cX2_value 6 = .ok (.aload_n 0, 1) := dk_42 (dk_at dksX2_value_0 6 rfl rfl)
theorem dX2_value_7 : decode cX2_value 7 = .ok (.invokevirtual 29, 3) := dk_182 0 29 (dk_at dksX2_value_0 7 rfl rfl)
theorem dX2_value_10 : decode cX2_value 10 = .ok (.bipush 45, 2) := dk_16 45 (dk_at dksX2_value_0 10 rfl rfl)
theorem dX2_value_12 : decode cX2_value 12 = .ok (.if_icmp .ne 11, 3) := dk_160 0 11 (dk_at dksX2_value_0 12 rfl rfl)
theorem dX2_value_15 : decode cX2_value 15 = .ok (.iload_n 2, 1) := dk_28 (dk_at dksX2_value_0 15 rfl rfl)
theorem dX2_value_16 : decode cX2_value 16 = .ok (.aload_n 1, 1) := dk_43 (dk_at dksX2_value_0 16 rfl rfl)
theorem dX2_value_17 : decode cX2_value 17 = .ok (.invokevirtual 207, 3) := dk_182 0 207 (dk_at dksX2_value_0 17 rfl rfl)
theorem dX2_value_20 : decode cX2_value 20 = .ok (.if_icmp .ge 7, 3) := dk_162 0 7 (dk_at dksX2_value_0 20 rfl rfl)
theorem dX2_value_23 : decode cX2_value 23 = .ok (.iconst 1, 1) := dk_4 (dk_at dksX2_value_0 23 rfl rfl)
theorem dX2_value_24 : decode cX2_value 24 = .ok (.goto 4, 3) := dk_167 0 4 (dk_at dksX2_value_1 0 rfl rfl)
theorem dX2_value_27 : decode cX2_value 27 = .ok (.iconst 0, 1) := dk_3 (dk_at dksX2_value_1 3 rfl rfl)
theorem dX2_value_28 : decode cX2_value 28 = .ok (.bipush 7, 2) := dk_16 7 (dk_at dksX2_value_1 4 rfl rfl)
theorem dX2_value_30 : decode cX2_value 30 = .ok (.iload_n 3, 1) := dk_29 (dk_at dksX2_value_1 6 rfl rfl)
theorem dX2_value_31 : decode cX2_value 31 = .ok (.invokevirtual 78, 3) := dk_182 0 78 (dk_at dksX2_value_1 7 rfl rfl)
theorem dX2_value_34 : decode cX2_value 34 = .ok (.aload_n 0, 1) := dk_42 (dk_at dksX2_value_1 10 rfl rfl)
theorem dX2_value_35 : decode cX2_value 35 = .ok (.invokevirtual 152, 3) := dk_182 0 152 (dk_at dksX2_value_1 11 rfl rfl)
theorem dX2_value_38 : decode cX2_value 38 = .ok (.istore 4, 2) := dk_54 4 (dk_at dksX2_value_1 14 rfl rfl)
theorem dX2_value_40 : decode cX2_value 40 = .ok (.aload_n 0, 1) := dk_42 (dk_at dksX2_value_1 16 rfl rfl)
theorem dX2_value_41 : decode cX2_value 41 = .ok (.iload_n 2, 1) := dk_28 (dk_at dksX2_value_1 17 rfl rfl)
theorem dX2_value_42 : decode cX2_value 42 = .ok (.aload_n 1, 1) := dk_43 (dk_at dksX2_value_1 18 rfl rfl)
theorem dX2_value_43 : decode cX2_value 43 = .ok (.invokevirtual 207, 3) := dk_182 0 207 (dk_at dksX2_value_1 19 rfl rfl)
theorem dX2_value_46 : decode cX2_value 46 = .ok (.if_icmp .ge 7, 3) := dk_162 0 7 (dk_at dksX2_value_2 0 rfl rfl)
theorem dX2_value_49 : decode cX2_value 49 = .ok (.iconst 1, 1) := dk_4 (dk_at dksX2_value_2 3 rfl rfl)
theorem dX2_value_50 : decode cX2_value 50 = .ok (.goto 4, 3) := dk_167 0 4 (dk_at dksX2_value_2 4 rfl rfl)
theorem dX2_value_53 : decode cX2_value 53 = .ok (.iconst 0, 1) := dk_3 (dk_at dksX2_value_2 7 rfl rfl)
theorem dX2_value_54 : decode cX2_value 54 = .ok (.bipush 7, 2) := dk_16 7 (dk_at dksX2_value_2 8 rfl rfl)
theorem dX2_value_56 : decode cX2_value 56 = .ok (.iload_n 3, 1) := dk_29 (dk_at dksX2_value_2 10 rfl rfl)
theorem dX2_value_57 : decode cX2_value 57 = .ok (.invokevirtual 78, 3) := dk_182 0 78 (dk_at dksX2_value_2 11 rfl rfl)
theorem dX2_value_60 : decode cX2_value 60 = .ok (.aload_n 0, 1) := dk_42 (dk_at dksX2_value_2 14 rfl rfl)
theorem dX2_value_61 : decode cX2_value 61 = .ok (.iload 4, 2) := dk_21 4 (dk_at dksX2_value_2 15 rfl rfl)
theorem dX2_value_63 : decode cX2_value 63 = .ok (.i2l, 1) := dk_133 (dk_at dksX2_value_2 17 rfl rfl)
theorem dX2_value_64 : decode cX2_value 64 = .ok (.aload_n 1, 1) := dk_43 (dk_at dksX2_value_2 18 rfl rfl)
theorem dX2_value_65 : decode cX2_value 65 = .ok (.getfield 210, 3) := dk_180 0 210 (dk_at dksX2_value_2 19 rfl rfl)
theorem dX2_value_68 : decode cX2_value 68 = .ok (.iload_n 2, 1) := dk_28 (dk_at dksX2_value_2 22 rfl rfl)
theorem dX2_value_69 : decode cX2_value 69 = .ok (.aaload, 1) := dk_50 (dk_at dksX2_value_2 23 rfl rfl)
theorem dX2_value_70 : decode cX2_value 70 = .ok (.getfield 214, 3) := dk_180 0 214 (dk_at dksX2_value_3 0 rfl rfl)
theorem dX2_value_73 : decode cX2_value 73 = .ok (.i2l, 1) := dk_133 (dk_at dksX2_value_3 3 rfl rfl)
theorem dX2_value_74 : decode cX2_value 74 = .ok (.aload_n 1, 1) := dk_43 (dk_at dksX2_value_3 4 rfl rfl)
theorem dX2_value_75 : decode cX2_value 75 = .ok (.getfield 210, 3) := dk_180 0 210 (dk_at dksX2_value_3 5 rfl rfl)
theorem dX2_value_78 : decode cX2_value 78 = .ok (.iload_n 2, 1) := dk_28 (dk_at dksX2_value_3 8 rfl rfl)
theorem dX2_value_79 : decode cX2_value 79 = .ok (.aaload, 1) := dk_50 (dk_at dksX2_value_3 9 rfl rfl)
theorem dX2_value_80 : decode cX2_value 80 = .ok (.getfield 217, 3) := dk_180 0 217 (dk_at dksX2_value_3 10 rfl rfl)
theorem dX2_value_83 : decode cX2_value 83 = .ok (.i2l, 1) := dk_133 (dk_at dksX2_value_3 13 rfl rfl)
theorem dX2_value_84 : decode cX2_value 84 = .ok (.invokestatic 37, 3) := dk_184 0 37 (dk_at dksX2_value_3 14 rfl rfl)
theorem dX2_value_87 : decode cX2_value 87 = .ok (.bipush 6, 2) := dk_16 6 (dk_at dksX2_value_3 17 rfl rfl)
theorem dX2_value_89 : decode cX2_value 89 = .ok (.aload_n 0, 1) := dk_42 (dk_at dksX2_value_3 19 rfl rfl)
theorem dX2_value_90 : decode cX2_value 90 = .ok (.getfield 86, 3) := dk_180 0 86 (dk_at dksX2_value_3 20 rfl rfl)
theorem dX2_value_93 : decode cX2_value 93 = .ok (.invokevirtual 78, 3) := dk_182 0 78 (dk_at dksX2_value_4 0 rfl rfl)
theorem dX2_value_96 : decode cX2_value 96 = .ok (.aload_n 1, 1) := dk_43 (dk_at dksX2_value_4 3 rfl rfl)
theorem dX2_value_97 : decode cX2_value 97 = .ok (.getfield 210, 3) := dk_180 0 210 (dk_at dksX2_value_4 4 rfl rfl)
theorem dX2_value_100 : decode cX2_value 100 = .ok (.iload_n 2, 1) := dk_28 (dk_at dksX2_value_4 7 rfl rfl)
theorem dX2_value_101 : decode cX2_value 101 = .ok (.aaload, 1) := dk_50 (dk_at dksX2_value_4 8 rfl rfl)
theorem dX2_value_102 : decode cX2_value 102 = .ok (.iload 4, 2) := dk_21 4 (dk_at dksX2_value_4 9 rfl rfl)
theorem dX2_value_104 : decode cX2_value 104 = .ok (.i2l, 1) := dk_133 (dk_at dksX2_value_4 11 rfl rfl)
theorem dX2_value_105 : decode cX2_value 105 = .ok (.invokevirtual 155, 3) := dk_182 0 155 (dk_at dksX2_value_4 12 rfl rfl)
theorem dX2_value_108 : decode cX2_value 108 = .ok (.lreturn, 1) := dk_173 (dk_at dksX2_value_4 15 rfl rfl)
abbrev cX2_identity : ByteArray := prog_19_method_20_code
def yX2_identity : MethodName := ⟨RX2, "identity", "()V"⟩
def dkwX2_identity_5 : List UInt8 := [181, 0, 245, 177]
abbrev dktX2_identity_5 : List UInt8 := dkwX2_identity_5 ++ []
def dkwX2_identity_4 : List UInt8 := [4, 50, 181, 0, 236, 42, 180, 0, 3, 44, 180, 0, 239, 181, 0, 242, 42, 180, 0, 3, 44, 180, 0, 243]
abbrev dktX2_identity_4 : List UInt8 := dkwX2_identity_4 ++ dktX2_identity_5
def dkwX2_identity_3 : List UInt8 := [25, 4, 183, 0, 204, 183, 0, 111, 191, 42, 180, 0, 3, 43, 3, 50, 181, 0, 232, 42, 180, 0, 3, 43]
abbrev dktX2_identity_3 : List UInt8 := dkwX2_identity_3 ++ dktX2_identity_4
def dkwX2_identity_2 : List UInt8 := [180, 0, 18, 182, 0, 78, 167, 0, 27, 58, 4, 187, 0, 109, 89, 29, 187, 0, 177, 89, 42, 180, 0, 229]
abbrev dktX2_identity_2 : List UInt8 := dkwX2_identity_2 ++ dktX2_identity_3
def dkwX2_identity_1 : List UInt8 := [16, 61, 182, 0, 105, 4, 62, 43, 4, 42, 44, 182, 0, 225, 83, 42, 42, 182, 0, 102, 4, 42]
abbrev dktX2_identity_1 : List UInt8 := dkwX2_identity_1 ++ dktX2_identity_2
def dkwX2_identity_0 : List UInt8 := [5, 189, 0, 220, 76, 187, 0, 222, 89, 183, 0, 224, 77, 3, 62, 43, 3, 42, 44, 182, 0, 225, 83, 42]
abbrev dktX2_identity_0 : List UInt8 := dkwX2_identity_0 ++ dktX2_identity_1
theorem dksX2_identity_0 : cX2_identity.data.toList.drop 0 = dktX2_identity_0 := by decide +kernel
theorem dksX2_identity_1 : cX2_identity.data.toList.drop 24 = dktX2_identity_1 := dk_seg dksX2_identity_0 24 rfl rfl
theorem dksX2_identity_2 : cX2_identity.data.toList.drop 46 = dktX2_identity_2 := dk_seg dksX2_identity_1 22 rfl rfl
theorem dksX2_identity_3 : cX2_identity.data.toList.drop 70 = dktX2_identity_3 := dk_seg dksX2_identity_2 24 rfl rfl
theorem dksX2_identity_4 : cX2_identity.data.toList.drop 94 = dktX2_identity_4 := dk_seg dksX2_identity_3 24 rfl rfl
theorem dksX2_identity_5 : cX2_identity.data.toList.drop 118 = dktX2_identity_5 := dk_seg dksX2_identity_4 24 rfl rfl
theorem dX2_identity_0 : decode cX2_identity 0 = .ok (.iconst 2, 1) := dk_5 (dk_at dksX2_identity_0 0 rfl rfl)
theorem dX2_identity_1 : decode cX2_identity 1 = .ok (.anewarray 220, 3) := dk_189 0 220 (dk_at dksX2_identity_0 1 rfl rfl)
theorem dX2_identity_4 : decode cX2_identity 4 = .ok (.astore_n 1, 1) := dk_76 (dk_at dksX2_identity_0 4 rfl rfl)
theorem dX2_identity_5 : decode cX2_identity 5 = .ok (.new 222, 3) := dk_187 0 222 (dk_at dksX2_identity_0 5 rfl rfl)
theorem dX2_identity_8 : decode cX2_identity 8 = .ok (.dup, 1) := dk_89 (dk_at dksX2_identity_0 8 rfl rfl)
theorem dX2_identity_9 : decode cX2_identity 9 = .ok (.invokespecial 224, 3) := dk_183 0 224 (dk_at dksX2_identity_0 9 rfl rfl)
theorem dX2_identity_12 : decode cX2_identity 12 = .ok (.astore_n 2, 1) := dk_77 (dk_at dksX2_identity_0 12 rfl rfl)
theorem dX2_identity_13 : decode cX2_identity 13 = .ok (.iconst 0, 1) := dk_3 (dk_at dksX2_identity_0 13 rfl rfl)
theorem dX2_identity_14 : decode cX2_identity 14 = .ok (.istore_n 3, 1) := dk_62 (dk_at dksX2_identity_0 14 rfl rfl)
theorem dX2_identity_15 : decode cX2_identity 15 = .ok (.aload_n 1, 1) := dk_43 (dk_at dksX2_identity_0 15 rfl rfl)
theorem dX2_identity_16 : decode cX2_identity 16 = .ok (.iconst 0, 1) := dk_3 (dk_at dksX2_identity_0 16 rfl rfl)
theorem dX2_identity_17 : decode cX2_identity 17 = .ok (.aload_n 0, 1) := dk_42 (dk_at dksX2_identity_0 17 rfl rfl)
theorem dX2_identity_18 : decode cX2_identity 18 = .ok (.aload_n 2, 1) := dk_44 (dk_at dksX2_identity_0 18 rfl rfl)
theorem dX2_identity_19 : decode cX2_identity 19 = .ok (.invokevirtual 225, 3) := dk_182 0 225 (dk_at dksX2_identity_0 19 rfl rfl)
theorem dX2_identity_22 : decode cX2_identity 22 = .ok (.aastore, 1) := dk_83 (dk_at dksX2_identity_0 22 rfl rfl)
theorem dX2_identity_23 : decode cX2_identity 23 = .ok (.aload_n 0, 1) := dk_42 (dk_at dksX2_identity_0 23 rfl rfl)
theorem dX2_identity_24 : decode cX2_identity 24 = .ok (.bipush 61, 2) := dk_16 61 (dk_at dksX2_identity_1 0 rfl rfl)
theorem dX2_identity_26 : decode cX2_identity 26 = .ok (.invokevirtual 105, 3) := dk_182 0 105 (dk_at dksX2_identity_1 2 rfl rfl)
theorem dX2_identity_29 : decode cX2_identity 29 = .ok (.iconst 1, 1) := dk_4 (dk_at dksX2_identity_1 5 rfl rfl)
theorem dX2_identity_30 : decode cX2_identity 30 = .ok (.istore_n 3, 1) := dk_62 (dk_at dksX2_identity_1 6 rfl rfl)
theorem dX2_identity_31 : decode cX2_identity 31 = .ok (.aload_n 1, 1) := dk_43 (dk_at dksX2_identity_1 7 rfl rfl)
theorem dX2_identity_32 : decode cX2_identity 32 = .ok (.iconst 1, 1) := dk_4 (dk_at dksX2_identity_1 8 rfl rfl)
theorem dX2_identity_33 : decode cX2_identity 33 = .ok (.aload_n 0, 1) := dk_42 (dk_at dksX2_identity_1 9 rfl rfl)
theorem dX2_identity_34 : decode cX2_identity 34 = .ok (.aload_n 2, 1) := dk_44 (dk_at dksX2_identity_1 10 rfl rfl)
theorem dX2_identity_35 : decode cX2_identity 35 = .ok (.invokevirtual 225, 3) := dk_182 0 225 (dk_at dksX2_identity_1 11 rfl rfl)
theorem dX2_identity_38 : decode cX2_identity 38 = .ok (.aastore, 1) := dk_83 (dk_at dksX2_identity_1 14 rfl rfl)
theorem dX2_identity_39 : decode cX2_identity 39 = .ok (.aload_n 0, 1) := dk_42 (dk_at dksX2_identity_1 15 rfl rfl)
theorem dX2_identity_40 : decode cX2_identity 40 = .ok (.aload_n 0, 1) := dk_42 (dk_at dksX2_identity_1 16 rfl rfl)
theorem dX2_identity_41 : decode cX2_identity 41 = .ok (.invokevirtual 102, 3) := dk_182 0 102 (dk_at dksX2_identity_1 17 rfl rfl)
theorem dX2_identity_44 : decode cX2_identity 44 = .ok (.iconst 1, 1) := dk_4 (dk_at dksX2_identity_1 20 rfl rfl)
theorem dX2_identity_45 : decode cX2_identity 45 = .ok (.aload_n 0, 1) := dk_42 (dk_at dksX2_identity_1 21 rfl rfl)
theorem dX2_identity_46 : decode cX2_identity 46 = .ok (.getfield 18, 3) := dk_180 0 18 (dk_at dksX2_identity_2 0 rfl rfl)
theorem dX2_identity_49 : decode cX2_identity 49 = .ok (.invokevirtual 78, 3) := dk_182 0 78 (dk_at dksX2_identity_2 3 rfl rfl)
theorem dX2_identity_52 : decode cX2_identity 52 = .ok (.goto 27, 3) := dk_167 0 27 (dk_at dksX2_identity_2 6 rfl rfl)
theorem dX2_identity_55 : decode cX2_identity 55 = .ok (.astore 4, 2) := dk_58 4 (dk_at dksX2_identity_2 9 rfl rfl)
theorem dX2_identity_57 : decode cX2_identity 57 = .ok (.new 109, 3) := dk_187 0 109 (dk_at dksX2_identity_2 11 rfl rfl)
theorem dX2_identity_60 : decode cX2_identity 60 = .ok (.dup, 1) := dk_89 (dk_at dksX2_identity_2 14 rfl rfl)
theorem dX2_identity_61 : decode cX2_identity 61 = .ok (.iload_n 3, 1) := dk_29 (dk_at dksX2_identity_2 15 rfl rfl)
theorem dX2_identity_62 : decode cX2_identity 62 = .ok (.new 177, 3) := dk_187 0 177 (dk_at dksX2_identity_2 16 rfl rfl)
theorem dX2_identity_65 : decode cX2_identity 65 = .ok (.dup, 1) := dk_89 (dk_at dksX2_identity_2 19 rfl rfl)
theorem dX2_identity_66 : decode cX2_identity 66 = .ok (.aload_n 0, 1) := dk_42 (dk_at dksX2_identity_2 20 rfl rfl)
theorem dX2_identity_67 : decode cX2_identity 67 = .ok (.getfield 229, 3) := dk_180 0 229 (dk_at dksX2_identity_2 21 rfl rfl)
theorem dX2_identity_70 : decode cX2_identity 70 = .ok (.aload 4, 2) := dk_25 4 (dk_at dksX2_identity_3 0 rfl rfl)
theorem dX2_identity_72 : decode cX2_identity 72 = .ok (.invokespecial 204, 3) := dk_183 0 204 (dk_at dksX2_identity_3 2 rfl rfl)
theorem dX2_identity_75 : decode cX2_identity 75 = .ok (.invokespecial 111, 3) := dk_183 0 111 (dk_at dksX2_identity_3 5 rfl rfl)
theorem dX2_identity_78 : decode cX2_identity 78 = .ok (.athrow, 1) := dk_191 (dk_at dksX2_identity_3 8 rfl rfl)
theorem dX2_identity_79 : decode cX2_identity 79 = .ok (.aload_n 0, 1) := dk_42 (dk_at dksX2_identity_3 9 rfl rfl)
theorem dX2_identity_80 : decode cX2_identity 80 = .ok (.getfield 3, 3) := dk_180 0 3 (dk_at dksX2_identity_3 10 rfl rfl)
theorem dX2_identity_83 : decode cX2_identity 83 = .ok (.aload_n 1, 1) := dk_43 (dk_at dksX2_identity_3 13 rfl rfl)
theorem dX2_identity_84 : decode cX2_identity 84 = .ok (.iconst 0, 1) := dk_3 (dk_at dksX2_identity_3 14 rfl rfl)
theorem dX2_identity_85 : decode cX2_identity 85 = .ok (.aaload, 1) := dk_50 (dk_at dksX2_identity_3 15 rfl rfl)
theorem dX2_identity_86 : decode cX2_identity 86 = .ok (.putfield 232, 3) := dk_181 0 232 (dk_at dksX2_identity_3 16 rfl rfl)
theorem dX2_identity_89 : decode cX2_identity 89 = .ok (.aload_n 0, 1) := dk_42 (dk_at dksX2_identity_3 19 rfl rfl)
theorem dX2_identity_90 : decode cX2_identity 90 = .ok (.getfield 3, 3) := dk_180 0 3 (dk_at dksX2_identity_3 20 rfl rfl)
theorem dX2_identity_93 : decode cX2_identity 93 = .ok (.aload_n 1, 1) := dk_43 (dk_at dksX2_identity_3 23 rfl rfl)
theorem dX2_identity_94 : decode cX2_identity 94 = .ok (.iconst 1, 1) := dk_4 (dk_at dksX2_identity_4 0 rfl rfl)
theorem dX2_identity_95 : decode cX2_identity 95 = .ok (.aaload, 1) := dk_50 (dk_at dksX2_identity_4 1 rfl rfl)
theorem dX2_identity_96 : decode cX2_identity 96 = .ok (.putfield 236, 3) := dk_181 0 236 (dk_at dksX2_identity_4 2 rfl rfl)
theorem dX2_identity_99 : decode cX2_identity 99 = .ok (.aload_n 0, 1) := dk_42 (dk_at dksX2_identity_4 5 rfl rfl)
theorem dX2_identity_100 : decode cX2_identity 100 = .ok (.getfield 3, 3) := dk_180 0 3 (dk_at dksX2_identity_4 6 rfl rfl)
theorem dX2_identity_103 : decode cX2_identity 103 = .ok (.aload_n 2, 1) := dk_44 (dk_at dksX2_identity_4 9 rfl rfl)
theorem dX2_identity_104 : decode cX2_identity 104 = .ok (.getfield 239, 3) := dk_180 0 239 (dk_at dksX2_identity_4 10 rfl rfl)
theorem dX2_identity_107 : decode cX2_identity 107 = .ok (.putfield 242, 3) := dk_181 0 242 (dk_at dksX2_identity_4 13 rfl rfl)
theorem dX2_identity_110 : decode cX2_identity 110 = .ok (.aload_n 0, 1) := dk_42 (dk_at dksX2_identity_4 16 rfl rfl)
theorem dX2_identity_111 : decode cX2_identity 111 = .ok (.getfield 3, 3) := dk_180 0 3 (dk_at dksX2_identity_4 17 rfl rfl)
theorem dX2_identity_114 : decode cX2_identity 114 = .ok (.aload_n 2, 1) := dk_44 (dk_at dksX2_identity_4 20 rfl rfl)
theorem dX2_identity_115 : decode cX2_identity 115 = .ok (.getfield 243, 3) := dk_180 0 243 (dk_at dksX2_identity_4 21 rfl rfl)
theorem dX2_identity_118 : decode cX2_identity 118 = .ok (.putfield 245, 3) := dk_181 0 245 (dk_at dksX2_identity_5 0 rfl rfl)
theorem dX2_identity_121 : decode cX2_identity 121 = .ok (.return_, 1) := dk_177 (dk_at dksX2_identity_5 3 rfl rfl)
abbrev cX2_sum : ByteArray := prog_19_method_21_code
def yX2_sum : MethodName := ⟨RX2, "sum", "(LToldPowers$ReadParts;)LToldPowers$Sum;"⟩
def dkwX2_sum_2 : List UInt8 := [42, 182, 0, 29, 62, 167, 255, 214, 44, 176]
abbrev dktX2_sum_2 : List UInt8 := dkwX2_sum_2 ++ []
def dkwX2_sum_1 : List UInt8 := [89, 180, 0, 18, 4, 96, 181, 0, 18, 42, 182, 0, 15, 29, 44, 42, 43, 182, 0, 248, 184, 0, 251, 77]
abbrev dktX2_sum_1 : List UInt8 := dkwX2_sum_1 ++ dktX2_sum_2
def dkwX2_sum_0 : List UInt8 := [42, 43, 182, 0, 248, 77, 42, 182, 0, 29, 62, 29, 16, 43, 159, 0, 9, 29, 16, 45, 160, 0, 36, 42]
abbrev dktX2_sum_0 : List UInt8 := dkwX2_sum_0 ++ dktX2_sum_1
theorem dksX2_sum_0 : cX2_sum.data.toList.drop 0 = dktX2_sum_0 := by decide +kernel
theorem dksX2_sum_1 : cX2_sum.data.toList.drop 24 = dktX2_sum_1 := dk_seg dksX2_sum_0 24 rfl rfl
theorem dksX2_sum_2 : cX2_sum.data.toList.drop 48 = dktX2_sum_2 := dk_seg dksX2_sum_1 24 rfl rfl
theorem dX2_sum_0 : decode cX2_sum 0 = .ok (.aload_n 0, 1) := dk_42 (dk_at dksX2_sum_0 0 rfl rfl)
theorem dX2_sum_1 : decode cX2_sum 1 = .ok (.aload_n 1, 1) := dk_43 (dk_at dksX2_sum_0 1 rfl rfl)
theorem dX2_sum_2 : decode cX2_sum 2 = .ok (.invokevirtual 248, 3) := dk_182 0 248 (dk_at dksX2_sum_0 2 rfl rfl)
theorem dX2_sum_5 : decode cX2_sum 5 = .ok (.astore_n 2, 1) := dk_77 (dk_at dksX2_sum_0 5 rfl rfl)
theorem dX2_sum_6 : decode cX2_sum 6 = .ok (.aload_n 0, 1) := dk_42 (dk_at dksX2_sum_0 6 rfl rfl)
theorem dX2_sum_7 : decode cX2_sum 7 = .ok (.invokevirtual 29, 3) := dk_182 0 29 (dk_at dksX2_sum_0 7 rfl rfl)
theorem dX2_sum_10 : decode cX2_sum 10 = .ok (.istore_n 3, 1) := dk_62 (dk_at dksX2_sum_0 10 rfl rfl)
theorem dX2_sum_11 : decode cX2_sum 11 = .ok (.iload_n 3, 1) := dk_29 (dk_at dksX2_sum_0 11 rfl rfl)
theorem dX2_sum_12 : decode cX2_sum 12 = .ok (.bipush 43, 2) := dk_16 43 (dk_at dksX2_sum_0 12 rfl rfl)
theorem dX2_sum_14 : decode cX2_sum 14 = .ok (.if_icmp .eq 9, 3) := dk_159 0 9 (dk_at dksX2_sum_0 14 rfl rfl)
theorem dX2_sum_17 : decode cX2_sum 17 = .ok (.iload_n 3, 1) := dk_29 (dk_at dksX2_sum_0 17 rfl rfl)
theorem dX2_sum_18 : decode cX2_sum 18 = .ok (.bipush 45, 2) := dk_16 45 (dk_at dksX2_sum_0 18 rfl rfl)
theorem dX2_sum_20 : decode cX2_sum 20 = .ok (.if_icmp .ne 36, 3) := dk_160 0 36 (dk_at dksX2_sum_0 20 rfl rfl)
theorem dX2_sum_23 : decode cX2_sum 23 = .ok (.aload_n 0, 1) := dk_42 (dk_at dksX2_sum_0 23 rfl rfl)
theorem dX2_sum_24 : decode cX2_sum 24 = .ok (.dup, 1) := dk_89 (dk_at dksX2_sum_1 0 rfl rfl)
theorem dX2_sum_25 : decode cX2_sum 25 = .ok (.getfield 18, 3) := dk_180 0 18 (dk_at dksX2_sum_1 1 rfl rfl)
theorem dX2_sum_28 : decode cX2_sum 28 = .ok (.iconst 1, 1) := dk_4 (dk_at dksX2_sum_1 4 rfl rfl)
theorem dX2_sum_29 : decode cX2_sum 29 = .ok (.iadd, 1) := dk_96 (dk_at dksX2_sum_1 5 rfl rfl)
theorem dX2_sum_30 : decode cX2_sum 30 = .ok (.putfield 18, 3) := dk_181 0 18 (dk_at dksX2_sum_1 6 rfl rfl)
theorem dX2_sum_33 : decode cX2_sum 33 = .ok (.aload_n 0, 1) := dk_42 (dk_at dksX2_sum_1 9 rfl rfl)
theorem dX2_sum_34 : decode cX2_sum 34 = .ok (.invokevirtual 15, 3) := dk_182 0 15 (dk_at dksX2_sum_1 10 rfl rfl)
theorem dX2_sum_37 : decode cX2_sum 37 = .ok (.iload_n 3, 1) := dk_29 (dk_at dksX2_sum_1 13 rfl rfl)
theorem dX2_sum_38 : decode cX2_sum 38 = .ok (.aload_n 2, 1) := dk_44 (dk_at dksX2_sum_1 14 rfl rfl)
theorem dX2_sum_39 : decode cX2_sum 39 = .ok (.aload_n 0, 1) := dk_42 (dk_at dksX2_sum_1 15 rfl rfl)
theorem dX2_sum_40 : decode cX2_sum 40 = .ok (.aload_n 1, 1) := dk_43 (dk_at dksX2_sum_1 16 rfl rfl)
theorem dX2_sum_41 : decode cX2_sum 41 = .ok (.invokevirtual 248, 3) := dk_182 0 248 (dk_at dksX2_sum_1 17 rfl rfl)
theorem dX2_sum_44 : decode cX2_sum 44 = .ok (.invokestatic 251, 3) := dk_184 0 251 (dk_at dksX2_sum_1 20 rfl rfl)
theorem dX2_sum_47 : decode cX2_sum 47 = .ok (.astore_n 2, 1) := dk_77 (dk_at dksX2_sum_1 23 rfl rfl)
theorem dX2_sum_48 : decode cX2_sum 48 = .ok (.aload_n 0, 1) := dk_42 (dk_at dksX2_sum_2 0 rfl rfl)
theorem dX2_sum_49 : decode cX2_sum 49 = .ok (.invokevirtual 29, 3) := dk_182 0 29 (dk_at dksX2_sum_2 1 rfl rfl)
theorem dX2_sum_52 : decode cX2_sum 52 = .ok (.istore_n 3, 1) := dk_62 (dk_at dksX2_sum_2 4 rfl rfl)
theorem dX2_sum_53 : decode cX2_sum 53 = .ok (.goto (-42), 3) := dk_167 255 214 (dk_at dksX2_sum_2 5 rfl rfl)
theorem dX2_sum_56 : decode cX2_sum 56 = .ok (.aload_n 2, 1) := dk_44 (dk_at dksX2_sum_2 8 rfl rfl)
theorem dX2_sum_57 : decode cX2_sum 57 = .ok (.areturn, 1) := dk_176 (dk_at dksX2_sum_2 9 rfl rfl)
abbrev cX2_product : ByteArray := prog_19_method_22_code
def yX2_product : MethodName := ⟨RX2, "product", "(LToldPowers$ReadParts;)LToldPowers$Sum;"⟩
def dkwX2_product_1 : List UInt8 := [184, 0, 251, 77, 167, 255, 235, 44, 176]
abbrev dktX2_product_1 : List UInt8 := dkwX2_product_1 ++ []
def dkwX2_product_0 : List UInt8 := [42, 43, 182, 0, 255, 77, 42, 16, 42, 182, 0, 74, 153, 0, 18, 16, 42, 44, 42, 43, 182, 0, 255]
abbrev dktX2_product_0 : List UInt8 := dkwX2_product_0 ++ dktX2_product_1
theorem dksX2_product_0 : cX2_product.data.toList.drop 0 = dktX2_product_0 := by decide +kernel
theorem dksX2_product_1 : cX2_product.data.toList.drop 23 = dktX2_product_1 := dk_seg dksX2_product_0 23 rfl rfl
theorem dX2_product_0 : decode cX2_product 0 = .ok (.aload_n 0, 1) := dk_42 (dk_at dksX2_product_0 0 rfl rfl)
theorem dX2_product_1 : decode cX2_product 1 = .ok (.aload_n 1, 1) := dk_43 (dk_at dksX2_product_0 1 rfl rfl)
theorem dX2_product_2 : decode cX2_product 2 = .ok (.invokevirtual 255, 3) := dk_182 0 255 (dk_at dksX2_product_0 2 rfl rfl)
theorem dX2_product_5 : decode cX2_product 5 = .ok (.astore_n 2, 1) := dk_77 (dk_at dksX2_product_0 5 rfl rfl)
theorem dX2_product_6 : decode cX2_product 6 = .ok (.aload_n 0, 1) := dk_42 (dk_at dksX2_product_0 6 rfl rfl)
theorem dX2_product_7 : decode cX2_product 7 = .ok (.bipush 42, 2) := dk_16 42 (dk_at dksX2_product_0 7 rfl rfl)
theorem dX2_product_9 : decode cX2_product 9 = .ok (.invokevirtual 74, 3) := dk_182 0 74 (dk_at dksX2_product_0 9 rfl rfl)
theorem dX2_product_12 : decode cX2_product 12 = .ok (.ifCond .eq 18, 3) := dk_153 0 18 (dk_at dksX2_product_0 12 rfl rfl)
theorem dX2_product_15 : decode cX2_product 15 = .ok (.bipush 42, 2) := dk_16 42 (dk_at dksX2_product_0 15 rfl rfl)
theorem dX2_product_17 : decode cX2_product 17 = .ok (.aload_n 2, 1) := dk_44 (dk_at dksX2_product_0 17 rfl rfl)
theorem dX2_product_18 : decode cX2_product 18 = .ok (.aload_n 0, 1) := dk_42 (dk_at dksX2_product_0 18 rfl rfl)
theorem dX2_product_19 : decode cX2_product 19 = .ok (.aload_n 1, 1) := dk_43 (dk_at dksX2_product_0 19 rfl rfl)
theorem dX2_product_20 : decode cX2_product 20 = .ok (.invokevirtual 255, 3) := dk_182 0 255 (dk_at dksX2_product_0 20 rfl rfl)
theorem dX2_product_23 : decode cX2_product 23 = .ok (.invokestatic 251, 3) := dk_184 0 251 (dk_at dksX2_product_1 0 rfl rfl)
theorem dX2_product_26 : decode cX2_product 26 = .ok (.astore_n 2, 1) := dk_77 (dk_at dksX2_product_1 3 rfl rfl)
theorem dX2_product_27 : decode cX2_product 27 = .ok (.goto (-21), 3) := dk_167 255 235 (dk_at dksX2_product_1 4 rfl rfl)
theorem dX2_product_30 : decode cX2_product 30 = .ok (.aload_n 2, 1) := dk_44 (dk_at dksX2_product_1 7 rfl rfl)
theorem dX2_product_31 : decode cX2_product 31 = .ok (.areturn, 1) := dk_176 (dk_at dksX2_product_1 8 rfl rfl)
abbrev cX2_raised : ByteArray := prog_19_method_23_code
def yX2_raised : MethodName := ⟨RX2, "raised", "(LToldPowers$ReadParts;)LToldPowers$Sum;"⟩
def dkwX2_raised_2 : List UInt8 := [176]
abbrev dktX2_raised_2 : List UInt8 := dkwX2_raised_2 ++ []
def dkwX2_raised_1 : List UInt8 := [16, 6, 163, 0, 7, 4, 167, 0, 4, 3, 16, 10, 42, 180, 0, 86, 182, 0, 78, 44, 29, 184, 1, 5]
abbrev dktX2_raised_1 : List UInt8 := dkwX2_raised_1 ++ dktX2_raised_2
def dkwX2_raised_0 : List UInt8 := [42, 43, 182, 1, 2, 77, 42, 16, 94, 182, 0, 74, 154, 0, 5, 44, 176, 42, 182, 0, 89, 62, 42, 29]
abbrev dktX2_raised_0 : List UInt8 := dkwX2_raised_0 ++ dktX2_raised_1
theorem dksX2_raised_0 : cX2_raised.data.toList.drop 0 = dktX2_raised_0 := by decide +kernel
theorem dksX2_raised_1 : cX2_raised.data.toList.drop 24 = dktX2_raised_1 := dk_seg dksX2_raised_0 24 rfl rfl
theorem dksX2_raised_2 : cX2_raised.data.toList.drop 48 = dktX2_raised_2 := dk_seg dksX2_raised_1 24 rfl rfl
theorem dX2_raised_0 : decode cX2_raised 0 = .ok (.aload_n 0, 1) := dk_42 (dk_at dksX2_raised_0 0 rfl rfl)
theorem dX2_raised_1 : decode cX2_raised 1 = .ok (.aload_n 1, 1) := dk_43 (dk_at dksX2_raised_0 1 rfl rfl)
theorem dX2_raised_2 : decode cX2_raised 2 = .ok (.invokevirtual 258, 3) := dk_182 1 2 (dk_at dksX2_raised_0 2 rfl rfl)
theorem dX2_raised_5 : decode cX2_raised 5 = .ok (.astore_n 2, 1) := dk_77 (dk_at dksX2_raised_0 5 rfl rfl)
theorem dX2_raised_6 : decode cX2_raised 6 = .ok (.aload_n 0, 1) := dk_42 (dk_at dksX2_raised_0 6 rfl rfl)
theorem dX2_raised_7 : decode cX2_raised 7 = .ok (.bipush 94, 2) := dk_16 94 (dk_at dksX2_raised_0 7 rfl rfl)
theorem dX2_raised_9 : decode cX2_raised 9 = .ok (.invokevirtual 74, 3) := dk_182 0 74 (dk_at dksX2_raised_0 9 rfl rfl)
theorem dX2_raised_12 : decode cX2_raised 12 = .ok (.ifCond .ne 5, 3) := dk_154 0 5 (dk_at dksX2_raised_0 12 rfl rfl)
theorem dX2_raised_15 : decode cX2_raised 15 = .ok (.aload_n 2, 1) := dk_44 (dk_at dksX2_raised_0 15 rfl rfl)
theorem dX2_raised_16 : decode cX2_raised 16 = .ok (.areturn, 1) := dk_176 (dk_at dksX2_raised_0 16 rfl rfl)
theorem dX2_raised_17 : decode cX2_raised 17 = .ok (.aload_n 0, 1) := dk_42 (dk_at dksX2_raised_0 17 rfl rfl)
theorem dX2_raised_18 : decode cX2_raised 18 = .ok (.invokevirtual 89, 3) := dk_182 0 89 (dk_at dksX2_raised_0 18 rfl rfl)
theorem dX2_raised_21 : decode cX2_raised 21 = .ok (.istore_n 3, 1) := dk_62 (dk_at dksX2_raised_0 21 rfl rfl)
theorem dX2_raised_22 : decode cX2_raised 22 = .ok (.aload_n 0, 1) := dk_42 (dk_at dksX2_raised_0 22 rfl rfl)
theorem dX2_raised_23 : decode cX2_raised 23 = .ok (.iload_n 3, 1) := dk_29 (dk_at dksX2_raised_0 23 rfl rfl)
theorem dX2_raised_24 : decode cX2_raised 24 = .ok (.bipush 6, 2) := dk_16 6 (dk_at dksX2_raised_1 0 rfl rfl)
theorem dX2_raised_26 : decode cX2_raised 26 = .ok (.if_icmp .gt 7, 3) := dk_163 0 7 (dk_at dksX2_raised_1 2 rfl rfl)
theorem dX2_raised_29 : decode cX2_raised 29 = .ok (.iconst 1, 1) := dk_4 (dk_at dksX2_raised_1 5 rfl rfl)
theorem dX2_raised_30 : decode cX2_raised 30 = .ok (.goto 4, 3) := dk_167 0 4 (dk_at dksX2_raised_1 6 rfl rfl)
theorem dX2_raised_33 : decode cX2_raised 33 = .ok (.iconst 0, 1) := dk_3 (dk_at dksX2_raised_1 9 rfl rfl)
theorem dX2_raised_34 : decode cX2_raised 34 = .ok (.bipush 10, 2) := dk_16 10 (dk_at dksX2_raised_1 10 rfl rfl)
theorem dX2_raised_36 : decode cX2_raised 36 = .ok (.aload_n 0, 1) := dk_42 (dk_at dksX2_raised_1 12 rfl rfl)
theorem dX2_raised_37 : decode cX2_raised 37 = .ok (.getfield 86, 3) := dk_180 0 86 (dk_at dksX2_raised_1 13 rfl rfl)
theorem dX2_raised_40 : decode cX2_raised 40 = .ok (.invokevirtual 78, 3) := dk_182 0 78 (dk_at dksX2_raised_1 16 rfl rfl)
theorem dX2_raised_43 : decode cX2_raised 43 = .ok (.aload_n 2, 1) := dk_44 (dk_at dksX2_raised_1 19 rfl rfl)
theorem dX2_raised_44 : decode cX2_raised 44 = .ok (.iload_n 3, 1) := dk_29 (dk_at dksX2_raised_1 20 rfl rfl)
theorem dX2_raised_45 : decode cX2_raised 45 = .ok (.invokestatic 261, 3) := dk_184 1 5 (dk_at dksX2_raised_1 21 rfl rfl)
theorem dX2_raised_48 : decode cX2_raised 48 = .ok (.areturn, 1) := dk_176 (dk_at dksX2_raised_2 0 rfl rfl)
abbrev cX2_part : ByteArray := prog_19_method_24_code
def yX2_part : MethodName := ⟨RX2, "part", "(LToldPowers$ReadParts;)LToldPowers$Sum;"⟩
def dkwX2_part_11 : List UInt8 := [180, 0, 229, 4, 100, 181, 0, 229, 25, 5, 176]
abbrev dktX2_part_11 : List UInt8 := dkwX2_part_11 ++ []
def dkwX2_part_10 : List UInt8 := [180, 0, 229, 4, 96, 181, 0, 229, 42, 43, 182, 0, 225, 58, 5, 42, 16, 41, 182, 0, 105, 42, 89]
abbrev dktX2_part_10 : List UInt8 := dkwX2_part_10 ++ dktX2_part_11
def dkwX2_part_9 : List UInt8 := [16, 97, 100, 120, 128, 181, 0, 239, 45, 3, 182, 1, 9, 16, 97, 100, 184, 1, 19, 176, 42, 89]
abbrev dktX2_part_9 : List UInt8 := dkwX2_part_9 ++ dktX2_part_10
def dkwX2_part_8 : List UInt8 := [181, 0, 18, 42, 182, 0, 15, 21, 4, 153, 0, 34, 43, 89, 180, 0, 239, 4, 45, 3, 182, 1, 9]
abbrev dktX2_part_8 : List UInt8 := dkwX2_part_8 ++ dktX2_part_9
def dkwX2_part_7 : List UInt8 := [3, 16, 12, 28, 182, 0, 78, 43, 89, 180, 0, 243, 4, 96, 181, 0, 243, 42, 89, 180, 0, 18, 4, 96]
abbrev dktX2_part_7 : List UInt8 := dkwX2_part_7 ++ dktX2_part_8
def dkwX2_part_6 : List UInt8 := [167, 0, 4, 3, 16, 11, 28, 182, 0, 78, 42, 43, 180, 0, 243, 16, 60, 162, 0, 7, 4, 167, 0, 4]
abbrev dktX2_part_6 : List UInt8 := dkwX2_part_6 ++ dktX2_part_7
def dkwX2_part_5 : List UInt8 := [21, 5, 133, 184, 1, 15, 176, 42, 21, 4, 154, 0, 12, 42, 180, 0, 229, 16, 6, 162, 0, 7, 4]
abbrev dktX2_part_5 : List UInt8 := dkwX2_part_5 ++ dktX2_part_6
def dkwX2_part_4 : List UInt8 := [162, 0, 7, 4, 167, 0, 4, 3, 16, 12, 28, 182, 0, 78, 43, 89, 180, 0, 243, 4, 96, 181, 0, 243]
abbrev dktX2_part_4 : List UInt8 := dkwX2_part_4 ++ dktX2_part_5
def dkwX2_part_3 : List UInt8 := [182, 0, 78, 42, 182, 0, 82, 153, 0, 47, 42, 182, 0, 89, 54, 5, 42, 43, 180, 0, 243, 16, 60]
abbrev dktX2_part_3 : List UInt8 := dkwX2_part_3 ++ dktX2_part_4
def dkwX2_part_2 : List UInt8 := [154, 0, 17, 21, 4, 154, 0, 12, 42, 182, 0, 29, 16, 40, 160, 0, 7, 4, 167, 0, 4, 3, 4, 28]
abbrev dktX2_part_2 : List UInt8 := dkwX2_part_2 ++ dktX2_part_3
def dkwX2_part_1 : List UInt8 := [20, 0, 49, 20, 1, 13, 184, 0, 37, 153, 0, 7, 4, 167, 0, 4, 3, 54, 4, 42, 42, 182, 0, 82]
abbrev dktX2_part_1 : List UInt8 := dkwX2_part_1 ++ dktX2_part_2
def dkwX2_part_0 : List UInt8 := [42, 180, 0, 18, 61, 42, 182, 0, 64, 78, 45, 182, 0, 73, 4, 160, 0, 25, 45, 3, 182, 1, 9, 133]
abbrev dktX2_part_0 : List UInt8 := dkwX2_part_0 ++ dktX2_part_1
theorem dksX2_part_0 : cX2_part.data.toList.drop 0 = dktX2_part_0 := by decide +kernel
theorem dksX2_part_1 : cX2_part.data.toList.drop 24 = dktX2_part_1 := dk_seg dksX2_part_0 24 rfl rfl
theorem dksX2_part_2 : cX2_part.data.toList.drop 48 = dktX2_part_2 := dk_seg dksX2_part_1 24 rfl rfl
theorem dksX2_part_3 : cX2_part.data.toList.drop 72 = dktX2_part_3 := dk_seg dksX2_part_2 24 rfl rfl
theorem dksX2_part_4 : cX2_part.data.toList.drop 95 = dktX2_part_4 := dk_seg dksX2_part_3 23 rfl rfl
theorem dksX2_part_5 : cX2_part.data.toList.drop 119 = dktX2_part_5 := dk_seg dksX2_part_4 24 rfl rfl
theorem dksX2_part_6 : cX2_part.data.toList.drop 142 = dktX2_part_6 := dk_seg dksX2_part_5 23 rfl rfl
theorem dksX2_part_7 : cX2_part.data.toList.drop 166 = dktX2_part_7 := dk_seg dksX2_part_6 24 rfl rfl
theorem dksX2_part_8 : cX2_part.data.toList.drop 190 = dktX2_part_8 := dk_seg dksX2_part_7 24 rfl rfl
theorem dksX2_part_9 : cX2_part.data.toList.drop 213 = dktX2_part_9 := dk_seg dksX2_part_8 23 rfl rfl
theorem dksX2_part_10 : cX2_part.data.toList.drop 235 = dktX2_part_10 := dk_seg dksX2_part_9 22 rfl rfl
theorem dksX2_part_11 : cX2_part.data.toList.drop 258 = dktX2_part_11 := dk_seg dksX2_part_10 23 rfl rfl
theorem dX2_part_0 : decode cX2_part 0 = .ok (.aload_n 0, 1) := dk_42 (dk_at dksX2_part_0 0 rfl rfl)
theorem dX2_part_1 : decode cX2_part 1 = .ok (.getfield 18, 3) := dk_180 0 18 (dk_at dksX2_part_0 1 rfl rfl)
theorem dX2_part_4 : decode cX2_part 4 = .ok (.istore_n 2, 1) := dk_61 (dk_at dksX2_part_0 4 rfl rfl)
theorem dX2_part_5 : decode cX2_part 5 = .ok (.aload_n 0, 1) := dk_42 (dk_at dksX2_part_0 5 rfl rfl)
theorem dX2_part_6 : decode cX2_part 6 = .ok (.invokevirtual 64, 3) := dk_182 0 64 (dk_at dksX2_part_0 6 rfl rfl)
theorem dX2_part_9 : decode cX2_part 9 = .ok (.astore_n 3, 1) := dk_78 (dk_at dksX2_part_0 9 rfl rfl)
theorem dX2_part_10 : decode cX2_part 10 = .ok (.aload_n 3, 1) := dk_45 (dk_at dksX2_part_0 10 rfl rfl)
theorem dX2_part_11 : decode cX2_part 11 = .ok (.invokevirtual 73, 3) := dk_182 0 73 (dk_at dksX2_part_0 11 rfl rfl)
theorem dX2_part_14 : decode cX2_part 14 = .ok (.iconst 1, 1) := dk_4 (dk_at dksX2_part_0 14 rfl rfl)
theorem dX2_part_15 : decode cX2_part 15 = .ok (.if_icmp .ne 25, 3) := dk_160 0 25 (dk_at dksX2_part_0 15 rfl rfl)
theorem dX2_part_18 : decode cX2_part 18 = .ok (.aload_n 3, 1) := dk_45 (dk_at dksX2_part_0 18 rfl rfl)
theorem dX2_part_19 : decode cX2_part 19 = .ok (.iconst 0, 1) := dk_3 (dk_at dksX2_part_0 19 rfl rfl)
theorem dX2_part_20 : decode cX2_part 20 = .ok (.invokevirtual 265, 3) := dk_182 1 9 (dk_at dksX2_part_0 20 rfl rfl)
theorem dX2_part_23 : decode cX2_part 23 = .ok (.i2l, 1) := dk_133 (dk_at dksX2_part_0 23 rfl rfl)
theorem dX2_part_24 : decode cX2_part 24 = .ok (.ldc2_w 49, 3) := dk_20 0 49 (dk_at dksX2_part_1 0 rfl rfl)
theorem dX2_part_27 : decode cX2_part 27 = .ok (.ldc2_w 269, 3) := dk_20 1 13 (dk_at dksX2_part_1 3 rfl rfl)
theorem dX2_part_30 : decode cX2_part 30 = .ok (.invokestatic 37, 3) := dk_184 0 37 (dk_at dksX2_part_1 6 rfl rfl)
theorem dX2_part_33 : decode cX2_part 33 = .ok (.ifCond .eq 7, 3) := dk_153 0 7 (dk_at dksX2_part_1 9 rfl rfl)
theorem dX2_part_36 : decode cX2_part 36 = .ok (.iconst 1, 1) := dk_4 (dk_at dksX2_part_1 12 rfl rfl)
theorem dX2_part_37 : decode cX2_part 37 = .ok (.goto 4, 3) := dk_167 0 4 (dk_at dksX2_part_1 13 rfl rfl)
theorem dX2_part_40 : decode cX2_part 40 = .ok (.iconst 0, 1) := dk_3 (dk_at dksX2_part_1 16 rfl rfl)
theorem dX2_part_41 : decode cX2_part 41 = .ok (.istore 4, 2) := dk_54 4 (dk_at dksX2_part_1 17 rfl rfl)
theorem dX2_part_43 : decode cX2_part 43 = .ok (.aload_n 0, 1) := dk_42 (dk_at dksX2_part_1 19 rfl rfl)
theorem dX2_part_44 : decode cX2_part 44 = .ok (.aload_n 0, 1) := dk_42 (dk_at dksX2_part_1 20 rfl rfl)
theorem dX2_part_45 : decode cX2_part 45 = .ok (.invokevirtual 82, 3) := dk_182 0 82 (dk_at dksX2_part_1 21 rfl rfl)
theorem dX2_part_48 : decode cX2_part 48 = .ok (.ifCond .ne 17, 3) := dk_154 0 17 (dk_at dksX2_part_2 0 rfl rfl)
theorem dX2_part_51 : decode cX2_part 51 = .ok (.iload 4, 2) := dk_21 4 (dk_at dksX2_part_2 3 rfl rfl)
theorem dX2_part_53 : decode cX2_part 53 = .ok (.ifCond .ne 12, 3) := dk_154 0 12 (dk_at dksX2_part_2 5 rfl rfl)
theorem dX2_part_56 : decode cX2_part 56 = .ok (.aload_n 0, 1) := dk_42 (dk_at dksX2_part_2 8 rfl rfl)
theorem dX2_part_57 : decode cX2_part 57 = .ok (.invokevirtual 29, 3) := dk_182 0 29 (dk_at dksX2_part_2 9 rfl rfl)
theorem dX2_part_60 : decode cX2_part 60 = .ok (.bipush 40, 2) := dk_16 40 (dk_at dksX2_part_2 12 rfl rfl)
theorem dX2_part_62 : decode cX2_part 62 = .ok (.if_icmp .ne 7, 3) := dk_160 0 7 (dk_at dksX2_part_2 14 rfl rfl)
theorem dX2_part_65 : decode cX2_part 65 = .ok (.iconst 1, 1) := dk_4 (dk_at dksX2_part_2 17 rfl rfl)
theorem dX2_part_66 : decode cX2_part 66 = .ok (.goto 4, 3) := dk_167 0 4 (dk_at dksX2_part_2 18 rfl rfl)
theorem dX2_part_69 : decode cX2_part 69 = .ok (.iconst 0, 1) := dk_3 (dk_at dksX2_part_2 21 rfl rfl)
theorem dX2_part_70 : decode cX2_part 70 = .ok (.iconst 1, 1) := dk_4 (dk_at dksX2_part_2 22 rfl rfl)
theorem dX2_part_71 : decode cX2_part 71 = .ok (.iload_n 2, 1) := dk_28 (dk_at dksX2_part_2 23 rfl rfl)
theorem dX2_part_72 : decode cX2_part 72 = .ok (.invokevirtual 78, 3) := dk_182 0 78 (dk_at dksX2_part_3 0 rfl rfl)
theorem dX2_part_75 : decode cX2_part 75 = .ok (.aload_n 0, 1) := dk_42 (dk_at dksX2_part_3 3 rfl rfl)
theorem dX2_part_76 : decode cX2_part 76 = .ok (.invokevirtual 82, 3) := dk_182 0 82 (dk_at dksX2_part_3 4 rfl rfl)
theorem dX2_part_79 : decode cX2_part 79 = .ok (.ifCond .eq 47, 3) := dk_153 0 47 (dk_at dksX2_part_3 7 rfl rfl)
theorem dX2_part_82 : decode cX2_part 82 = .ok (.aload_n 0, 1) := dk_42 (dk_at dksX2_part_3 10 rfl rfl)
theorem dX2_part_83 : decode cX2_part 83 = .ok (.invokevirtual 89, 3) := dk_182 0 89 (dk_at dksX2_part_3 11 rfl rfl)
theorem dX2_part_86 : decode cX2_part 86 = .ok (.istore 5, 2) := dk_54 5 (dk_at dksX2_part_3 14 rfl rfl)
theorem dX2_part_88 : decode cX2_part 88 = .ok (.aload_n 0, 1) := dk_42 (dk_at dksX2_part_3 16 rfl rfl)
theorem dX2_part_89 : decode cX2_part 89 = .ok (.aload_n 1, 1) := dk_43 (dk_at dksX2_part_3 17 rfl rfl)
theorem dX2_part_90 : decode cX2_part 90 = .ok (.getfield 243, 3) := dk_180 0 243 (dk_at dksX2_part_3 18 rfl rfl)
theorem dX2_part_93 : decode cX2_part 93 = .ok (.bipush 60, 2) := dk_16 60 (dk_at dksX2_part_3 21 rfl rfl)
theorem dX2_part_95 : decode cX2_part 95 = .ok (.if_icmp .ge 7, 3) := dk_162 0 7 (dk_at dksX2_part_4 0 rfl rfl)
theorem dX2_part_98 : decode cX2_part 98 = .ok (.iconst 1, 1) := dk_4 (dk_at dksX2_part_4 3 rfl rfl)
theorem dX2_part_99 : decode cX2_part 99 = .ok (.goto 4, 3) := dk_167 0 4 (dk_at dksX2_part_4 4 rfl rfl)
theorem dX2_part_102 : decode cX2_part 102 = .ok (.iconst 0, 1) := dk_3 (dk_at dksX2_part_4 7 rfl rfl)
theorem dX2_part_103 : decode cX2_part 103 = .ok (.bipush 12, 2) := dk_16 12 (dk_at dksX2_part_4 8 rfl rfl)
theorem dX2_part_105 : decode cX2_part 105 = .ok (.iload_n 2, 1) := dk_28 (dk_at dksX2_part_4 10 rfl rfl)
theorem dX2_part_106 : decode cX2_part 106 = .ok (.invokevirtual 78, 3) := dk_182 0 78 (dk_at dksX2_part_4 11 rfl rfl)
theorem dX2_part_109 : decode cX2_part 109 = .ok (.aload_n 1, 1) := dk_43 (dk_at dksX2_part_4 14 rfl rfl)
theorem dX2_part_110 : decode cX2_part 110 = .ok (.dup, 1) := dk_89 (dk_at dksX2_part_4 15 rfl rfl)
theorem dX2_part_111 : decode cX2_part 111 = .ok (.getfield 243, 3) := dk_180 0 243 (dk_at dksX2_part_4 16 rfl rfl)
theorem dX2_part_114 : decode cX2_part 114 = .ok (.iconst 1, 1) := dk_4 (dk_at dksX2_part_4 19 rfl rfl)
theorem dX2_part_115 : decode cX2_part 115 = .ok (.iadd, 1) := dk_96 (dk_at dksX2_part_4 20 rfl rfl)
theorem dX2_part_116 : decode cX2_part 116 = .ok (.putfield 243, 3) := dk_181 0 243 (dk_at dksX2_part_4 21 rfl rfl)
theorem dX2_part_119 : decode cX2_part 119 = .ok (.iload 5, 2) := dk_21 5 (dk_at dksX2_part_5 0 rfl rfl)
theorem dX2_part_121 : decode cX2_part 121 = .ok (.i2l, 1) := dk_133 (dk_at dksX2_part_5 2 rfl rfl)
theorem dX2_part_122 : decode cX2_part 122 = .ok (.invokestatic 271, 3) := dk_184 1 15 (dk_at dksX2_part_5 3 rfl rfl)
theorem dX2_part_125 : decode cX2_part 125 = .ok (.areturn, 1) := dk_176 (dk_at dksX2_part_5 6 rfl rfl)
theorem dX2_part_126 : decode cX2_part 126 = .ok (.aload_n 0, 1) := dk_42 (dk_at dksX2_part_5 7 rfl rfl)
theorem dX2_part_127 : decode cX2_part 127 = .ok (.iload 4, 2) := dk_21 4 (dk_at dksX2_part_5 8 rfl rfl)
theorem dX2_part_129 : decode cX2_part 129 = .ok (.ifCond .ne 12, 3) := dk_154 0 12 (dk_at dksX2_part_5 10 rfl rfl)
theorem dX2_part_132 : decode cX2_part 132 = .ok (.aload_n 0, 1) := dk_42 (dk_at dksX2_part_5 13 rfl rfl)
theorem dX2_part_133 : decode cX2_part 133 = .ok (.getfield 229, 3) := dk_180 0 229 (dk_at dksX2_part_5 14 rfl rfl)
theorem dX2_part_136 : decode cX2_part 136 = .ok (.bipush 6, 2) := dk_16 6 (dk_at dksX2_part_5 17 rfl rfl)
theorem dX2_part_138 : decode cX2_part 138 = .ok (.if_icmp .ge 7, 3) := dk_162 0 7 (dk_at dksX2_part_5 19 rfl rfl)
theorem dX2_part_141 : decode cX2_part 141 = .ok (.iconst 1, 1) := dk_4 (dk_at dksX2_part_5 22 rfl rfl)
theorem dX2_part_142 : decode cX2_part 142 = .ok (.goto 4, 3) := dk_167 0 4 (dk_at dksX2_part_6 0 rfl rfl)
theorem dX2_part_145 : decode cX2_part 145 = .ok (.iconst 0, 1) := dk_3 (dk_at dksX2_part_6 3 rfl rfl)
theorem dX2_part_146 : decode cX2_part 146 = .ok (.bipush 11, 2) := dk_16 11 (dk_at dksX2_part_6 4 rfl rfl)
theorem dX2_part_148 : decode cX2_part 148 = .ok (.iload_n 2, 1) := dk_28 (dk_at dksX2_part_6 6 rfl rfl)
theorem dX2_part_149 : decode cX2_part 149 = .ok (.invokevirtual 78, 3) := dk_182 0 78 (dk_at dksX2_part_6 7 rfl rfl)
theorem dX2_part_152 : decode cX2_part 152 = .ok (.aload_n 0, 1) := dk_42 (dk_at dksX2_part_6 10 rfl rfl)
theorem dX2_part_153 : decode cX2_part 153 = .ok (.aload_n 1, 1) := dk_43 (dk_at dksX2_part_6 11 rfl rfl)
theorem dX2_part_154 : decode cX2_part 154 = .ok (.getfield 243, 3) := dk_180 0 243 (dk_at dksX2_part_6 12 rfl rfl)
theorem dX2_part_157 : decode cX2_part 157 = .ok (.bipush 60, 2) := dk_16 60 (dk_at dksX2_part_6 15 rfl rfl)
theorem dX2_part_159 : decode cX2_part 159 = .ok (.if_icmp .ge 7, 3) := dk_162 0 7 (dk_at dksX2_part_6 17 rfl rfl)
theorem dX2_part_162 : decode cX2_part 162 = .ok (.iconst 1, 1) := dk_4 (dk_at dksX2_part_6 20 rfl rfl)
theorem dX2_part_163 : decode cX2_part 163 = .ok (.goto 4, 3) := dk_167 0 4 (dk_at dksX2_part_6 21 rfl rfl)
theorem dX2_part_166 : decode cX2_part 166 = .ok (.iconst 0, 1) := dk_3 (dk_at dksX2_part_7 0 rfl rfl)
theorem dX2_part_167 : decode cX2_part 167 = .ok (.bipush 12, 2) := dk_16 12 (dk_at dksX2_part_7 1 rfl rfl)
theorem dX2_part_169 : decode cX2_part 169 = .ok (.iload_n 2, 1) := dk_28 (dk_at dksX2_part_7 3 rfl rfl)
theorem dX2_part_170 : decode cX2_part 170 = .ok (.invokevirtual 78, 3) := dk_182 0 78 (dk_at dksX2_part_7 4 rfl rfl)
theorem dX2_part_173 : decode cX2_part 173 = .ok (.aload_n 1, 1) := dk_43 (dk_at dksX2_part_7 7 rfl rfl)
theorem dX2_part_174 : decode cX2_part 174 = .ok (.dup, 1) := dk_89 (dk_at dksX2_part_7 8 rfl rfl)
theorem dX2_part_175 : decode cX2_part 175 = .ok (.getfield 243, 3) := dk_180 0 243 (dk_at dksX2_part_7 9 rfl rfl)
theorem dX2_part_178 : decode cX2_part 178 = .ok (.iconst 1, 1) := dk_4 (dk_at dksX2_part_7 12 rfl rfl)
theorem dX2_part_179 : decode cX2_part 179 = .ok (.iadd, 1) := dk_96 (dk_at dksX2_part_7 13 rfl rfl)
theorem dX2_part_180 : decode cX2_part 180 = .ok (.putfield 243, 3) := dk_181 0 243 (dk_at dksX2_part_7 14 rfl rfl)
theorem dX2_part_183 : decode cX2_part 183 = .ok (.aload_n 0, 1) := dk_42 (dk_at dksX2_part_7 17 rfl rfl)
theorem dX2_part_184 : decode cX2_part 184 = .ok (.dup, 1) := dk_89 (dk_at dksX2_part_7 18 rfl rfl)
theorem dX2_part_185 : decode cX2_part 185 = .ok (.getfield 18, 3) := dk_180 0 18 (dk_at dksX2_part_7 19 rfl rfl)
theorem dX2_part_188 : decode cX2_part 188 = .ok (.iconst 1, 1) := dk_4 (dk_at dksX2_part_7 22 rfl rfl)
theorem dX2_part_189 : decode cX2_part 189 = .ok (.iadd, 1) := dk_96 (dk_at dksX2_part_7 23 rfl rfl)
theorem dX2_part_190 : decode cX2_part 190 = .ok (.putfield 18, 3) := dk_181 0 18 (dk_at dksX2_part_8 0 rfl rfl)
theorem dX2_part_193 : decode cX2_part 193 = .ok (.aload_n 0, 1) := dk_42 (dk_at dksX2_part_8 3 rfl rfl)
theorem dX2_part_194 : decode cX2_part 194 = .ok (.invokevirtual 15, 3) := dk_182 0 15 (dk_at dksX2_part_8 4 rfl rfl)
theorem dX2_part_197 : decode cX2_part 197 = .ok (.iload 4, 2) := dk_21 4 (dk_at dksX2_part_8 7 rfl rfl)
theorem dX2_part_199 : decode cX2_part 199 = .ok (.ifCond .eq 34, 3) := dk_153 0 34 (dk_at dksX2_part_8 9 rfl rfl)
theorem dX2_part_202 : decode cX2_part 202 = .ok (.aload_n 1, 1) := dk_43 (dk_at dksX2_part_8 12 rfl rfl)
theorem dX2_part_203 : decode cX2_part 203 = .ok (.dup, 1) := dk_89 (dk_at dksX2_part_8 13 rfl rfl)
theorem dX2_part_204 : decode cX2_part 204 = .ok (.getfield 239, 3) := dk_180 0 239 (dk_at dksX2_part_8 14 rfl rfl)
theorem dX2_part_207 : decode cX2_part 207 = .ok (.iconst 1, 1) := dk_4 (dk_at dksX2_part_8 17 rfl rfl)
theorem dX2_part_208 : decode cX2_part 208 = .ok (.aload_n 3, 1) := dk_45 (dk_at dksX2_part_8 18 rfl rfl)
theorem dX2_part_209 : decode cX2_part 209 = .ok (.iconst 0, 1) := dk_3 (dk_at dksX2_part_8 19 rfl rfl)
theorem dX2_part_210 : decode cX2_part 210 = .ok (.invokevirtual 265, 3) := dk_182 1 9 (dk_at dksX2_part_8 20 rfl rfl)
theorem dX2_part_213 : decode cX2_part 213 = .ok (.bipush 97, 2) := dk_16 97 (dk_at dksX2_part_9 0 rfl rfl)
theorem dX2_part_215 : decode cX2_part 215 = .ok (.isub, 1) := dk_100 (dk_at dksX2_part_9 2 rfl rfl)
theorem dX2_part_216 : decode cX2_part 216 = .ok (.ishl, 1) := dk_120 (dk_at dksX2_part_9 3 rfl rfl)
theorem dX2_part_217 : decode cX2_part 217 = .ok (.ior, 1) := dk_128 (dk_at dksX2_part_9 4 rfl rfl)
theorem dX2_part_218 : decode cX2_part 218 = .ok (.putfield 239, 3) := dk_181 0 239 (dk_at dksX2_part_9 5 rfl rfl)
theorem dX2_part_221 : decode cX2_part 221 = .ok (.aload_n 3, 1) := dk_45 (dk_at dksX2_part_9 8 rfl rfl)
theorem dX2_part_222 : decode cX2_part 222 = .ok (.iconst 0, 1) := dk_3 (dk_at dksX2_part_9 9 rfl rfl)
theorem dX2_part_223 : decode cX2_part 223 = .ok (.invokevirtual 265, 3) := dk_182 1 9 (dk_at dksX2_part_9 10 rfl rfl)
theorem dX2_part_226 : decode cX2_part 226 = .ok (.bipush 97, 2) := dk_16 97 (dk_at dksX2_part_9 13 rfl rfl)
theorem dX2_part_228 : decode cX2_part 228 = .ok (.isub, 1) := dk_100 (dk_at dksX2_part_9 15 rfl rfl)
theorem dX2_part_229 : decode cX2_part 229 = .ok (.invokestatic 275, 3) := dk_184 1 19 (dk_at dksX2_part_9 16 rfl rfl)
theorem dX2_part_232 : decode cX2_part 232 = .ok (.areturn, 1) := dk_176 (dk_at dksX2_part_9 19 rfl rfl)
theorem dX2_part_233 : decode cX2_part 233 = .ok (.aload_n 0, 1) := dk_42 (dk_at dksX2_part_9 20 rfl rfl)
theorem dX2_part_234 : decode cX2_part 234 = .ok (.dup, 1) := dk_89 (dk_at dksX2_part_9 21 rfl rfl)
theorem dX2_part_235 : decode cX2_part 235 = .ok (.getfield 229, 3) := dk_180 0 229 (dk_at dksX2_part_10 0 rfl rfl)
theorem dX2_part_238 : decode cX2_part 238 = .ok (.iconst 1, 1) := dk_4 (dk_at dksX2_part_10 3 rfl rfl)
theorem dX2_part_239 : decode cX2_part 239 = .ok (.iadd, 1) := dk_96 (dk_at dksX2_part_10 4 rfl rfl)
theorem dX2_part_240 : decode cX2_part 240 = .ok (.putfield 229, 3) := dk_181 0 229 (dk_at dksX2_part_10 5 rfl rfl)
theorem dX2_part_243 : decode cX2_part 243 = .ok (.aload_n 0, 1) := dk_42 (dk_at dksX2_part_10 8 rfl rfl)
theorem dX2_part_244 : decode cX2_part 244 = .ok (.aload_n 1, 1) := dk_43 (dk_at dksX2_part_10 9 rfl rfl)
theorem dX2_part_245 : decode cX2_part 245 = .ok (.invokevirtual 225, 3) := dk_182 0 225 (dk_at dksX2_part_10 10 rfl rfl)
theorem dX2_part_248 : decode cX2_part 248 = .ok (.astore 5, 2) := dk_58 5 (dk_at dksX2_part_10 13 rfl rfl)
theorem dX2_part_250 : decode cX2_part 250 = .ok (.aload_n 0, 1) := dk_42 (dk_at dksX2_part_10 15 rfl rfl)
theorem dX2_part_251 : decode cX2_part 251 = .ok (.bipush 41, 2) := dk_16 41 (dk_at dksX2_part_10 16 rfl rfl)
theorem dX2_part_253 : decode cX2_part 253 = .ok (.invokevirtual 105, 3) := dk_182 0 105 (dk_at dksX2_part_10 18 rfl rfl)
theorem dX2_part_256 : decode cX2_part 256 = .ok (.aload_n 0, 1) := dk_42 (dk_at dksX2_part_10 21 rfl rfl)
theorem dX2_part_257 : decode cX2_part 257 = .ok (.dup, 1) := dk_89 (dk_at dksX2_part_10 22 rfl rfl)
theorem dX2_part_258 : decode cX2_part 258 = .ok (.getfield 229, 3) := dk_180 0 229 (dk_at dksX2_part_11 0 rfl rfl)
theorem dX2_part_261 : decode cX2_part 261 = .ok (.iconst 1, 1) := dk_4 (dk_at dksX2_part_11 3 rfl rfl)
theorem dX2_part_262 : decode cX2_part 262 = .ok (.isub, 1) := dk_100 (dk_at dksX2_part_11 4 rfl rfl)
theorem dX2_part_263 : decode cX2_part 263 = .ok (.putfield 229, 3) := dk_181 0 229 (dk_at dksX2_part_11 5 rfl rfl)
theorem dX2_part_266 : decode cX2_part 266 = .ok (.aload 5, 2) := dk_25 5 (dk_at dksX2_part_11 8 rfl rfl)
theorem dX2_part_268 : decode cX2_part 268 = .ok (.areturn, 1) := dk_176 (dk_at dksX2_part_11 10 rfl rfl)
theorem q113 : (Jvm.Cond.initialized "ToldPowers$Reader") ∈ lw_all := lw_g (lw_at lw_m1 12 rfl) rfl
theorem q209 : (Jvm.Cond.fieldLinkNest "ToldPowers$Reader" (137 : Nat) "ToldPowers" "kinds" "[LToldPowers$Kind;" "ToldPowers") ∈ lw_tbl := lw_at lw_m1 108 rfl
theorem q211 : (Jvm.Cond.fieldLinkNest "ToldPowers$Reader" (128 : Nat) "ToldPowers" "kindWords" "[Ljava/lang/String;" "ToldPowers") ∈ lw_tbl := lw_at lw_m1 110 rfl
theorem q218 : (Jvm.Cond.fieldLinkNest "ToldPowers$Reader" (232 : Nat) "ToldPowers" "left" "LToldPowers$Sum;" "ToldPowers") ∈ lw_tbl := lw_at lw_m1 117 rfl
theorem q220 : (Jvm.Cond.fieldLinkNest "ToldPowers$Reader" (236 : Nat) "ToldPowers" "right" "LToldPowers$Sum;" "ToldPowers") ∈ lw_tbl := lw_at lw_m1 119 rfl
theorem q222 : (Jvm.Cond.fieldLinkNest "ToldPowers$Reader" (242 : Nat) "ToldPowers" "letters" "I" "ToldPowers") ∈ lw_tbl := lw_at lw_m1 121 rfl
theorem q224 : (Jvm.Cond.fieldLinkNest "ToldPowers$Reader" (245 : Nat) "ToldPowers" "parts" "I" "ToldPowers") ∈ lw_tbl := lw_at lw_m1 123 rfl
theorem q227 : (Jvm.Cond.fieldLinkNest "ToldPowers$Reader" (25 : Nat) "ToldPowers" "tape" "[B" "ToldPowers") ∈ lw_tbl := lw_at lw_m1 126 rfl
theorem q229 : (Jvm.Cond.fieldLinkNest "ToldPowers$Reader" (22 : Nat) "ToldPowers" "taped" "I" "ToldPowers") ∈ lw_tbl := lw_at lw_m1 128 rfl
theorem q393 : (Jvm.Cond.instantiable "ToldPowers$Reader" (4 : Nat)) ∈ lw_all := lw_g (lw_at lw_m2 52 rfl) rfl
theorem q395 : (Jvm.Cond.instanceMethod ({ cls := "ToldPowers$Reader", name := "<init>", desc := "(LToldPowers;)V" } : Jvm.MethodName)) ∈ lw_all := lw_g (lw_at lw_m2 54 rfl) rfl
theorem q396 : (Jvm.Cond.code ({ cls := "ToldPowers$Reader", name := "<init>", desc := "(LToldPowers;)V" } : Jvm.MethodName) prog_19_method_1_code (2 : Nat) (Option.none : Option Jvm.ClassFile.FieldType)) ∈ lw_all := lw_g (lw_at lw_m2 55 rfl) rfl
theorem q397 : (Jvm.Cond.methodLink "ToldPowers$Reader" (9 : Nat) ({ cls := "java/lang/Object", name := "<init>", desc := "()V" } : Jvm.MethodName)) ∈ lw_all := lw_g (lw_at lw_m2 56 rfl) rfl
theorem q398 : (Jvm.Cond.methodLink "ToldPowers$Reader" (15 : Nat) ({ cls := "ToldPowers$Reader", name := "skips", desc := "()V" } : Jvm.MethodName)) ∈ lw_all := lw_g (lw_at lw_m2 57 rfl) rfl
theorem q399 : (Jvm.Cond.privateMethod ({ cls := "ToldPowers$Reader", name := "skips", desc := "()V" } : Jvm.MethodName)) ∈ lw_tbl := lw_at lw_m2 58 rfl
theorem q400 : (Jvm.Cond.instanceMethod ({ cls := "ToldPowers$Reader", name := "skips", desc := "()V" } : Jvm.MethodName)) ∈ lw_all := lw_g (lw_at lw_m2 59 rfl) rfl
theorem q401 : (Jvm.Cond.code ({ cls := "ToldPowers$Reader", name := "skips", desc := "()V" } : Jvm.MethodName) prog_19_method_3_code (1 : Nat) (Option.none : Option Jvm.ClassFile.FieldType)) ∈ lw_all := lw_g (lw_at lw_m2 60 rfl) rfl
theorem q402 : (Jvm.Cond.methodLink "ToldPowers$Reader" (29 : Nat) ({ cls := "ToldPowers$Reader", name := "here", desc := "()I" } : Jvm.MethodName)) ∈ lw_all := lw_g (lw_at lw_m2 61 rfl) rfl
theorem q403 : (Jvm.Cond.privateMethod ({ cls := "ToldPowers$Reader", name := "here", desc := "()I" } : Jvm.MethodName)) ∈ lw_tbl := lw_at lw_m2 62 rfl
theorem q404 : (Jvm.Cond.instanceMethod ({ cls := "ToldPowers$Reader", name := "here", desc := "()I" } : Jvm.MethodName)) ∈ lw_all := lw_g (lw_at lw_m2 63 rfl) rfl
theorem q405 : (Jvm.Cond.code ({ cls := "ToldPowers$Reader", name := "here", desc := "()I" } : Jvm.MethodName) prog_19_method_2_code (1 : Nat) (Option.some Jvm.ClassFile.FieldType.int)) ∈ lw_all := lw_g (lw_at lw_m2 64 rfl) rfl
theorem q406 : (Jvm.Cond.fieldLink "ToldPowers$Reader" (18 : Nat) "ToldPowers$Reader" "at" "I") ∈ lw_all := lw_g (lw_at lw_m2 65 rfl) rfl
theorem q407 : (Jvm.Cond.fieldLink "ToldPowers$Reader" (86 : Nat) "ToldPowers$Reader" "from" "I") ∈ lw_all := lw_g (lw_at lw_m2 66 rfl) rfl
theorem q408 : (Jvm.Cond.fieldLink "ToldPowers$Reader" (229 : Nat) "ToldPowers$Reader" "open" "I") ∈ lw_all := lw_g (lw_at lw_m2 67 rfl) rfl
theorem q409 : (Jvm.Cond.fieldLink "ToldPowers$Reader" (3 : Nat) "ToldPowers$Reader" "this$0" "LToldPowers;") ∈ lw_all := lw_g (lw_at lw_m2 68 rfl) rfl
theorem q410 : (Jvm.Cond.lays "ToldPowers$Reader" "ToldPowers$Reader" "at" "I") ∈ lw_all := lw_g (lw_at lw_m2 69 rfl) rfl
theorem q411 : (Jvm.Cond.soleField "ToldPowers$Reader" "at") ∈ lw_all := lw_g (lw_at lw_m2 70 rfl) rfl
theorem q412 : (Jvm.Cond.lays "ToldPowers$Reader" "ToldPowers$Reader" "from" "I") ∈ lw_all := lw_g (lw_at lw_m2 71 rfl) rfl
theorem q413 : (Jvm.Cond.soleField "ToldPowers$Reader" "from") ∈ lw_all := lw_g (lw_at lw_m2 72 rfl) rfl
theorem q414 : (Jvm.Cond.lays "ToldPowers$Reader" "ToldPowers$Reader" "open" "I") ∈ lw_all := lw_g (lw_at lw_m2 73 rfl) rfl
theorem q415 : (Jvm.Cond.soleField "ToldPowers$Reader" "open") ∈ lw_all := lw_g (lw_at lw_m2 74 rfl) rfl
theorem q416 : (Jvm.Cond.laysFinal "ToldPowers$Reader" "ToldPowers$Reader" "this$0" "LToldPowers;") ∈ lw_all := lw_g (lw_at lw_m2 75 rfl) rfl
theorem q417 : (Jvm.Cond.soleField "ToldPowers$Reader" "this$0") ∈ lw_all := lw_g (lw_at lw_m2 76 rfl) rfl
theorem q418 : (Jvm.Cond.superclass "ToldPowers$Reader" "java/lang/Object") ∈ lw_all := lw_g (lw_at lw_m2 77 rfl) rfl
theorem q420 : (Jvm.Cond.instanceMethod ({ cls := "ToldPowers$Reader", name := "form", desc := "()LToldPowers$Form;" } : Jvm.MethodName)) ∈ lw_all := lw_g (lw_at lw_m2 79 rfl) rfl
theorem q421 : (Jvm.Cond.selects "ToldPowers$Reader" ({ cls := "ToldPowers$Reader", name := "form", desc := "()LToldPowers$Form;" } : Jvm.MethodName) ({ cls := "ToldPowers$Reader", name := "form", desc := "()LToldPowers$Form;" } : Jvm.MethodName)) ∈ lw_all := lw_g (lw_at lw_m2 80 rfl) rfl
theorem q422 : (Jvm.Cond.codeWith ({ cls := "ToldPowers$Reader", name := "form", desc := "()LToldPowers$Form;" } : Jvm.MethodName) prog_19_method_13_code (5 : Nat) (Option.some (Jvm.ClassFile.FieldType.object "ToldPowers$Form")) [((10 : Nat), (49 : Nat), (52 : Nat), (41 : Nat))]) ∈ lw_all := lw_g (lw_at lw_m2 81 rfl) rfl
theorem q423 : (Jvm.Cond.classLink "ToldPowers$Reader" (41 : Nat) "ToldPowers$Wrong") ∈ lw_all := lw_g (lw_at lw_m2 82 rfl) rfl
theorem q424 : (Jvm.Cond.classLink "ToldPowers$Reader" (92 : Nat) "java/util/ArrayList") ∈ lw_all := lw_g (lw_at lw_m2 83 rfl) rfl
theorem q426 : (Jvm.Cond.methodLink "ToldPowers$Reader" (94 : Nat) ({ cls := "java/util/ArrayList", name := "<init>", desc := "()V" } : Jvm.MethodName)) ∈ lw_all := lw_g (lw_at lw_m2 85 rfl) rfl
theorem q450 : (Jvm.Cond.methodLink "ToldPowers$Reader" (95 : Nat) ({ cls := "ToldPowers$Reader", name := "term", desc := "(I)LToldPowers$Term;" } : Jvm.MethodName)) ∈ lw_all := lw_g (lw_at lw_m2 109 rfl) rfl
theorem q451 : (Jvm.Cond.privateMethod ({ cls := "ToldPowers$Reader", name := "term", desc := "(I)LToldPowers$Term;" } : Jvm.MethodName)) ∈ lw_tbl := lw_at lw_m2 110 rfl
theorem q452 : (Jvm.Cond.instanceMethod ({ cls := "ToldPowers$Reader", name := "term", desc := "(I)LToldPowers$Term;" } : Jvm.MethodName)) ∈ lw_all := lw_g (lw_at lw_m2 111 rfl) rfl
theorem q453 : (Jvm.Cond.code ({ cls := "ToldPowers$Reader", name := "term", desc := "(I)LToldPowers$Term;" } : Jvm.MethodName) prog_19_method_15_code (8 : Nat) (Option.some (Jvm.ClassFile.FieldType.object "ToldPowers$Term"))) ∈ lw_all := lw_g (lw_at lw_m2 112 rfl) rfl
theorem q454 : (Jvm.Cond.methodLink "ToldPowers$Reader" (82 : Nat) ({ cls := "ToldPowers$Reader", name := "isDigit", desc := "()Z" } : Jvm.MethodName)) ∈ lw_all := lw_g (lw_at lw_m2 113 rfl) rfl
theorem q455 : (Jvm.Cond.privateMethod ({ cls := "ToldPowers$Reader", name := "isDigit", desc := "()Z" } : Jvm.MethodName)) ∈ lw_tbl := lw_at lw_m2 114 rfl
theorem q456 : (Jvm.Cond.instanceMethod ({ cls := "ToldPowers$Reader", name := "isDigit", desc := "()Z" } : Jvm.MethodName)) ∈ lw_all := lw_g (lw_at lw_m2 115 rfl) rfl
theorem q457 : (Jvm.Cond.code ({ cls := "ToldPowers$Reader", name := "isDigit", desc := "()Z" } : Jvm.MethodName) prog_19_method_5_code (1 : Nat) (Option.some Jvm.ClassFile.FieldType.boolean)) ∈ lw_all := lw_g (lw_at lw_m2 116 rfl) rfl
theorem q458 : (Jvm.Cond.constantLong "ToldPowers$Reader" (33 : Nat) (48 : Int64)) ∈ lw_all := lw_g (lw_at lw_m2 117 rfl) rfl
theorem q459 : (Jvm.Cond.constantLong "ToldPowers$Reader" (35 : Nat) (57 : Int64)) ∈ lw_all := lw_g (lw_at lw_m2 118 rfl) rfl
theorem q460 : (Jvm.Cond.methodLinkNest "ToldPowers$Reader" (37 : Nat) ({ cls := "ToldPowers", name := "isIn", desc := "(JJJ)Z" } : Jvm.MethodName) "ToldPowers") ∈ lw_tbl := lw_at lw_m2 119 rfl
theorem q461 : (Jvm.Cond.methodLink "ToldPowers$Reader" (132 : Nat) ({ cls := "ToldPowers$Reader", name := "kind", desc := "()I" } : Jvm.MethodName)) ∈ lw_all := lw_g (lw_at lw_m2 120 rfl) rfl
theorem q462 : (Jvm.Cond.privateMethod ({ cls := "ToldPowers$Reader", name := "kind", desc := "()I" } : Jvm.MethodName)) ∈ lw_tbl := lw_at lw_m2 121 rfl
theorem q463 : (Jvm.Cond.instanceMethod ({ cls := "ToldPowers$Reader", name := "kind", desc := "()I" } : Jvm.MethodName)) ∈ lw_all := lw_g (lw_at lw_m2 122 rfl) rfl
theorem q464 : (Jvm.Cond.code ({ cls := "ToldPowers$Reader", name := "kind", desc := "()I" } : Jvm.MethodName) prog_19_method_14_code (3 : Nat) (Option.some Jvm.ClassFile.FieldType.int)) ∈ lw_all := lw_g (lw_at lw_m2 123 rfl) rfl
theorem q465 : (Jvm.Cond.methodLink "ToldPowers$Reader" (64 : Nat) ({ cls := "ToldPowers$Reader", name := "seen", desc := "()Ljava/lang/String;" } : Jvm.MethodName)) ∈ lw_all := lw_g (lw_at lw_m2 124 rfl) rfl
theorem q466 : (Jvm.Cond.privateMethod ({ cls := "ToldPowers$Reader", name := "seen", desc := "()Ljava/lang/String;" } : Jvm.MethodName)) ∈ lw_tbl := lw_at lw_m2 125 rfl
theorem q467 : (Jvm.Cond.instanceMethod ({ cls := "ToldPowers$Reader", name := "seen", desc := "()Ljava/lang/String;" } : Jvm.MethodName)) ∈ lw_all := lw_g (lw_at lw_m2 126 rfl) rfl
theorem q468 : (Jvm.Cond.code ({ cls := "ToldPowers$Reader", name := "seen", desc := "()Ljava/lang/String;" } : Jvm.MethodName) prog_19_method_7_code (3 : Nat) (Option.some (Jvm.ClassFile.FieldType.object "java/lang/String"))) ∈ lw_all := lw_g (lw_at lw_m2 127 rfl) rfl
theorem q469 : (Jvm.Cond.classLink "ToldPowers$Reader" (46 : Nat) "java/lang/StringBuilder") ∈ lw_all := lw_g (lw_at lw_m2 128 rfl) rfl
theorem q471 : (Jvm.Cond.methodLink "ToldPowers$Reader" (48 : Nat) ({ cls := "java/lang/StringBuilder", name := "<init>", desc := "()V" } : Jvm.MethodName)) ∈ lw_all := lw_g (lw_at lw_m2 130 rfl) rfl
theorem q500 : (Jvm.Cond.constantLong "ToldPowers$Reader" (49 : Nat) (97 : Int64)) ∈ lw_all := lw_g (lw_at lw_m2 159 rfl) rfl
theorem q501 : (Jvm.Cond.constantLong "ToldPowers$Reader" (51 : Nat) (122 : Int64)) ∈ lw_all := lw_g (lw_at lw_m2 160 rfl) rfl
theorem q502 : (Jvm.Cond.methodLink "ToldPowers$Reader" (53 : Nat) ({ cls := "java/lang/StringBuilder", name := "length", desc := "()I" } : Jvm.MethodName)) ∈ lw_all := lw_g (lw_at lw_m2 161 rfl) rfl
theorem q509 : (Jvm.Cond.methodLink "ToldPowers$Reader" (56 : Nat) ({ cls := "java/lang/StringBuilder", name := "append", desc := "(C)Ljava/lang/StringBuilder;" } : Jvm.MethodName)) ∈ lw_all := lw_g (lw_at lw_m2 168 rfl) rfl
theorem q602 : (Jvm.Cond.methodLink "ToldPowers$Reader" (60 : Nat) ({ cls := "java/lang/StringBuilder", name := "toString", desc := "()Ljava/lang/String;" } : Jvm.MethodName)) ∈ lw_all := lw_g (lw_at lw_m3 21 rfl) rfl
theorem q651 : (Jvm.Cond.methodLink "ToldPowers$Reader" (67 : Nat) ({ cls := "java/lang/String", name := "equals", desc := "(Ljava/lang/Object;)Z" } : Jvm.MethodName)) ∈ lw_all := lw_g (lw_at lw_m3 70 rfl) rfl
theorem q659 : (Jvm.Cond.methodLink "ToldPowers$Reader" (78 : Nat) ({ cls := "ToldPowers$Reader", name := "must", desc := "(ZII)V" } : Jvm.MethodName)) ∈ lw_all := lw_g (lw_at lw_m3 78 rfl) rfl
theorem q660 : (Jvm.Cond.privateMethod ({ cls := "ToldPowers$Reader", name := "must", desc := "(ZII)V" } : Jvm.MethodName)) ∈ lw_tbl := lw_at lw_m3 79 rfl
theorem q661 : (Jvm.Cond.instanceMethod ({ cls := "ToldPowers$Reader", name := "must", desc := "(ZII)V" } : Jvm.MethodName)) ∈ lw_all := lw_g (lw_at lw_m3 80 rfl) rfl
theorem q662 : (Jvm.Cond.code ({ cls := "ToldPowers$Reader", name := "must", desc := "(ZII)V" } : Jvm.MethodName) prog_19_method_6_code (4 : Nat) (Option.none : Option Jvm.ClassFile.FieldType)) ∈ lw_all := lw_g (lw_at lw_m3 81 rfl) rfl
theorem q671 : (Jvm.Cond.methodLink "ToldPowers$Reader" (43 : Nat) ({ cls := "ToldPowers$Wrong", name := "<init>", desc := "(II)V" } : Jvm.MethodName)) ∈ lw_all := lw_g (lw_at lw_m3 90 rfl) rfl
theorem q690 : (Jvm.Cond.methodLink "ToldPowers$Reader" (89 : Nat) ({ cls := "ToldPowers$Reader", name := "number", desc := "()I" } : Jvm.MethodName)) ∈ lw_all := lw_g (lw_at lw_m3 109 rfl) rfl
theorem q691 : (Jvm.Cond.privateMethod ({ cls := "ToldPowers$Reader", name := "number", desc := "()I" } : Jvm.MethodName)) ∈ lw_tbl := lw_at lw_m3 110 rfl
theorem q692 : (Jvm.Cond.instanceMethod ({ cls := "ToldPowers$Reader", name := "number", desc := "()I" } : Jvm.MethodName)) ∈ lw_all := lw_g (lw_at lw_m3 111 rfl) rfl
theorem q693 : (Jvm.Cond.code ({ cls := "ToldPowers$Reader", name := "number", desc := "()I" } : Jvm.MethodName) prog_19_method_11_code (2 : Nat) (Option.some Jvm.ClassFile.FieldType.int)) ∈ lw_all := lw_g (lw_at lw_m3 112 rfl) rfl
theorem q694 : (Jvm.Cond.constantLong "ToldPowers$Reader" (135 : Nat) (99 : Int64)) ∈ lw_all := lw_g (lw_at lw_m3 113 rfl) rfl
theorem q695 : (Jvm.Cond.methodLink "ToldPowers$Reader" (73 : Nat) ({ cls := "java/lang/String", name := "length", desc := "()I" } : Jvm.MethodName)) ∈ lw_all := lw_g (lw_at lw_m3 114 rfl) rfl
theorem q703 : (Jvm.Cond.classLink "ToldPowers$Reader" (117 : Nat) "ToldPowers$Term") ∈ lw_all := lw_g (lw_at lw_m3 122 rfl) rfl
theorem q705 : (Jvm.Cond.methodLink "ToldPowers$Reader" (141 : Nat) ({ cls := "ToldPowers$Term", name := "<init>", desc := "(ILToldPowers$Kind;II)V" } : Jvm.MethodName)) ∈ lw_all := lw_g (lw_at lw_m3 124 rfl) rfl
theorem q713 : (Jvm.Cond.fieldLinkNest "ToldPowers$Reader" (214 : Nat) "ToldPowers$Term" "low" "I" "ToldPowers") ∈ lw_tbl := lw_at lw_m3 132 rfl
theorem q716 : (Jvm.Cond.fieldLinkNest "ToldPowers$Reader" (217 : Nat) "ToldPowers$Term" "high" "I" "ToldPowers") ∈ lw_tbl := lw_at lw_m3 135 rfl
theorem q728 : (Jvm.Cond.stringRef "ToldPowers$Reader" (144 : Nat) "from") ∈ lw_tbl := lw_at lw_m3 147 rfl
theorem q729 : (Jvm.Cond.methodLink "ToldPowers$Reader" (145 : Nat) ({ cls := "ToldPowers$Reader", name := "passes", desc := "(Ljava/lang/String;)Z" } : Jvm.MethodName)) ∈ lw_all := lw_g (lw_at lw_m3 148 rfl) rfl
theorem q730 : (Jvm.Cond.privateMethod ({ cls := "ToldPowers$Reader", name := "passes", desc := "(Ljava/lang/String;)Z" } : Jvm.MethodName)) ∈ lw_tbl := lw_at lw_m3 149 rfl
theorem q731 : (Jvm.Cond.instanceMethod ({ cls := "ToldPowers$Reader", name := "passes", desc := "(Ljava/lang/String;)Z" } : Jvm.MethodName)) ∈ lw_all := lw_g (lw_at lw_m3 150 rfl) rfl
theorem q732 : (Jvm.Cond.code ({ cls := "ToldPowers$Reader", name := "passes", desc := "(Ljava/lang/String;)Z" } : Jvm.MethodName) prog_19_method_8_code (2 : Nat) (Option.some Jvm.ClassFile.FieldType.boolean)) ∈ lw_all := lw_g (lw_at lw_m3 151 rfl) rfl
theorem q733 : (Jvm.Cond.methodLink "ToldPowers$Reader" (148 : Nat) ({ cls := "ToldPowers$Reader", name := "highest", desc := "(LToldPowers$Term;)I" } : Jvm.MethodName)) ∈ lw_all := lw_g (lw_at lw_m3 152 rfl) rfl
theorem q734 : (Jvm.Cond.privateMethod ({ cls := "ToldPowers$Reader", name := "highest", desc := "(LToldPowers$Term;)I" } : Jvm.MethodName)) ∈ lw_tbl := lw_at lw_m3 153 rfl
theorem q735 : (Jvm.Cond.instanceMethod ({ cls := "ToldPowers$Reader", name := "highest", desc := "(LToldPowers$Term;)I" } : Jvm.MethodName)) ∈ lw_all := lw_g (lw_at lw_m3 154 rfl) rfl
theorem q736 : (Jvm.Cond.code ({ cls := "ToldPowers$Reader", name := "highest", desc := "(LToldPowers$Term;)I" } : Jvm.MethodName) prog_19_method_16_code (3 : Nat) (Option.some Jvm.ClassFile.FieldType.int)) ∈ lw_all := lw_g (lw_at lw_m3 155 rfl) rfl
theorem q737 : (Jvm.Cond.methodLink "ToldPowers$Reader" (155 : Nat) ({ cls := "ToldPowers$Term", name := "value", desc := "(J)J" } : Jvm.MethodName)) ∈ lw_all := lw_g (lw_at lw_m3 156 rfl) rfl
theorem q760 : (Jvm.Cond.constantLong "ToldPowers$Reader" (161 : Nat) (3000 : Int64)) ∈ lw_all := lw_g (lw_at lw_m3 179 rfl) rfl
theorem q761 : (Jvm.Cond.methodLink "ToldPowers$Reader" (152 : Nat) ({ cls := "ToldPowers$Reader", name := "whole", desc := "()I" } : Jvm.MethodName)) ∈ lw_all := lw_g (lw_at lw_m3 180 rfl) rfl
theorem q762 : (Jvm.Cond.privateMethod ({ cls := "ToldPowers$Reader", name := "whole", desc := "()I" } : Jvm.MethodName)) ∈ lw_tbl := lw_at lw_m3 181 rfl
theorem q763 : (Jvm.Cond.instanceMethod ({ cls := "ToldPowers$Reader", name := "whole", desc := "()I" } : Jvm.MethodName)) ∈ lw_all := lw_g (lw_at lw_m3 182 rfl) rfl
theorem q764 : (Jvm.Cond.code ({ cls := "ToldPowers$Reader", name := "whole", desc := "()I" } : Jvm.MethodName) prog_19_method_12_code (1 : Nat) (Option.some Jvm.ClassFile.FieldType.int)) ∈ lw_all := lw_g (lw_at lw_m3 183 rfl) rfl
theorem q765 : (Jvm.Cond.methodLink "ToldPowers$Reader" (74 : Nat) ({ cls := "ToldPowers$Reader", name := "passes", desc := "(C)Z" } : Jvm.MethodName)) ∈ lw_all := lw_g (lw_at lw_m3 184 rfl) rfl
theorem q766 : (Jvm.Cond.privateMethod ({ cls := "ToldPowers$Reader", name := "passes", desc := "(C)Z" } : Jvm.MethodName)) ∈ lw_tbl := lw_at lw_m3 185 rfl
theorem q767 : (Jvm.Cond.instanceMethod ({ cls := "ToldPowers$Reader", name := "passes", desc := "(C)Z" } : Jvm.MethodName)) ∈ lw_all := lw_g (lw_at lw_m3 186 rfl) rfl
theorem q768 : (Jvm.Cond.code ({ cls := "ToldPowers$Reader", name := "passes", desc := "(C)Z" } : Jvm.MethodName) prog_19_method_9_code (2 : Nat) (Option.some Jvm.ClassFile.FieldType.boolean)) ∈ lw_all := lw_g (lw_at lw_m3 187 rfl) rfl
theorem q769 : (Jvm.Cond.constantLong "ToldPowers$Reader" (159 : Nat) (-3000 : Int64)) ∈ lw_all := lw_g (lw_at lw_m3 188 rfl) rfl
theorem q770 : (Jvm.Cond.stringRef "ToldPowers$Reader" (163 : Nat) "to") ∈ lw_tbl := lw_at lw_m3 189 rfl
theorem q771 : (Jvm.Cond.methodLink "ToldPowers$Reader" (99 : Nat) ({ cls := "java/util/ArrayList", name := "add", desc := "(Ljava/lang/Object;)Z" } : Jvm.MethodName)) ∈ lw_all := lw_g (lw_at lw_m3 190 rfl) rfl
theorem q811 : (Jvm.Cond.selects "ToldPowers$Reader" ({ cls := "java/lang/Object", name := "getClass", desc := "()Ljava/lang/Class;" } : Jvm.MethodName) ({ cls := "java/lang/Object", name := "getClass", desc := "()Ljava/lang/Class;" } : Jvm.MethodName)) ∈ lw_all := lw_g (lw_at lw_m3 230 rfl) rfl
theorem q834 : (Jvm.Cond.methodLink "ToldPowers$Reader" (102 : Nat) ({ cls := "ToldPowers$Reader", name := "isOver", desc := "()Z" } : Jvm.MethodName)) ∈ lw_all := lw_g (lw_at lw_m4 13 rfl) rfl
theorem q835 : (Jvm.Cond.privateMethod ({ cls := "ToldPowers$Reader", name := "isOver", desc := "()Z" } : Jvm.MethodName)) ∈ lw_tbl := lw_at lw_m4 14 rfl
theorem q836 : (Jvm.Cond.instanceMethod ({ cls := "ToldPowers$Reader", name := "isOver", desc := "()Z" } : Jvm.MethodName)) ∈ lw_all := lw_g (lw_at lw_m4 15 rfl) rfl
theorem q837 : (Jvm.Cond.code ({ cls := "ToldPowers$Reader", name := "isOver", desc := "()Z" } : Jvm.MethodName) prog_19_method_4_code (1 : Nat) (Option.some Jvm.ClassFile.FieldType.boolean)) ∈ lw_all := lw_g (lw_at lw_m4 16 rfl) rfl
theorem q838 : (Jvm.Cond.methodLink "ToldPowers$Reader" (105 : Nat) ({ cls := "ToldPowers$Reader", name := "asks", desc := "(C)V" } : Jvm.MethodName)) ∈ lw_all := lw_g (lw_at lw_m4 17 rfl) rfl
theorem q839 : (Jvm.Cond.privateMethod ({ cls := "ToldPowers$Reader", name := "asks", desc := "(C)V" } : Jvm.MethodName)) ∈ lw_tbl := lw_at lw_m4 18 rfl
theorem q840 : (Jvm.Cond.instanceMethod ({ cls := "ToldPowers$Reader", name := "asks", desc := "(C)V" } : Jvm.MethodName)) ∈ lw_all := lw_g (lw_at lw_m4 19 rfl) rfl
theorem q841 : (Jvm.Cond.code ({ cls := "ToldPowers$Reader", name := "asks", desc := "(C)V" } : Jvm.MethodName) prog_19_method_10_code (2 : Nat) (Option.none : Option Jvm.ClassFile.FieldType)) ∈ lw_all := lw_g (lw_at lw_m4 20 rfl) rfl
theorem q842 : (Jvm.Cond.classLink "ToldPowers$Reader" (109 : Nat) "ToldPowers$Outer") ∈ lw_all := lw_g (lw_at lw_m4 21 rfl) rfl
theorem q851 : (Jvm.Cond.methodLink "ToldPowers$Reader" (111 : Nat) ({ cls := "ToldPowers$Outer", name := "<init>", desc := "(ILjava/lang/Exception;)V" } : Jvm.MethodName)) ∈ lw_all := lw_g (lw_at lw_m4 30 rfl) rfl
theorem q861 : (Jvm.Cond.methodLink "ToldPowers$Reader" (114 : Nat) ({ cls := "java/util/ArrayList", name := "size", desc := "()I" } : Jvm.MethodName)) ∈ lw_all := lw_g (lw_at lw_m4 40 rfl) rfl
theorem q866 : (Jvm.Cond.methodLink "ToldPowers$Reader" (119 : Nat) ({ cls := "java/util/ArrayList", name := "get", desc := "(I)Ljava/lang/Object;" } : Jvm.MethodName)) ∈ lw_all := lw_g (lw_at lw_m4 45 rfl) rfl
theorem q878 : (Jvm.Cond.classLink "ToldPowers$Reader" (123 : Nat) "ToldPowers$Form") ∈ lw_all := lw_g (lw_at lw_m4 57 rfl) rfl
theorem q880 : (Jvm.Cond.methodLink "ToldPowers$Reader" (125 : Nat) ({ cls := "ToldPowers$Form", name := "<init>", desc := "([LToldPowers$Term;)V" } : Jvm.MethodName)) ∈ lw_all := lw_g (lw_at lw_m4 59 rfl) rfl
theorem q886 : (Jvm.Cond.fieldLinkNest "ToldPowers$Reader" (210 : Nat) "ToldPowers$Form" "terms" "[LToldPowers$Term;" "ToldPowers") ∈ lw_tbl := lw_at lw_m4 65 rfl
theorem q928 : (Jvm.Cond.instanceMethod ({ cls := "ToldPowers$Reader", name := "proof", desc := "(LToldPowers$Form;)I" } : Jvm.MethodName)) ∈ lw_all := lw_g (lw_at lw_m4 107 rfl) rfl
theorem q929 : (Jvm.Cond.selects "ToldPowers$Reader" ({ cls := "ToldPowers$Reader", name := "proof", desc := "(LToldPowers$Form;)I" } : Jvm.MethodName) ({ cls := "ToldPowers$Reader", name := "proof", desc := "(LToldPowers$Form;)I" } : Jvm.MethodName)) ∈ lw_all := lw_g (lw_at lw_m4 108 rfl) rfl
theorem q930 : (Jvm.Cond.codeWith ({ cls := "ToldPowers$Reader", name := "proof", desc := "(LToldPowers$Form;)I" } : Jvm.MethodName) prog_19_method_17_code (5 : Nat) (Option.some Jvm.ClassFile.FieldType.int) [((24 : Nat), (67 : Nat), (70 : Nat), (41 : Nat)), ((24 : Nat), (67 : Nat), (70 : Nat), (177 : Nat))]) ∈ lw_all := lw_g (lw_at lw_m4 109 rfl) rfl
theorem q931 : (Jvm.Cond.classLink "ToldPowers$Reader" (177 : Nat) "ToldPowers$Inner") ∈ lw_all := lw_g (lw_at lw_m4 110 rfl) rfl
theorem q932 : (Jvm.Cond.classLink "ToldPowers$Reader" (165 : Nat) "java/util/TreeMap") ∈ lw_all := lw_g (lw_at lw_m4 111 rfl) rfl
theorem q934 : (Jvm.Cond.classLink "ToldPowers$Reader" (167 : Nat) "ToldPowers$Falling") ∈ lw_all := lw_g (lw_at lw_m4 113 rfl) rfl
theorem q936 : (Jvm.Cond.methodLinkNest "ToldPowers$Reader" (169 : Nat) ({ cls := "ToldPowers$Falling", name := "<init>", desc := "()V" } : Jvm.MethodName) "ToldPowers") ∈ lw_tbl := lw_at lw_m4 115 rfl
theorem q941 : (Jvm.Cond.methodLink "ToldPowers$Reader" (170 : Nat) ({ cls := "java/util/TreeMap", name := "<init>", desc := "(Ljava/util/Comparator;)V" } : Jvm.MethodName)) ∈ lw_all := lw_g (lw_at lw_m4 120 rfl) rfl
theorem q971 : (Jvm.Cond.methodLink "ToldPowers$Reader" (173 : Nat) ({ cls := "ToldPowers$Reader", name := "line", desc := "(LToldPowers$Form;Ljava/util/TreeMap;I)V" } : Jvm.MethodName)) ∈ lw_all := lw_g (lw_at lw_m4 150 rfl) rfl
theorem q972 : (Jvm.Cond.privateMethod ({ cls := "ToldPowers$Reader", name := "line", desc := "(LToldPowers$Form;Ljava/util/TreeMap;I)V" } : Jvm.MethodName)) ∈ lw_tbl := lw_at lw_m4 151 rfl
theorem q973 : (Jvm.Cond.instanceMethod ({ cls := "ToldPowers$Reader", name := "line", desc := "(LToldPowers$Form;Ljava/util/TreeMap;I)V" } : Jvm.MethodName)) ∈ lw_all := lw_g (lw_at lw_m4 152 rfl) rfl
theorem q974 : (Jvm.Cond.codeWith ({ cls := "ToldPowers$Reader", name := "line", desc := "(LToldPowers$Form;Ljava/util/TreeMap;I)V" } : Jvm.MethodName) prog_19_method_18_code (10 : Nat) (Option.none : Option Jvm.ClassFile.FieldType) [((131 : Nat), (143 : Nat), (146 : Nat), (41 : Nat))]) ∈ lw_all := lw_g (lw_at lw_m4 153 rfl) rfl
theorem q975 : (Jvm.Cond.methodLinkNest "ToldPowers$Reader" (179 : Nat) ({ cls := "ToldPowers", name := "isNumber", desc := "(I)Z" } : Jvm.MethodName) "ToldPowers") ∈ lw_tbl := lw_at lw_m4 154 rfl
theorem q980 : (Jvm.Cond.methodLink "ToldPowers$Reader" (183 : Nat) ({ cls := "java/lang/Integer", name := "valueOf", desc := "(I)Ljava/lang/Integer;" } : Jvm.MethodName)) ∈ lw_all := lw_g (lw_at lw_m4 159 rfl) rfl
theorem q1000 : (Jvm.Cond.methodLink "ToldPowers$Reader" (189 : Nat) ({ cls := "java/util/TreeMap", name := "containsKey", desc := "(Ljava/lang/Object;)Z" } : Jvm.MethodName)) ∈ lw_all := lw_g (lw_at lw_m4 179 rfl) rfl
theorem q1295 : (Jvm.Cond.methodLink "ToldPowers$Reader" (192 : Nat) ({ cls := "java/util/TreeMap", name := "put", desc := "(Ljava/lang/Object;Ljava/lang/Object;)Ljava/lang/Object;" } : Jvm.MethodName)) ∈ lw_all := lw_g (lw_at lw_m5 234 rfl) rfl
theorem q1371 : (Jvm.Cond.stringRef "ToldPowers$Reader" (196 : Nat) "not") ∈ lw_tbl := lw_at lw_m6 70 rfl
theorem q1372 : (Jvm.Cond.methodLinkNest "ToldPowers$Reader" (198 : Nat) ({ cls := "ToldPowers", name := "waysOf", desc := "(LToldPowers$Form;I)J" } : Jvm.MethodName) "ToldPowers") ∈ lw_tbl := lw_at lw_m6 71 rfl
theorem q1388 : (Jvm.Cond.methodLink "ToldPowers$Reader" (202 : Nat) ({ cls := "ToldPowers$Reader", name := "value", desc := "(LToldPowers$Form;I)J" } : Jvm.MethodName)) ∈ lw_all := lw_g (lw_at lw_m6 87 rfl) rfl
theorem q1389 : (Jvm.Cond.privateMethod ({ cls := "ToldPowers$Reader", name := "value", desc := "(LToldPowers$Form;I)J" } : Jvm.MethodName)) ∈ lw_tbl := lw_at lw_m6 88 rfl
theorem q1390 : (Jvm.Cond.instanceMethod ({ cls := "ToldPowers$Reader", name := "value", desc := "(LToldPowers$Form;I)J" } : Jvm.MethodName)) ∈ lw_all := lw_g (lw_at lw_m6 89 rfl) rfl
theorem q1391 : (Jvm.Cond.code ({ cls := "ToldPowers$Reader", name := "value", desc := "(LToldPowers$Form;I)J" } : Jvm.MethodName) prog_19_method_19_code (5 : Nat) (Option.some Jvm.ClassFile.FieldType.long)) ∈ lw_all := lw_g (lw_at lw_m6 90 rfl) rfl
theorem q1392 : (Jvm.Cond.methodLink "ToldPowers$Reader" (207 : Nat) ({ cls := "ToldPowers$Form", name := "many", desc := "()I" } : Jvm.MethodName)) ∈ lw_all := lw_g (lw_at lw_m6 91 rfl) rfl
theorem q1401 : (Jvm.Cond.methodLink "ToldPowers$Reader" (204 : Nat) ({ cls := "ToldPowers$Inner", name := "<init>", desc := "(ILToldPowers$Wrong;)V" } : Jvm.MethodName)) ∈ lw_all := lw_g (lw_at lw_m6 100 rfl) rfl
theorem q1416 : (Jvm.Cond.instanceMethod ({ cls := "ToldPowers$Reader", name := "identity", desc := "()V" } : Jvm.MethodName)) ∈ lw_all := lw_g (lw_at lw_m6 115 rfl) rfl
theorem q1417 : (Jvm.Cond.selects "ToldPowers$Reader" ({ cls := "ToldPowers$Reader", name := "identity", desc := "()V" } : Jvm.MethodName) ({ cls := "ToldPowers$Reader", name := "identity", desc := "()V" } : Jvm.MethodName)) ∈ lw_all := lw_g (lw_at lw_m6 116 rfl) rfl
theorem q1418 : (Jvm.Cond.codeWith ({ cls := "ToldPowers$Reader", name := "identity", desc := "()V" } : Jvm.MethodName) prog_19_method_20_code (5 : Nat) (Option.none : Option Jvm.ClassFile.FieldType) [((15 : Nat), (52 : Nat), (55 : Nat), (41 : Nat))]) ∈ lw_all := lw_g (lw_at lw_m6 117 rfl) rfl
theorem q1419 : (Jvm.Cond.classLink "ToldPowers$Reader" (220 : Nat) "ToldPowers$Sum") ∈ lw_all := lw_g (lw_at lw_m6 118 rfl) rfl
theorem q1421 : (Jvm.Cond.classLink "ToldPowers$Reader" (222 : Nat) "ToldPowers$ReadParts") ∈ lw_all := lw_g (lw_at lw_m6 120 rfl) rfl
theorem q1423 : (Jvm.Cond.methodLinkNest "ToldPowers$Reader" (224 : Nat) ({ cls := "ToldPowers$ReadParts", name := "<init>", desc := "()V" } : Jvm.MethodName) "ToldPowers") ∈ lw_tbl := lw_at lw_m6 122 rfl
theorem q1427 : (Jvm.Cond.fieldLinkNest "ToldPowers$Reader" (243 : Nat) "ToldPowers$ReadParts" "many" "I" "ToldPowers") ∈ lw_tbl := lw_at lw_m6 126 rfl
theorem q1428 : (Jvm.Cond.fieldLinkNest "ToldPowers$Reader" (239 : Nat) "ToldPowers$ReadParts" "letters" "I" "ToldPowers") ∈ lw_tbl := lw_at lw_m6 127 rfl
theorem q1434 : (Jvm.Cond.methodLink "ToldPowers$Reader" (225 : Nat) ({ cls := "ToldPowers$Reader", name := "sum", desc := "(LToldPowers$ReadParts;)LToldPowers$Sum;" } : Jvm.MethodName)) ∈ lw_all := lw_g (lw_at lw_m6 133 rfl) rfl
theorem q1435 : (Jvm.Cond.privateMethod ({ cls := "ToldPowers$Reader", name := "sum", desc := "(LToldPowers$ReadParts;)LToldPowers$Sum;" } : Jvm.MethodName)) ∈ lw_tbl := lw_at lw_m6 134 rfl
theorem q1436 : (Jvm.Cond.instanceMethod ({ cls := "ToldPowers$Reader", name := "sum", desc := "(LToldPowers$ReadParts;)LToldPowers$Sum;" } : Jvm.MethodName)) ∈ lw_all := lw_g (lw_at lw_m6 135 rfl) rfl
theorem q1437 : (Jvm.Cond.code ({ cls := "ToldPowers$Reader", name := "sum", desc := "(LToldPowers$ReadParts;)LToldPowers$Sum;" } : Jvm.MethodName) prog_19_method_21_code (4 : Nat) (Option.some (Jvm.ClassFile.FieldType.object "ToldPowers$Sum"))) ∈ lw_all := lw_g (lw_at lw_m6 136 rfl) rfl
theorem q1438 : (Jvm.Cond.methodLink "ToldPowers$Reader" (248 : Nat) ({ cls := "ToldPowers$Reader", name := "product", desc := "(LToldPowers$ReadParts;)LToldPowers$Sum;" } : Jvm.MethodName)) ∈ lw_all := lw_g (lw_at lw_m6 137 rfl) rfl
theorem q1439 : (Jvm.Cond.privateMethod ({ cls := "ToldPowers$Reader", name := "product", desc := "(LToldPowers$ReadParts;)LToldPowers$Sum;" } : Jvm.MethodName)) ∈ lw_tbl := lw_at lw_m6 138 rfl
theorem q1440 : (Jvm.Cond.instanceMethod ({ cls := "ToldPowers$Reader", name := "product", desc := "(LToldPowers$ReadParts;)LToldPowers$Sum;" } : Jvm.MethodName)) ∈ lw_all := lw_g (lw_at lw_m6 139 rfl) rfl
theorem q1441 : (Jvm.Cond.code ({ cls := "ToldPowers$Reader", name := "product", desc := "(LToldPowers$ReadParts;)LToldPowers$Sum;" } : Jvm.MethodName) prog_19_method_22_code (3 : Nat) (Option.some (Jvm.ClassFile.FieldType.object "ToldPowers$Sum"))) ∈ lw_all := lw_g (lw_at lw_m6 140 rfl) rfl
theorem q1442 : (Jvm.Cond.methodLink "ToldPowers$Reader" (255 : Nat) ({ cls := "ToldPowers$Reader", name := "raised", desc := "(LToldPowers$ReadParts;)LToldPowers$Sum;" } : Jvm.MethodName)) ∈ lw_all := lw_g (lw_at lw_m6 141 rfl) rfl
theorem q1443 : (Jvm.Cond.privateMethod ({ cls := "ToldPowers$Reader", name := "raised", desc := "(LToldPowers$ReadParts;)LToldPowers$Sum;" } : Jvm.MethodName)) ∈ lw_tbl := lw_at lw_m6 142 rfl
theorem q1444 : (Jvm.Cond.instanceMethod ({ cls := "ToldPowers$Reader", name := "raised", desc := "(LToldPowers$ReadParts;)LToldPowers$Sum;" } : Jvm.MethodName)) ∈ lw_all := lw_g (lw_at lw_m6 143 rfl) rfl
theorem q1445 : (Jvm.Cond.code ({ cls := "ToldPowers$Reader", name := "raised", desc := "(LToldPowers$ReadParts;)LToldPowers$Sum;" } : Jvm.MethodName) prog_19_method_23_code (4 : Nat) (Option.some (Jvm.ClassFile.FieldType.object "ToldPowers$Sum"))) ∈ lw_all := lw_g (lw_at lw_m6 144 rfl) rfl
theorem q1446 : (Jvm.Cond.methodLink "ToldPowers$Reader" (258 : Nat) ({ cls := "ToldPowers$Reader", name := "part", desc := "(LToldPowers$ReadParts;)LToldPowers$Sum;" } : Jvm.MethodName)) ∈ lw_all := lw_g (lw_at lw_m6 145 rfl) rfl
theorem q1447 : (Jvm.Cond.privateMethod ({ cls := "ToldPowers$Reader", name := "part", desc := "(LToldPowers$ReadParts;)LToldPowers$Sum;" } : Jvm.MethodName)) ∈ lw_tbl := lw_at lw_m6 146 rfl
theorem q1448 : (Jvm.Cond.instanceMethod ({ cls := "ToldPowers$Reader", name := "part", desc := "(LToldPowers$ReadParts;)LToldPowers$Sum;" } : Jvm.MethodName)) ∈ lw_all := lw_g (lw_at lw_m6 147 rfl) rfl
theorem q1449 : (Jvm.Cond.code ({ cls := "ToldPowers$Reader", name := "part", desc := "(LToldPowers$ReadParts;)LToldPowers$Sum;" } : Jvm.MethodName) prog_19_method_24_code (6 : Nat) (Option.some (Jvm.ClassFile.FieldType.object "ToldPowers$Sum"))) ∈ lw_all := lw_g (lw_at lw_m6 148 rfl) rfl
theorem q1450 : (Jvm.Cond.methodLink "ToldPowers$Reader" (265 : Nat) ({ cls := "java/lang/String", name := "charAt", desc := "(I)C" } : Jvm.MethodName)) ∈ lw_all := lw_g (lw_at lw_m6 149 rfl) rfl
theorem q1465 : (Jvm.Cond.constantLong "ToldPowers$Reader" (269 : Nat) (102 : Int64)) ∈ lw_all := lw_g (lw_at lw_m6 164 rfl) rfl
theorem q1466 : (Jvm.Cond.methodLinkNest "ToldPowers$Reader" (271 : Nat) ({ cls := "ToldPowers", name := "plain", desc := "(J)LToldPowers$Sum;" } : Jvm.MethodName) "ToldPowers") ∈ lw_tbl := lw_at lw_m6 165 rfl
theorem q1482 : (Jvm.Cond.methodLinkNest "ToldPowers$Reader" (275 : Nat) ({ cls := "ToldPowers", name := "letter", desc := "(I)LToldPowers$Sum;" } : Jvm.MethodName) "ToldPowers") ∈ lw_tbl := lw_at lw_m6 181 rfl
theorem q1495 : (Jvm.Cond.methodLinkNest "ToldPowers$Reader" (261 : Nat) ({ cls := "ToldPowers", name := "power", desc := "(LToldPowers$Sum;I)LToldPowers$Sum;" } : Jvm.MethodName) "ToldPowers") ∈ lw_tbl := lw_at lw_m6 194 rfl
theorem q1511 : (Jvm.Cond.methodLinkNest "ToldPowers$Reader" (251 : Nat) ({ cls := "ToldPowers", name := "both", desc := "(ILToldPowers$Sum;LToldPowers$Sum;)LToldPowers$Sum;" } : Jvm.MethodName) "ToldPowers") ∈ lw_tbl := lw_at lw_m6 210 rfl
theorem q2564 : (Jvm.Cond.castable "ToldPowers$Reader" "java/lang/Object") ∈ lw_tbl := lw_at lw_m11 63 rfl

/-! ToldPowers$Wrong -/
set_option maxRecDepth 100000
abbrev cX3_init : ByteArray := prog_22_method_1_code
def yX3_init : MethodName := ⟨RX3, "<init>", "(II)V"⟩
def dkwX3_init_0 : List UInt8 := [42, 1, 1, 3, 3, 183, 0, 1, 42, 27, 181, 0, 7, 42, 28, 181, 0, 13, 177]
abbrev dktX3_init_0 : List UInt8 := dkwX3_init_0 ++ []
theorem dksX3_init_0 : cX3_init.data.toList.drop 0 = dktX3_init_0 := by decide +kernel
theorem dX3_init_0 : decode cX3_init 0 = .ok (.aload_n 0, 1) := dk_42 (dk_at dksX3_init_0 0 rfl rfl)
theorem dX3_init_1 : decode cX3_init 1 = .ok (.aconst_null, 1) := dk_1 (dk_at dksX3_init_0 1 rfl rfl)
theorem dX3_init_2 : decode cX3_init 2 = .ok (.aconst_null, 1) := dk_1 (dk_at dksX3_init_0 2 rfl rfl)
theorem dX3_init_3 : decode cX3_init 3 = .ok (.iconst 0, 1) := dk_3 (dk_at dksX3_init_0 3 rfl rfl)
theorem dX3_init_4 : decode cX3_init 4 = .ok (.iconst 0, 1) := dk_3 (dk_at dksX3_init_0 4 rfl rfl)
theorem dX3_init_5 : decode cX3_init 5 = .ok (.invokespecial 1, 3) := dk_183 0 1 (dk_at dksX3_init_0 5 rfl rfl)
theorem dX3_init_8 : decode cX3_init 8 = .ok (.aload_n 0, 1) := dk_42 (dk_at dksX3_init_0 8 rfl rfl)
theorem dX3_init_9 : decode cX3_init 9 = .ok (.iload_n 1, 1) := dk_27 (dk_at dksX3_init_0 9 rfl rfl)
theorem dX3_init_10 : decode cX3_init 10 = .ok (.putfield 7, 3) := dk_181 0 7 (dk_at dksX3_init_0 10 rfl rfl)
theorem dX3_init_13 : decode cX3_init 13 = .ok (.aload_n 0, 1) := dk_42 (dk_at dksX3_init_0 13 rfl rfl)
theorem dX3_init_14 : decode cX3_init 14 = .ok (.iload_n 2, 1) := dk_28 (dk_at dksX3_init_0 14 rfl rfl)
theorem dX3_init_15 : decode cX3_init 15 = .ok (.putfield 13, 3) := dk_181 0 13 (dk_at dksX3_init_0 15 rfl rfl)
theorem dX3_init_18 : decode cX3_init 18 = .ok (.return_, 1) := dk_177 (dk_at dksX3_init_0 18 rfl rfl)
theorem q125 : (Jvm.Cond.initialized "ToldPowers$Wrong") ∈ lw_all := lw_g (lw_at lw_m1 24 rfl) rfl
theorem q166 : (Jvm.Cond.selects "ToldPowers$Wrong" ({ cls := "java/lang/Throwable", name := "getCause", desc := "()Ljava/lang/Throwable;" } : Jvm.MethodName) ({ cls := "java/lang/Throwable", name := "getCause", desc := "()Ljava/lang/Throwable;" } : Jvm.MethodName)) ∈ lw_all := lw_g (lw_at lw_m1 65 rfl) rfl
theorem q308 : (Jvm.Cond.selects "ToldPowers$Wrong" ({ cls := "java/lang/Throwable", name := "fillInStackTrace", desc := "()Ljava/lang/Throwable;" } : Jvm.MethodName) ({ cls := "java/lang/Throwable", name := "fillInStackTrace", desc := "()Ljava/lang/Throwable;" } : Jvm.MethodName)) ∈ lw_all := lw_g (lw_at lw_m1 207 rfl) rfl
theorem q663 : (Jvm.Cond.instantiable "ToldPowers$Wrong" (8 : Nat)) ∈ lw_all := lw_g (lw_at lw_m3 82 rfl) rfl
theorem q664 : (Jvm.Cond.castable "ToldPowers$Wrong" "ToldPowers$Wrong") ∈ lw_tbl := lw_at lw_m3 83 rfl
theorem q665 : (Jvm.Cond.selects "ToldPowers$Wrong" ({ cls := "java/lang/Throwable", name := "fillInStackTrace", desc := "(I)Ljava/lang/Throwable;" } : Jvm.MethodName) ({ cls := "java/lang/Throwable", name := "fillInStackTrace", desc := "(I)Ljava/lang/Throwable;" } : Jvm.MethodName)) ∈ lw_all := lw_g (lw_at lw_m3 84 rfl) rfl
theorem q666 : (Jvm.Cond.lays "ToldPowers$Wrong" "java/lang/Throwable" "cause" "Ljava/lang/Throwable;") ∈ lw_all := lw_g (lw_at lw_m3 85 rfl) rfl
theorem q667 : (Jvm.Cond.lays "ToldPowers$Wrong" "java/lang/Throwable" "stackTrace" "[Ljava/lang/StackTraceElement;") ∈ lw_all := lw_g (lw_at lw_m3 86 rfl) rfl
theorem q668 : (Jvm.Cond.lays "ToldPowers$Wrong" "java/lang/Throwable" "suppressedExceptions" "Ljava/util/List;") ∈ lw_all := lw_g (lw_at lw_m3 87 rfl) rfl
theorem q669 : (Jvm.Cond.lays "ToldPowers$Wrong" "java/lang/Throwable" "detailMessage" "Ljava/lang/String;") ∈ lw_all := lw_g (lw_at lw_m3 88 rfl) rfl
theorem q670 : (Jvm.Cond.lays "ToldPowers$Wrong" "java/lang/Throwable" "backtrace" "Ljava/lang/Object;") ∈ lw_all := lw_g (lw_at lw_m3 89 rfl) rfl
theorem q672 : (Jvm.Cond.instanceMethod ({ cls := "ToldPowers$Wrong", name := "<init>", desc := "(II)V" } : Jvm.MethodName)) ∈ lw_all := lw_g (lw_at lw_m3 91 rfl) rfl
theorem q673 : (Jvm.Cond.code ({ cls := "ToldPowers$Wrong", name := "<init>", desc := "(II)V" } : Jvm.MethodName) prog_22_method_1_code (3 : Nat) (Option.none : Option Jvm.ClassFile.FieldType)) ∈ lw_all := lw_g (lw_at lw_m3 92 rfl) rfl
theorem q674 : (Jvm.Cond.methodLink "ToldPowers$Wrong" (1 : Nat) ({ cls := "java/lang/Exception", name := "<init>", desc := "(Ljava/lang/String;Ljava/lang/Throwable;ZZ)V" } : Jvm.MethodName)) ∈ lw_all := lw_g (lw_at lw_m3 93 rfl) rfl
theorem q680 : (Jvm.Cond.fieldLink "ToldPowers$Wrong" (7 : Nat) "ToldPowers$Wrong" "kind" "I") ∈ lw_all := lw_g (lw_at lw_m3 99 rfl) rfl
theorem q682 : (Jvm.Cond.fieldLink "ToldPowers$Wrong" (13 : Nat) "ToldPowers$Wrong" "place" "I") ∈ lw_all := lw_g (lw_at lw_m3 101 rfl) rfl
theorem q684 : (Jvm.Cond.laysFinal "ToldPowers$Wrong" "ToldPowers$Wrong" "kind" "I") ∈ lw_all := lw_g (lw_at lw_m3 103 rfl) rfl
theorem q685 : (Jvm.Cond.soleField "ToldPowers$Wrong" "kind") ∈ lw_all := lw_g (lw_at lw_m3 104 rfl) rfl
theorem q686 : (Jvm.Cond.laysFinal "ToldPowers$Wrong" "ToldPowers$Wrong" "place" "I") ∈ lw_all := lw_g (lw_at lw_m3 105 rfl) rfl
theorem q687 : (Jvm.Cond.soleField "ToldPowers$Wrong" "place") ∈ lw_all := lw_g (lw_at lw_m3 106 rfl) rfl
theorem q688 : (Jvm.Cond.lays "ToldPowers$Wrong" "java/lang/Throwable" "depth" "I") ∈ lw_all := lw_g (lw_at lw_m3 107 rfl) rfl
theorem q689 : (Jvm.Cond.superclass "ToldPowers$Wrong" "java/lang/Exception") ∈ lw_all := lw_g (lw_at lw_m3 108 rfl) rfl
theorem q813 : (Jvm.Cond.selects "ToldPowers$Wrong" ({ cls := "java/lang/Object", name := "getClass", desc := "()Ljava/lang/Class;" } : Jvm.MethodName) ({ cls := "java/lang/Object", name := "getClass", desc := "()Ljava/lang/Class;" } : Jvm.MethodName)) ∈ lw_all := lw_g (lw_at lw_m3 232 rfl) rfl
theorem q2567 : (Jvm.Cond.castable "ToldPowers$Wrong" "java/lang/Object") ∈ lw_tbl := lw_at lw_m11 66 rfl

/-! ToldPowers$Outer -/
set_option maxRecDepth 100000
abbrev cX5_init : ByteArray := prog_16_method_1_code
def yX5_init : MethodName := ⟨RX5, "<init>", "(ILjava/lang/Exception;)V"⟩
def dkwX5_init_0 : List UInt8 := [42, 1, 44, 3, 3, 183, 0, 1, 42, 27, 181, 0, 7, 177]
abbrev dktX5_init_0 : List UInt8 := dkwX5_init_0 ++ []
theorem dksX5_init_0 : cX5_init.data.toList.drop 0 = dktX5_init_0 := by decide +kernel
theorem dX5_init_0 : decode cX5_init 0 = .ok (.aload_n 0, 1) := dk_42 (dk_at dksX5_init_0 0 rfl rfl)
theorem dX5_init_1 : decode cX5_init 1 = .ok (.aconst_null, 1) := dk_1 (dk_at dksX5_init_0 1 rfl rfl)
theorem dX5_init_2 : decode cX5_init 2 = .ok (.aload_n 2, 1) := dk_44 (dk_at dksX5_init_0 2 rfl rfl)
theorem dX5_init_3 : decode cX5_init 3 = .ok (.iconst 0, 1) := dk_3 (dk_at dksX5_init_0 3 rfl rfl)
theorem dX5_init_4 : decode cX5_init 4 = .ok (.iconst 0, 1) := dk_3 (dk_at dksX5_init_0 4 rfl rfl)
theorem dX5_init_5 : decode cX5_init 5 = .ok (.invokespecial 1, 3) := dk_183 0 1 (dk_at dksX5_init_0 5 rfl rfl)
theorem dX5_init_8 : decode cX5_init 8 = .ok (.aload_n 0, 1) := dk_42 (dk_at dksX5_init_0 8 rfl rfl)
theorem dX5_init_9 : decode cX5_init 9 = .ok (.iload_n 1, 1) := dk_27 (dk_at dksX5_init_0 9 rfl rfl)
theorem dX5_init_10 : decode cX5_init 10 = .ok (.putfield 7, 3) := dk_181 0 7 (dk_at dksX5_init_0 10 rfl rfl)
theorem dX5_init_13 : decode cX5_init 13 = .ok (.return_, 1) := dk_177 (dk_at dksX5_init_0 13 rfl rfl)
theorem q127 : (Jvm.Cond.initialized "ToldPowers$Outer") ∈ lw_all := lw_g (lw_at lw_m1 26 rfl) rfl
theorem q165 : (Jvm.Cond.selects "ToldPowers$Outer" ({ cls := "java/lang/Throwable", name := "getCause", desc := "()Ljava/lang/Throwable;" } : Jvm.MethodName) ({ cls := "java/lang/Throwable", name := "getCause", desc := "()Ljava/lang/Throwable;" } : Jvm.MethodName)) ∈ lw_all := lw_g (lw_at lw_m1 64 rfl) rfl
theorem q172 : (Jvm.Cond.sameMethod "ToldPowers$Outer" "java/lang/Throwable" "getCause" "()Ljava/lang/Throwable;") ∈ lw_all := lw_g (lw_at lw_m1 71 rfl) rfl
theorem q174 : (Jvm.Cond.selects "ToldPowers$Outer" ({ cls := "ToldPowers$Outer", name := "getCause", desc := "()Ljava/lang/Throwable;" } : Jvm.MethodName) ({ cls := "java/lang/Throwable", name := "getCause", desc := "()Ljava/lang/Throwable;" } : Jvm.MethodName)) ∈ lw_all := lw_g (lw_at lw_m1 73 rfl) rfl
theorem q307 : (Jvm.Cond.selects "ToldPowers$Outer" ({ cls := "java/lang/Throwable", name := "fillInStackTrace", desc := "()Ljava/lang/Throwable;" } : Jvm.MethodName) ({ cls := "java/lang/Throwable", name := "fillInStackTrace", desc := "()Ljava/lang/Throwable;" } : Jvm.MethodName)) ∈ lw_all := lw_g (lw_at lw_m1 206 rfl) rfl
theorem q808 : (Jvm.Cond.selects "ToldPowers$Outer" ({ cls := "java/lang/Object", name := "getClass", desc := "()Ljava/lang/Class;" } : Jvm.MethodName) ({ cls := "java/lang/Object", name := "getClass", desc := "()Ljava/lang/Class;" } : Jvm.MethodName)) ∈ lw_all := lw_g (lw_at lw_m3 227 rfl) rfl
theorem q843 : (Jvm.Cond.instantiable "ToldPowers$Outer" (7 : Nat)) ∈ lw_all := lw_g (lw_at lw_m4 22 rfl) rfl
theorem q844 : (Jvm.Cond.castable "ToldPowers$Outer" "ToldPowers$Outer") ∈ lw_tbl := lw_at lw_m4 23 rfl
theorem q845 : (Jvm.Cond.selects "ToldPowers$Outer" ({ cls := "java/lang/Throwable", name := "fillInStackTrace", desc := "(I)Ljava/lang/Throwable;" } : Jvm.MethodName) ({ cls := "java/lang/Throwable", name := "fillInStackTrace", desc := "(I)Ljava/lang/Throwable;" } : Jvm.MethodName)) ∈ lw_all := lw_g (lw_at lw_m4 24 rfl) rfl
theorem q846 : (Jvm.Cond.lays "ToldPowers$Outer" "java/lang/Throwable" "cause" "Ljava/lang/Throwable;") ∈ lw_all := lw_g (lw_at lw_m4 25 rfl) rfl
theorem q847 : (Jvm.Cond.lays "ToldPowers$Outer" "java/lang/Throwable" "stackTrace" "[Ljava/lang/StackTraceElement;") ∈ lw_all := lw_g (lw_at lw_m4 26 rfl) rfl
theorem q848 : (Jvm.Cond.lays "ToldPowers$Outer" "java/lang/Throwable" "suppressedExceptions" "Ljava/util/List;") ∈ lw_all := lw_g (lw_at lw_m4 27 rfl) rfl
theorem q849 : (Jvm.Cond.lays "ToldPowers$Outer" "java/lang/Throwable" "detailMessage" "Ljava/lang/String;") ∈ lw_all := lw_g (lw_at lw_m4 28 rfl) rfl
theorem q850 : (Jvm.Cond.lays "ToldPowers$Outer" "java/lang/Throwable" "backtrace" "Ljava/lang/Object;") ∈ lw_all := lw_g (lw_at lw_m4 29 rfl) rfl
theorem q852 : (Jvm.Cond.instanceMethod ({ cls := "ToldPowers$Outer", name := "<init>", desc := "(ILjava/lang/Exception;)V" } : Jvm.MethodName)) ∈ lw_all := lw_g (lw_at lw_m4 31 rfl) rfl
theorem q853 : (Jvm.Cond.code ({ cls := "ToldPowers$Outer", name := "<init>", desc := "(ILjava/lang/Exception;)V" } : Jvm.MethodName) prog_16_method_1_code (3 : Nat) (Option.none : Option Jvm.ClassFile.FieldType)) ∈ lw_all := lw_g (lw_at lw_m4 32 rfl) rfl
theorem q854 : (Jvm.Cond.methodLink "ToldPowers$Outer" (1 : Nat) ({ cls := "java/lang/Exception", name := "<init>", desc := "(Ljava/lang/String;Ljava/lang/Throwable;ZZ)V" } : Jvm.MethodName)) ∈ lw_all := lw_g (lw_at lw_m4 33 rfl) rfl
theorem q855 : (Jvm.Cond.fieldLink "ToldPowers$Outer" (7 : Nat) "ToldPowers$Outer" "which" "I") ∈ lw_all := lw_g (lw_at lw_m4 34 rfl) rfl
theorem q857 : (Jvm.Cond.laysFinal "ToldPowers$Outer" "ToldPowers$Outer" "which" "I") ∈ lw_all := lw_g (lw_at lw_m4 36 rfl) rfl
theorem q858 : (Jvm.Cond.soleField "ToldPowers$Outer" "which") ∈ lw_all := lw_g (lw_at lw_m4 37 rfl) rfl
theorem q859 : (Jvm.Cond.lays "ToldPowers$Outer" "java/lang/Throwable" "depth" "I") ∈ lw_all := lw_g (lw_at lw_m4 38 rfl) rfl
theorem q860 : (Jvm.Cond.superclass "ToldPowers$Outer" "java/lang/Exception") ∈ lw_all := lw_g (lw_at lw_m4 39 rfl) rfl
theorem q2568 : (Jvm.Cond.castable "ToldPowers$Outer" "java/lang/Object") ∈ lw_tbl := lw_at lw_m11 67 rfl

/-! ToldPowers$Form -/
set_option maxRecDepth 100000
abbrev cX6_init : ByteArray := prog_7_method_1_code
def yX6_init : MethodName := ⟨RX6, "<init>", "([LToldPowers$Term;)V"⟩
def dkwX6_init_0 : List UInt8 := [42, 183, 0, 1, 42, 43, 181, 0, 7, 177]
abbrev dktX6_init_0 : List UInt8 := dkwX6_init_0 ++ []
theorem dksX6_init_0 : cX6_init.data.toList.drop 0 = dktX6_init_0 := by decide +kernel
theorem dX6_init_0 : decode cX6_init 0 = .ok (.aload_n 0, 1) := dk_42 (dk_at dksX6_init_0 0 rfl rfl)
theorem dX6_init_1 : decode cX6_init 1 = .ok (.invokespecial 1, 3) := dk_183 0 1 (dk_at dksX6_init_0 1 rfl rfl)
theorem dX6_init_4 : decode cX6_init 4 = .ok (.aload_n 0, 1) := dk_42 (dk_at dksX6_init_0 4 rfl rfl)
theorem dX6_init_5 : decode cX6_init 5 = .ok (.aload_n 1, 1) := dk_43 (dk_at dksX6_init_0 5 rfl rfl)
theorem dX6_init_6 : decode cX6_init 6 = .ok (.putfield 7, 3) := dk_181 0 7 (dk_at dksX6_init_0 6 rfl rfl)
theorem dX6_init_9 : decode cX6_init 9 = .ok (.return_, 1) := dk_177 (dk_at dksX6_init_0 9 rfl rfl)
abbrev cX6_many : ByteArray := prog_7_method_2_code
def yX6_many : MethodName := ⟨RX6, "many", "()I"⟩
def dkwX6_many_0 : List UInt8 := [42, 180, 0, 7, 190, 172]
abbrev dktX6_many_0 : List UInt8 := dkwX6_many_0 ++ []
theorem dksX6_many_0 : cX6_many.data.toList.drop 0 = dktX6_many_0 := by decide +kernel
theorem dX6_many_0 : decode cX6_many 0 = .ok (.aload_n 0, 1) := dk_42 (dk_at dksX6_many_0 0 rfl rfl)
theorem dX6_many_1 : decode cX6_many 1 = .ok (.getfield 7, 3) := dk_180 0 7 (dk_at dksX6_many_0 1 rfl rfl)
theorem dX6_many_4 : decode cX6_many 4 = .ok (.arraylength, 1) := dk_190 (dk_at dksX6_many_0 4 rfl rfl)
theorem dX6_many_5 : decode cX6_many 5 = .ok (.ireturn, 1) := dk_172 (dk_at dksX6_many_0 5 rfl rfl)
theorem q129 : (Jvm.Cond.initialized "ToldPowers$Form") ∈ lw_all := lw_g (lw_at lw_m1 28 rfl) rfl
theorem q800 : (Jvm.Cond.selects "ToldPowers$Form" ({ cls := "java/lang/Object", name := "getClass", desc := "()Ljava/lang/Class;" } : Jvm.MethodName) ({ cls := "java/lang/Object", name := "getClass", desc := "()Ljava/lang/Class;" } : Jvm.MethodName)) ∈ lw_all := lw_g (lw_at lw_m3 219 rfl) rfl
theorem q879 : (Jvm.Cond.instantiable "ToldPowers$Form" (1 : Nat)) ∈ lw_all := lw_g (lw_at lw_m4 58 rfl) rfl
theorem q881 : (Jvm.Cond.instanceMethod ({ cls := "ToldPowers$Form", name := "<init>", desc := "([LToldPowers$Term;)V" } : Jvm.MethodName)) ∈ lw_all := lw_g (lw_at lw_m4 60 rfl) rfl
theorem q882 : (Jvm.Cond.code ({ cls := "ToldPowers$Form", name := "<init>", desc := "([LToldPowers$Term;)V" } : Jvm.MethodName) prog_7_method_1_code (2 : Nat) (Option.none : Option Jvm.ClassFile.FieldType)) ∈ lw_all := lw_g (lw_at lw_m4 61 rfl) rfl
theorem q883 : (Jvm.Cond.methodLink "ToldPowers$Form" (1 : Nat) ({ cls := "java/lang/Object", name := "<init>", desc := "()V" } : Jvm.MethodName)) ∈ lw_all := lw_g (lw_at lw_m4 62 rfl) rfl
theorem q884 : (Jvm.Cond.fieldLink "ToldPowers$Form" (7 : Nat) "ToldPowers$Form" "terms" "[LToldPowers$Term;") ∈ lw_all := lw_g (lw_at lw_m4 63 rfl) rfl
theorem q887 : (Jvm.Cond.laysFinal "ToldPowers$Form" "ToldPowers$Form" "terms" "[LToldPowers$Term;") ∈ lw_all := lw_g (lw_at lw_m4 66 rfl) rfl
theorem q888 : (Jvm.Cond.soleField "ToldPowers$Form" "terms") ∈ lw_all := lw_g (lw_at lw_m4 67 rfl) rfl
theorem q889 : (Jvm.Cond.superclass "ToldPowers$Form" "java/lang/Object") ∈ lw_all := lw_g (lw_at lw_m4 68 rfl) rfl
theorem q891 : (Jvm.Cond.instanceMethod ({ cls := "ToldPowers$Form", name := "many", desc := "()I" } : Jvm.MethodName)) ∈ lw_all := lw_g (lw_at lw_m4 70 rfl) rfl
theorem q892 : (Jvm.Cond.selects "ToldPowers$Form" ({ cls := "ToldPowers$Form", name := "many", desc := "()I" } : Jvm.MethodName) ({ cls := "ToldPowers$Form", name := "many", desc := "()I" } : Jvm.MethodName)) ∈ lw_all := lw_g (lw_at lw_m4 71 rfl) rfl
theorem q893 : (Jvm.Cond.code ({ cls := "ToldPowers$Form", name := "many", desc := "()I" } : Jvm.MethodName) prog_7_method_2_code (1 : Nat) (Option.some Jvm.ClassFile.FieldType.int)) ∈ lw_all := lw_g (lw_at lw_m4 72 rfl) rfl
theorem q2553 : (Jvm.Cond.castable "ToldPowers$Form" "java/lang/Object") ∈ lw_tbl := lw_at lw_m11 52 rfl

/-! ToldPowers$Inner -/
set_option maxRecDepth 100000
abbrev cX8_init : ByteArray := prog_8_method_1_code
def yX8_init : MethodName := ⟨RX8, "<init>", "(ILToldPowers$Wrong;)V"⟩
def dkwX8_init_0 : List UInt8 := [42, 1, 44, 3, 3, 183, 0, 1, 42, 27, 181, 0, 7, 177]
abbrev dktX8_init_0 : List UInt8 := dkwX8_init_0 ++ []
theorem dksX8_init_0 : cX8_init.data.toList.drop 0 = dktX8_init_0 := by decide +kernel
theorem dX8_init_0 : decode cX8_init 0 = .ok (.aload_n 0, 1) := dk_42 (dk_at dksX8_init_0 0 rfl rfl)
theorem dX8_init_1 : decode cX8_init 1 = .ok (.aconst_null, 1) := dk_1 (dk_at dksX8_init_0 1 rfl rfl)
theorem dX8_init_2 : decode cX8_init 2 = .ok (.aload_n 2, 1) := dk_44 (dk_at dksX8_init_0 2 rfl rfl)
theorem dX8_init_3 : decode cX8_init 3 = .ok (.iconst 0, 1) := dk_3 (dk_at dksX8_init_0 3 rfl rfl)
theorem dX8_init_4 : decode cX8_init 4 = .ok (.iconst 0, 1) := dk_3 (dk_at dksX8_init_0 4 rfl rfl)
theorem dX8_init_5 : decode cX8_init 5 = .ok (.invokespecial 1, 3) := dk_183 0 1 (dk_at dksX8_init_0 5 rfl rfl)
theorem dX8_init_8 : decode cX8_init 8 = .ok (.aload_n 0, 1) := dk_42 (dk_at dksX8_init_0 8 rfl rfl)
theorem dX8_init_9 : decode cX8_init 9 = .ok (.iload_n 1, 1) := dk_27 (dk_at dksX8_init_0 9 rfl rfl)
theorem dX8_init_10 : decode cX8_init 10 = .ok (.putfield 7, 3) := dk_181 0 7 (dk_at dksX8_init_0 10 rfl rfl)
theorem dX8_init_13 : decode cX8_init 13 = .ok (.return_, 1) := dk_177 (dk_at dksX8_init_0 13 rfl rfl)
theorem q141 : (Jvm.Cond.initialized "ToldPowers$Inner") ∈ lw_all := lw_g (lw_at lw_m1 40 rfl) rfl
theorem q164 : (Jvm.Cond.selects "ToldPowers$Inner" ({ cls := "java/lang/Throwable", name := "getCause", desc := "()Ljava/lang/Throwable;" } : Jvm.MethodName) ({ cls := "java/lang/Throwable", name := "getCause", desc := "()Ljava/lang/Throwable;" } : Jvm.MethodName)) ∈ lw_all := lw_g (lw_at lw_m1 63 rfl) rfl
theorem q306 : (Jvm.Cond.selects "ToldPowers$Inner" ({ cls := "java/lang/Throwable", name := "fillInStackTrace", desc := "()Ljava/lang/Throwable;" } : Jvm.MethodName) ({ cls := "java/lang/Throwable", name := "fillInStackTrace", desc := "()Ljava/lang/Throwable;" } : Jvm.MethodName)) ∈ lw_all := lw_g (lw_at lw_m1 205 rfl) rfl
theorem q801 : (Jvm.Cond.selects "ToldPowers$Inner" ({ cls := "java/lang/Object", name := "getClass", desc := "()Ljava/lang/Class;" } : Jvm.MethodName) ({ cls := "java/lang/Object", name := "getClass", desc := "()Ljava/lang/Class;" } : Jvm.MethodName)) ∈ lw_all := lw_g (lw_at lw_m3 220 rfl) rfl
theorem q1393 : (Jvm.Cond.instantiable "ToldPowers$Inner" (7 : Nat)) ∈ lw_all := lw_g (lw_at lw_m6 92 rfl) rfl
theorem q1394 : (Jvm.Cond.castable "ToldPowers$Inner" "ToldPowers$Inner") ∈ lw_tbl := lw_at lw_m6 93 rfl
theorem q1395 : (Jvm.Cond.selects "ToldPowers$Inner" ({ cls := "java/lang/Throwable", name := "fillInStackTrace", desc := "(I)Ljava/lang/Throwable;" } : Jvm.MethodName) ({ cls := "java/lang/Throwable", name := "fillInStackTrace", desc := "(I)Ljava/lang/Throwable;" } : Jvm.MethodName)) ∈ lw_all := lw_g (lw_at lw_m6 94 rfl) rfl
theorem q1396 : (Jvm.Cond.lays "ToldPowers$Inner" "java/lang/Throwable" "cause" "Ljava/lang/Throwable;") ∈ lw_all := lw_g (lw_at lw_m6 95 rfl) rfl
theorem q1397 : (Jvm.Cond.lays "ToldPowers$Inner" "java/lang/Throwable" "stackTrace" "[Ljava/lang/StackTraceElement;") ∈ lw_all := lw_g (lw_at lw_m6 96 rfl) rfl
theorem q1398 : (Jvm.Cond.lays "ToldPowers$Inner" "java/lang/Throwable" "suppressedExceptions" "Ljava/util/List;") ∈ lw_all := lw_g (lw_at lw_m6 97 rfl) rfl
theorem q1399 : (Jvm.Cond.lays "ToldPowers$Inner" "java/lang/Throwable" "detailMessage" "Ljava/lang/String;") ∈ lw_all := lw_g (lw_at lw_m6 98 rfl) rfl
theorem q1400 : (Jvm.Cond.lays "ToldPowers$Inner" "java/lang/Throwable" "backtrace" "Ljava/lang/Object;") ∈ lw_all := lw_g (lw_at lw_m6 99 rfl) rfl
theorem q1402 : (Jvm.Cond.instanceMethod ({ cls := "ToldPowers$Inner", name := "<init>", desc := "(ILToldPowers$Wrong;)V" } : Jvm.MethodName)) ∈ lw_all := lw_g (lw_at lw_m6 101 rfl) rfl
theorem q1403 : (Jvm.Cond.code ({ cls := "ToldPowers$Inner", name := "<init>", desc := "(ILToldPowers$Wrong;)V" } : Jvm.MethodName) prog_8_method_1_code (3 : Nat) (Option.none : Option Jvm.ClassFile.FieldType)) ∈ lw_all := lw_g (lw_at lw_m6 102 rfl) rfl
theorem q1404 : (Jvm.Cond.methodLink "ToldPowers$Inner" (1 : Nat) ({ cls := "java/lang/Exception", name := "<init>", desc := "(Ljava/lang/String;Ljava/lang/Throwable;ZZ)V" } : Jvm.MethodName)) ∈ lw_all := lw_g (lw_at lw_m6 103 rfl) rfl
theorem q1405 : (Jvm.Cond.fieldLink "ToldPowers$Inner" (7 : Nat) "ToldPowers$Inner" "which" "I") ∈ lw_all := lw_g (lw_at lw_m6 104 rfl) rfl
theorem q1407 : (Jvm.Cond.laysFinal "ToldPowers$Inner" "ToldPowers$Inner" "which" "I") ∈ lw_all := lw_g (lw_at lw_m6 106 rfl) rfl
theorem q1408 : (Jvm.Cond.soleField "ToldPowers$Inner" "which") ∈ lw_all := lw_g (lw_at lw_m6 107 rfl) rfl
theorem q1409 : (Jvm.Cond.lays "ToldPowers$Inner" "java/lang/Throwable" "depth" "I") ∈ lw_all := lw_g (lw_at lw_m6 108 rfl) rfl
theorem q1410 : (Jvm.Cond.superclass "ToldPowers$Inner" "java/lang/Exception") ∈ lw_all := lw_g (lw_at lw_m6 109 rfl) rfl
theorem q2575 : (Jvm.Cond.castable "ToldPowers$Inner" "java/lang/Object") ∈ lw_tbl := lw_at lw_m11 74 rfl

/-! ToldPowers$ReadParts -/
set_option maxRecDepth 100000
abbrev cX9_init : ByteArray := prog_18_method_1_code
def yX9_init : MethodName := ⟨RX9, "<init>", "()V"⟩
theorem dX9_init_0 : decode cX9_init 0 = .ok (.aload_n 0, 1) := by decide +kernel
theorem dX9_init_1 : decode cX9_init 1 = .ok (.invokespecial 1, 3) := by decide +kernel
theorem dX9_init_4 : decode cX9_init 4 = .ok (.return_, 1) := by decide +kernel
theorem q142 : (Jvm.Cond.initialized "ToldPowers$ReadParts") ∈ lw_all := lw_g (lw_at lw_m1 41 rfl) rfl
theorem q810 : (Jvm.Cond.selects "ToldPowers$ReadParts" ({ cls := "java/lang/Object", name := "getClass", desc := "()Ljava/lang/Class;" } : Jvm.MethodName) ({ cls := "java/lang/Object", name := "getClass", desc := "()Ljava/lang/Class;" } : Jvm.MethodName)) ∈ lw_all := lw_g (lw_at lw_m3 229 rfl) rfl
theorem q1422 : (Jvm.Cond.instantiable "ToldPowers$ReadParts" (2 : Nat)) ∈ lw_all := lw_g (lw_at lw_m6 121 rfl) rfl
theorem q1424 : (Jvm.Cond.instanceMethod ({ cls := "ToldPowers$ReadParts", name := "<init>", desc := "()V" } : Jvm.MethodName)) ∈ lw_all := lw_g (lw_at lw_m6 123 rfl) rfl
theorem q1425 : (Jvm.Cond.code ({ cls := "ToldPowers$ReadParts", name := "<init>", desc := "()V" } : Jvm.MethodName) prog_18_method_1_code (1 : Nat) (Option.none : Option Jvm.ClassFile.FieldType)) ∈ lw_all := lw_g (lw_at lw_m6 124 rfl) rfl
theorem q1426 : (Jvm.Cond.methodLink "ToldPowers$ReadParts" (1 : Nat) ({ cls := "java/lang/Object", name := "<init>", desc := "()V" } : Jvm.MethodName)) ∈ lw_all := lw_g (lw_at lw_m6 125 rfl) rfl
theorem q1429 : (Jvm.Cond.lays "ToldPowers$ReadParts" "ToldPowers$ReadParts" "many" "I") ∈ lw_all := lw_g (lw_at lw_m6 128 rfl) rfl
theorem q1430 : (Jvm.Cond.soleField "ToldPowers$ReadParts" "many") ∈ lw_all := lw_g (lw_at lw_m6 129 rfl) rfl
theorem q1431 : (Jvm.Cond.lays "ToldPowers$ReadParts" "ToldPowers$ReadParts" "letters" "I") ∈ lw_all := lw_g (lw_at lw_m6 130 rfl) rfl
theorem q1432 : (Jvm.Cond.soleField "ToldPowers$ReadParts" "letters") ∈ lw_all := lw_g (lw_at lw_m6 131 rfl) rfl
theorem q1433 : (Jvm.Cond.superclass "ToldPowers$ReadParts" "java/lang/Object") ∈ lw_all := lw_g (lw_at lw_m6 132 rfl) rfl
theorem q2576 : (Jvm.Cond.castable "ToldPowers$ReadParts" "java/lang/Object") ∈ lw_tbl := lw_at lw_m11 75 rfl

/-! ToldPowers$Sum -/
set_option maxRecDepth 100000
def RX10 : String := "ToldPowers$Sum"
abbrev cX10_init : ByteArray := prog_20_method_1_code
def yX10_init : MethodName := ⟨RX10, "<init>", "()V"⟩
theorem dX10_init_0 : decode cX10_init 0 = .ok (.aload_n 0, 1) := by decide +kernel
theorem dX10_init_1 : decode cX10_init 1 = .ok (.invokespecial 1, 3) := by decide +kernel
theorem dX10_init_4 : decode cX10_init 4 = .ok (.return_, 1) := by decide +kernel
theorem q143 : (Jvm.Cond.initialized "ToldPowers$Sum") ∈ lw_all := lw_g (lw_at lw_m1 42 rfl) rfl
theorem q1475 : (Jvm.Cond.instanceMethod ({ cls := "ToldPowers$Sum", name := "<init>", desc := "()V" } : Jvm.MethodName)) ∈ lw_all := lw_g (lw_at lw_m6 174 rfl) rfl
theorem q1476 : (Jvm.Cond.code ({ cls := "ToldPowers$Sum", name := "<init>", desc := "()V" } : Jvm.MethodName) prog_20_method_1_code (1 : Nat) (Option.none : Option Jvm.ClassFile.FieldType)) ∈ lw_all := lw_g (lw_at lw_m6 175 rfl) rfl
theorem q1477 : (Jvm.Cond.methodLink "ToldPowers$Sum" (1 : Nat) ({ cls := "java/lang/Object", name := "<init>", desc := "()V" } : Jvm.MethodName)) ∈ lw_all := lw_g (lw_at lw_m6 176 rfl) rfl
theorem q1904 : (Jvm.Cond.declares ({ cls := "ToldPowers$Sum", name := "of", desc := "([I)J" } : Jvm.MethodName)) ∈ lw_tbl := lw_at lw_m8 123 rfl
theorem q1905 : (Jvm.Cond.sameMethod "ToldPowers$Sum" "ToldPowers$Sum" "of" "([I)J") ∈ lw_all := lw_g (lw_at lw_m8 124 rfl) rfl
theorem q2555 : (Jvm.Cond.castable "ToldPowers$Sum" "java/lang/Object") ∈ lw_tbl := lw_at lw_m11 54 rfl

/-! ToldPowers$1 -/
set_option maxRecDepth 100000
abbrev cX11_init : ByteArray := prog_2_method_1_code
def yX11_init : MethodName := ⟨RX11, "<init>", "(J)V"⟩
def dkwX11_init_0 : List UInt8 := [42, 31, 181, 0, 1, 42, 183, 0, 7, 177]
abbrev dktX11_init_0 : List UInt8 := dkwX11_init_0 ++ []
theorem dksX11_init_0 : cX11_init.data.toList.drop 0 = dktX11_init_0 := by decide +kernel
theorem dX11_init_0 : decode cX11_init 0 = .ok (.aload_n 0, 1) := dk_42 (dk_at dksX11_init_0 0 rfl rfl)
theorem dX11_init_1 : decode cX11_init 1 = .ok (.lload_n 1, 1) := dk_31 (dk_at dksX11_init_0 1 rfl rfl)
theorem dX11_init_2 : decode cX11_init 2 = .ok (.putfield 1, 3) := dk_181 0 1 (dk_at dksX11_init_0 2 rfl rfl)
theorem dX11_init_5 : decode cX11_init 5 = .ok (.aload_n 0, 1) := dk_42 (dk_at dksX11_init_0 5 rfl rfl)
theorem dX11_init_6 : decode cX11_init 6 = .ok (.invokespecial 7, 3) := dk_183 0 7 (dk_at dksX11_init_0 6 rfl rfl)
theorem dX11_init_9 : decode cX11_init 9 = .ok (.return_, 1) := dk_177 (dk_at dksX11_init_0 9 rfl rfl)
abbrev cX11_of : ByteArray := prog_2_method_2_code
def yX11_of : MethodName := ⟨RX11, "of", "([I)J"⟩
theorem dX11_of_0 : decode cX11_of 0 = .ok (.aload_n 0, 1) := by decide +kernel
theorem dX11_of_1 : decode cX11_of 1 = .ok (.getfield 1, 3) := by decide +kernel
theorem dX11_of_4 : decode cX11_of 4 = .ok (.lreturn, 1) := by decide +kernel
theorem q144 : (Jvm.Cond.initialized "ToldPowers$1") ∈ lw_all := lw_g (lw_at lw_m1 43 rfl) rfl
theorem q795 : (Jvm.Cond.selects "ToldPowers$1" ({ cls := "java/lang/Object", name := "getClass", desc := "()Ljava/lang/Class;" } : Jvm.MethodName) ({ cls := "java/lang/Object", name := "getClass", desc := "()Ljava/lang/Class;" } : Jvm.MethodName)) ∈ lw_all := lw_g (lw_at lw_m3 214 rfl) rfl
theorem q1470 : (Jvm.Cond.instantiable "ToldPowers$1" (1 : Nat)) ∈ lw_all := lw_g (lw_at lw_m6 169 rfl) rfl
theorem q1472 : (Jvm.Cond.instanceMethod ({ cls := "ToldPowers$1", name := "<init>", desc := "(J)V" } : Jvm.MethodName)) ∈ lw_all := lw_g (lw_at lw_m6 171 rfl) rfl
theorem q1473 : (Jvm.Cond.code ({ cls := "ToldPowers$1", name := "<init>", desc := "(J)V" } : Jvm.MethodName) prog_2_method_1_code (3 : Nat) (Option.none : Option Jvm.ClassFile.FieldType)) ∈ lw_all := lw_g (lw_at lw_m6 172 rfl) rfl
theorem q1474 : (Jvm.Cond.methodLinkNest "ToldPowers$1" (7 : Nat) ({ cls := "ToldPowers$Sum", name := "<init>", desc := "()V" } : Jvm.MethodName) "ToldPowers") ∈ lw_tbl := lw_at lw_m6 173 rfl
theorem q1478 : (Jvm.Cond.fieldLink "ToldPowers$1" (1 : Nat) "ToldPowers$1" "val$v" "J") ∈ lw_all := lw_g (lw_at lw_m6 177 rfl) rfl
theorem q1479 : (Jvm.Cond.laysFinal "ToldPowers$1" "ToldPowers$1" "val$v" "J") ∈ lw_all := lw_g (lw_at lw_m6 178 rfl) rfl
theorem q1480 : (Jvm.Cond.soleField "ToldPowers$1" "val$v") ∈ lw_all := lw_g (lw_at lw_m6 179 rfl) rfl
theorem q1481 : (Jvm.Cond.superclass "ToldPowers$1" "ToldPowers$Sum") ∈ lw_all := lw_g (lw_at lw_m6 180 rfl) rfl
theorem q1906 : (Jvm.Cond.selects "ToldPowers$1" ({ cls := "ToldPowers$Sum", name := "of", desc := "([I)J" } : Jvm.MethodName) ({ cls := "ToldPowers$1", name := "of", desc := "([I)J" } : Jvm.MethodName)) ∈ lw_all := lw_g (lw_at lw_m8 125 rfl) rfl
theorem q1907 : (Jvm.Cond.instanceMethod ({ cls := "ToldPowers$1", name := "of", desc := "([I)J" } : Jvm.MethodName)) ∈ lw_all := lw_g (lw_at lw_m8 126 rfl) rfl
theorem q1908 : (Jvm.Cond.code ({ cls := "ToldPowers$1", name := "of", desc := "([I)J" } : Jvm.MethodName) prog_2_method_2_code (2 : Nat) (Option.some Jvm.ClassFile.FieldType.long)) ∈ lw_all := lw_g (lw_at lw_m8 127 rfl) rfl
theorem q2577 : (Jvm.Cond.castable "ToldPowers$1" "java/lang/Object") ∈ lw_tbl := lw_at lw_m11 76 rfl
theorem q2590 : (Jvm.Cond.castable "ToldPowers$1" "ToldPowers$Sum") ∈ lw_tbl := lw_at lw_m11 89 rfl

/-! ToldPowers$2 -/
set_option maxRecDepth 100000
abbrev cX12_init : ByteArray := prog_3_method_1_code
def yX12_init : MethodName := ⟨RX12, "<init>", "(I)V"⟩
def dkwX12_init_0 : List UInt8 := [42, 27, 181, 0, 1, 42, 183, 0, 7, 177]
abbrev dktX12_init_0 : List UInt8 := dkwX12_init_0 ++ []
theorem dksX12_init_0 : cX12_init.data.toList.drop 0 = dktX12_init_0 := by decide +kernel
theorem dX12_init_0 : decode cX12_init 0 = .ok (.aload_n 0, 1) := dk_42 (dk_at dksX12_init_0 0 rfl rfl)
theorem dX12_init_1 : decode cX12_init 1 = .ok (.iload_n 1, 1) := dk_27 (dk_at dksX12_init_0 1 rfl rfl)
theorem dX12_init_2 : decode cX12_init 2 = .ok (.putfield 1, 3) := dk_181 0 1 (dk_at dksX12_init_0 2 rfl rfl)
theorem dX12_init_5 : decode cX12_init 5 = .ok (.aload_n 0, 1) := dk_42 (dk_at dksX12_init_0 5 rfl rfl)
theorem dX12_init_6 : decode cX12_init 6 = .ok (.invokespecial 7, 3) := dk_183 0 7 (dk_at dksX12_init_0 6 rfl rfl)
theorem dX12_init_9 : decode cX12_init 9 = .ok (.return_, 1) := dk_177 (dk_at dksX12_init_0 9 rfl rfl)
abbrev cX12_of : ByteArray := prog_3_method_2_code
def yX12_of : MethodName := ⟨RX12, "of", "([I)J"⟩
def dkwX12_of_0 : List UInt8 := [43, 42, 180, 0, 1, 46, 133, 173]
abbrev dktX12_of_0 : List UInt8 := dkwX12_of_0 ++ []
theorem dksX12_of_0 : cX12_of.data.toList.drop 0 = dktX12_of_0 := by decide +kernel
theorem dX12_of_0 : decode cX12_of 0 = .ok (.aload_n 1, 1) := dk_43 (dk_at dksX12_of_0 0 rfl rfl)
theorem dX12_of_1 : decode cX12_of 1 = .ok (.aload_n 0, 1) := dk_42 (dk_at dksX12_of_0 1 rfl rfl)
theorem dX12_of_2 : decode cX12_of 2 = .ok (.getfield 1, 3) := dk_180 0 1 (dk_at dksX12_of_0 2 rfl rfl)
theorem dX12_of_5 : decode cX12_of 5 = .ok (.iaload, 1) := dk_46 (dk_at dksX12_of_0 5 rfl rfl)
theorem dX12_of_6 : decode cX12_of 6 = .ok (.i2l, 1) := dk_133 (dk_at dksX12_of_0 6 rfl rfl)
theorem dX12_of_7 : decode cX12_of 7 = .ok (.lreturn, 1) := dk_173 (dk_at dksX12_of_0 7 rfl rfl)
theorem q145 : (Jvm.Cond.initialized "ToldPowers$2") ∈ lw_all := lw_g (lw_at lw_m1 44 rfl) rfl
theorem q796 : (Jvm.Cond.selects "ToldPowers$2" ({ cls := "java/lang/Object", name := "getClass", desc := "()Ljava/lang/Class;" } : Jvm.MethodName) ({ cls := "java/lang/Object", name := "getClass", desc := "()Ljava/lang/Class;" } : Jvm.MethodName)) ∈ lw_all := lw_g (lw_at lw_m3 215 rfl) rfl
theorem q1486 : (Jvm.Cond.instantiable "ToldPowers$2" (1 : Nat)) ∈ lw_all := lw_g (lw_at lw_m6 185 rfl) rfl
theorem q1488 : (Jvm.Cond.instanceMethod ({ cls := "ToldPowers$2", name := "<init>", desc := "(I)V" } : Jvm.MethodName)) ∈ lw_all := lw_g (lw_at lw_m6 187 rfl) rfl
theorem q1489 : (Jvm.Cond.code ({ cls := "ToldPowers$2", name := "<init>", desc := "(I)V" } : Jvm.MethodName) prog_3_method_1_code (2 : Nat) (Option.none : Option Jvm.ClassFile.FieldType)) ∈ lw_all := lw_g (lw_at lw_m6 188 rfl) rfl
theorem q1490 : (Jvm.Cond.methodLinkNest "ToldPowers$2" (7 : Nat) ({ cls := "ToldPowers$Sum", name := "<init>", desc := "()V" } : Jvm.MethodName) "ToldPowers") ∈ lw_tbl := lw_at lw_m6 189 rfl
theorem q1491 : (Jvm.Cond.fieldLink "ToldPowers$2" (1 : Nat) "ToldPowers$2" "val$which" "I") ∈ lw_all := lw_g (lw_at lw_m6 190 rfl) rfl
theorem q1492 : (Jvm.Cond.laysFinal "ToldPowers$2" "ToldPowers$2" "val$which" "I") ∈ lw_all := lw_g (lw_at lw_m6 191 rfl) rfl
theorem q1493 : (Jvm.Cond.soleField "ToldPowers$2" "val$which") ∈ lw_all := lw_g (lw_at lw_m6 192 rfl) rfl
theorem q1494 : (Jvm.Cond.superclass "ToldPowers$2" "ToldPowers$Sum") ∈ lw_all := lw_g (lw_at lw_m6 193 rfl) rfl
theorem q1909 : (Jvm.Cond.selects "ToldPowers$2" ({ cls := "ToldPowers$Sum", name := "of", desc := "([I)J" } : Jvm.MethodName) ({ cls := "ToldPowers$2", name := "of", desc := "([I)J" } : Jvm.MethodName)) ∈ lw_all := lw_g (lw_at lw_m8 128 rfl) rfl
theorem q1910 : (Jvm.Cond.instanceMethod ({ cls := "ToldPowers$2", name := "of", desc := "([I)J" } : Jvm.MethodName)) ∈ lw_all := lw_g (lw_at lw_m8 129 rfl) rfl
theorem q1911 : (Jvm.Cond.code ({ cls := "ToldPowers$2", name := "of", desc := "([I)J" } : Jvm.MethodName) prog_3_method_2_code (2 : Nat) (Option.some Jvm.ClassFile.FieldType.long)) ∈ lw_all := lw_g (lw_at lw_m8 130 rfl) rfl
theorem q2578 : (Jvm.Cond.castable "ToldPowers$2" "java/lang/Object") ∈ lw_tbl := lw_at lw_m11 77 rfl
theorem q2591 : (Jvm.Cond.castable "ToldPowers$2" "ToldPowers$Sum") ∈ lw_tbl := lw_at lw_m11 90 rfl

/-! ToldPowers$4 -/
set_option maxRecDepth 100000
abbrev cX13_init : ByteArray := prog_5_method_1_code
def yX13_init : MethodName := ⟨RX13, "<init>", "(LToldPowers$Sum;I)V"⟩
def dkwX13_init_0 : List UInt8 := [42, 43, 181, 0, 1, 42, 28, 181, 0, 7, 42, 183, 0, 11, 177]
abbrev dktX13_init_0 : List UInt8 := dkwX13_init_0 ++ []
theorem dksX13_init_0 : cX13_init.data.toList.drop 0 = dktX13_init_0 := by decide +kernel
theorem dX13_init_0 : decode cX13_init 0 = .ok (.aload_n 0, 1) := dk_42 (dk_at dksX13_init_0 0 rfl rfl)
theorem dX13_init_1 : decode cX13_init 1 = .ok (.aload_n 1, 1) := dk_43 (dk_at dksX13_init_0 1 rfl rfl)
theorem dX13_init_2 : decode cX13_init 2 = .ok (.putfield 1, 3) := dk_181 0 1 (dk_at dksX13_init_0 2 rfl rfl)
theorem dX13_init_5 : decode cX13_init 5 = .ok (.aload_n 0, 1) := dk_42 (dk_at dksX13_init_0 5 rfl rfl)
theorem dX13_init_6 : decode cX13_init 6 = .ok (.iload_n 2, 1) := dk_28 (dk_at dksX13_init_0 6 rfl rfl)
theorem dX13_init_7 : decode cX13_init 7 = .ok (.putfield 7, 3) := dk_181 0 7 (dk_at dksX13_init_0 7 rfl rfl)
theorem dX13_init_10 : decode cX13_init 10 = .ok (.aload_n 0, 1) := dk_42 (dk_at dksX13_init_0 10 rfl rfl)
theorem dX13_init_11 : decode cX13_init 11 = .ok (.invokespecial 11, 3) := dk_183 0 11 (dk_at dksX13_init_0 11 rfl rfl)
theorem dX13_init_14 : decode cX13_init 14 = .ok (.return_, 1) := dk_177 (dk_at dksX13_init_0 14 rfl rfl)
abbrev cX13_of : ByteArray := prog_5_method_2_code
def yX13_of : MethodName := ⟨RX13, "of", "([I)J"⟩
def dkwX13_of_1 : List UInt8 := [22, 4, 32, 43, 184, 0, 21, 55, 4, 132, 6, 1, 167, 255, 235, 22, 4, 173]
abbrev dktX13_of_1 : List UInt8 := dkwX13_of_1 ++ []
def dkwX13_of_0 : List UInt8 := [42, 180, 0, 1, 43, 182, 0, 17, 65, 10, 55, 4, 3, 54, 6, 21, 6, 42, 180, 0, 7, 162, 0, 18]
abbrev dktX13_of_0 : List UInt8 := dkwX13_of_0 ++ dktX13_of_1
theorem dksX13_of_0 : cX13_of.data.toList.drop 0 = dktX13_of_0 := by decide +kernel
theorem dksX13_of_1 : cX13_of.data.toList.drop 24 = dktX13_of_1 := dk_seg dksX13_of_0 24 rfl rfl
theorem dX13_of_0 : decode cX13_of 0 = .ok (.aload_n 0, 1) := dk_42 (dk_at dksX13_of_0 0 rfl rfl)
theorem dX13_of_1 : decode cX13_of 1 = .ok (.getfield 1, 3) := dk_180 0 1 (dk_at dksX13_of_0 1 rfl rfl)
theorem dX13_of_4 : decode cX13_of 4 = .ok (.aload_n 1, 1) := dk_43 (dk_at dksX13_of_0 4 rfl rfl)
theorem dX13_of_5 : decode cX13_of 5 = .ok (.invokevirtual 17, 3) := dk_182 0 17 (dk_at dksX13_of_0 5 rfl rfl)
theorem dX13_of_8 : decode cX13_of 8 = .ok (.lstore_n 2, 1) := dk_65 (dk_at dksX13_of_0 8 rfl rfl)
theorem dX13_of_9 : decode cX13_of 9 = .ok (.lconst 1, 1) := dk_10 (dk_at dksX13_of_0 9 rfl rfl)
theorem dX13_of_10 : decode cX13_of 10 = .ok (.lstore 4, 2) := dk_55 4 (dk_at dksX13_of_0 10 rfl rfl)
theorem dX13_of_12 : decode cX13_of 12 = .ok (.iconst 0, 1) := dk_3 (dk_at dksX13_of_0 12 rfl rfl)
theorem dX13_of_13 : decode cX13_of 13 = .ok (.istore 6, 2) := dk_54 6 (dk_at dksX13_of_0 13 rfl rfl)
theorem dX13_of_15 : decode cX13_of 15 = .ok (.iload 6, 2) := dk_21 6 (dk_at dksX13_of_0 15 rfl rfl)
theorem dX13_of_17 : decode cX13_of 17 = .ok (.aload_n 0, 1) := dk_42 (dk_at dksX13_of_0 17 rfl rfl)
theorem dX13_of_18 : decode cX13_of 18 = .ok (.getfield 7, 3) := dk_180 0 7 (dk_at dksX13_of_0 18 rfl rfl)
theorem dX13_of_21 : decode cX13_of 21 = .ok (.if_icmp .ge 18, 3) := dk_162 0 18 (dk_at dksX13_of_0 21 rfl rfl)
theorem dX13_of_24 : decode cX13_of 24 = .ok (.lload 4, 2) := dk_22 4 (dk_at dksX13_of_1 0 rfl rfl)
theorem dX13_of_26 : decode cX13_of 26 = .ok (.lload_n 2, 1) := dk_32 (dk_at dksX13_of_1 2 rfl rfl)
theorem dX13_of_27 : decode cX13_of 27 = .ok (.aload_n 1, 1) := dk_43 (dk_at dksX13_of_1 3 rfl rfl)
theorem dX13_of_28 : decode cX13_of 28 = .ok (.invokestatic 21, 3) := dk_184 0 21 (dk_at dksX13_of_1 4 rfl rfl)
theorem dX13_of_31 : decode cX13_of 31 = .ok (.lstore 4, 2) := dk_55 4 (dk_at dksX13_of_1 7 rfl rfl)
theorem dX13_of_33 : decode cX13_of 33 = .ok (.iinc 6 1, 3) := dk_132 6 1 (dk_at dksX13_of_1 9 rfl rfl)
theorem dX13_of_36 : decode cX13_of 36 = .ok (.goto (-21), 3) := dk_167 255 235 (dk_at dksX13_of_1 12 rfl rfl)
theorem dX13_of_39 : decode cX13_of 39 = .ok (.lload 4, 2) := dk_22 4 (dk_at dksX13_of_1 15 rfl rfl)
theorem dX13_of_41 : decode cX13_of 41 = .ok (.lreturn, 1) := dk_173 (dk_at dksX13_of_1 17 rfl rfl)
theorem q146 : (Jvm.Cond.initialized "ToldPowers$4") ∈ lw_all := lw_g (lw_at lw_m1 45 rfl) rfl
theorem q798 : (Jvm.Cond.selects "ToldPowers$4" ({ cls := "java/lang/Object", name := "getClass", desc := "()Ljava/lang/Class;" } : Jvm.MethodName) ({ cls := "java/lang/Object", name := "getClass", desc := "()Ljava/lang/Class;" } : Jvm.MethodName)) ∈ lw_all := lw_g (lw_at lw_m3 217 rfl) rfl
theorem q1499 : (Jvm.Cond.instantiable "ToldPowers$4" (2 : Nat)) ∈ lw_all := lw_g (lw_at lw_m6 198 rfl) rfl
theorem q1501 : (Jvm.Cond.instanceMethod ({ cls := "ToldPowers$4", name := "<init>", desc := "(LToldPowers$Sum;I)V" } : Jvm.MethodName)) ∈ lw_all := lw_g (lw_at lw_m6 200 rfl) rfl
theorem q1502 : (Jvm.Cond.code ({ cls := "ToldPowers$4", name := "<init>", desc := "(LToldPowers$Sum;I)V" } : Jvm.MethodName) prog_5_method_1_code (3 : Nat) (Option.none : Option Jvm.ClassFile.FieldType)) ∈ lw_all := lw_g (lw_at lw_m6 201 rfl) rfl
theorem q1503 : (Jvm.Cond.methodLinkNest "ToldPowers$4" (11 : Nat) ({ cls := "ToldPowers$Sum", name := "<init>", desc := "()V" } : Jvm.MethodName) "ToldPowers") ∈ lw_tbl := lw_at lw_m6 202 rfl
theorem q1504 : (Jvm.Cond.fieldLink "ToldPowers$4" (1 : Nat) "ToldPowers$4" "val$a" "LToldPowers$Sum;") ∈ lw_all := lw_g (lw_at lw_m6 203 rfl) rfl
theorem q1505 : (Jvm.Cond.fieldLink "ToldPowers$4" (7 : Nat) "ToldPowers$4" "val$by" "I") ∈ lw_all := lw_g (lw_at lw_m6 204 rfl) rfl
theorem q1506 : (Jvm.Cond.laysFinal "ToldPowers$4" "ToldPowers$4" "val$a" "LToldPowers$Sum;") ∈ lw_all := lw_g (lw_at lw_m6 205 rfl) rfl
theorem q1507 : (Jvm.Cond.soleField "ToldPowers$4" "val$a") ∈ lw_all := lw_g (lw_at lw_m6 206 rfl) rfl
theorem q1508 : (Jvm.Cond.laysFinal "ToldPowers$4" "ToldPowers$4" "val$by" "I") ∈ lw_all := lw_g (lw_at lw_m6 207 rfl) rfl
theorem q1509 : (Jvm.Cond.soleField "ToldPowers$4" "val$by") ∈ lw_all := lw_g (lw_at lw_m6 208 rfl) rfl
theorem q1510 : (Jvm.Cond.superclass "ToldPowers$4" "ToldPowers$Sum") ∈ lw_all := lw_g (lw_at lw_m6 209 rfl) rfl
theorem q1916 : (Jvm.Cond.instanceMethod ({ cls := "ToldPowers$4", name := "of", desc := "([I)J" } : Jvm.MethodName)) ∈ lw_all := lw_g (lw_at lw_m8 135 rfl) rfl
theorem q1917 : (Jvm.Cond.code ({ cls := "ToldPowers$4", name := "of", desc := "([I)J" } : Jvm.MethodName) prog_5_method_2_code (7 : Nat) (Option.some Jvm.ClassFile.FieldType.long)) ∈ lw_all := lw_g (lw_at lw_m8 136 rfl) rfl
theorem q1918 : (Jvm.Cond.methodLink "ToldPowers$4" (17 : Nat) ({ cls := "ToldPowers$Sum", name := "of", desc := "([I)J" } : Jvm.MethodName)) ∈ lw_all := lw_g (lw_at lw_m8 137 rfl) rfl
theorem q1919 : (Jvm.Cond.methodLinkNest "ToldPowers$4" (21 : Nat) ({ cls := "ToldPowers", name := "product", desc := "(JJ[I)J" } : Jvm.MethodName) "ToldPowers") ∈ lw_tbl := lw_at lw_m8 138 rfl
theorem q1928 : (Jvm.Cond.selects "ToldPowers$4" ({ cls := "ToldPowers$Sum", name := "of", desc := "([I)J" } : Jvm.MethodName) ({ cls := "ToldPowers$4", name := "of", desc := "([I)J" } : Jvm.MethodName)) ∈ lw_all := lw_g (lw_at lw_m8 147 rfl) rfl
theorem q2579 : (Jvm.Cond.castable "ToldPowers$4" "java/lang/Object") ∈ lw_tbl := lw_at lw_m11 78 rfl
theorem q2592 : (Jvm.Cond.castable "ToldPowers$4" "ToldPowers$Sum") ∈ lw_tbl := lw_at lw_m11 91 rfl

/-! ToldPowers$3 -/
set_option maxRecDepth 100000
abbrev cX14_init : ByteArray := prog_4_method_1_code
def yX14_init : MethodName := ⟨RX14, "<init>", "(LToldPowers$Sum;LToldPowers$Sum;I)V"⟩
def dkwX14_init_0 : List UInt8 := [42, 43, 181, 0, 3, 42, 44, 181, 0, 9, 42, 29, 181, 0, 12, 42, 183, 0, 16, 177]
abbrev dktX14_init_0 : List UInt8 := dkwX14_init_0 ++ []
theorem dksX14_init_0 : cX14_init.data.toList.drop 0 = dktX14_init_0 := by decide +kernel
theorem dX14_init_0 : decode cX14_init 0 = .ok (.aload_n 0, 1) := dk_42 (dk_at dksX14_init_0 0 rfl rfl)
theorem dX14_init_1 : decode cX14_init 1 = .ok (.aload_n 1, 1) := dk_43 (dk_at dksX14_init_0 1 rfl rfl)
theorem dX14_init_2 : decode cX14_init 2 = .ok (.putfield 3, 3) := dk_181 0 3 (dk_at dksX14_init_0 2 rfl rfl)
theorem dX14_init_5 : decode cX14_init 5 = .ok (.aload_n 0, 1) := dk_42 (dk_at dksX14_init_0 5 rfl rfl)
theorem dX14_init_6 : decode cX14_init 6 = .ok (.aload_n 2, 1) := dk_44 (dk_at dksX14_init_0 6 rfl rfl)
theorem dX14_init_7 : decode cX14_init 7 = .ok (.putfield 9, 3) := dk_181 0 9 (dk_at dksX14_init_0 7 rfl rfl)
theorem dX14_init_10 : decode cX14_init 10 = .ok (.aload_n 0, 1) := dk_42 (dk_at dksX14_init_0 10 rfl rfl)
theorem dX14_init_11 : decode cX14_init 11 = .ok (.iload_n 3, 1) := dk_29 (dk_at dksX14_init_0 11 rfl rfl)
theorem dX14_init_12 : decode cX14_init 12 = .ok (.putfield 12, 3) := dk_181 0 12 (dk_at dksX14_init_0 12 rfl rfl)
theorem dX14_init_15 : decode cX14_init 15 = .ok (.aload_n 0, 1) := dk_42 (dk_at dksX14_init_0 15 rfl rfl)
theorem dX14_init_16 : decode cX14_init 16 = .ok (.invokespecial 16, 3) := dk_183 0 16 (dk_at dksX14_init_0 16 rfl rfl)
theorem dX14_init_19 : decode cX14_init 19 = .ok (.return_, 1) := dk_177 (dk_at dksX14_init_0 19 rfl rfl)
abbrev cX14_of : ByteArray := prog_4_method_2_code
def yX14_of : MethodName := ⟨RX14, "of", "([I)J"⟩
def dkwX14_of_3 : List UInt8 := [180, 0, 12, 32, 22, 4, 22, 6, 184, 0, 30, 153, 0, 8, 43, 16, 6, 4, 79, 22, 6, 173]
abbrev dktX14_of_3 : List UInt8 := dkwX14_of_3 ++ []
def dkwX14_of_2 : List UInt8 := [180, 0, 12, 16, 43, 160, 0, 10, 32, 22, 4, 97, 167, 0, 7, 32, 22, 4, 101, 55, 6, 42]
abbrev dktX14_of_2 : List UInt8 := dkwX14_of_2 ++ dktX14_of_3
def dkwX14_of_1 : List UInt8 := [16, 43, 159, 0, 20, 42, 180, 0, 12, 16, 45, 159, 0, 11, 32, 22, 4, 43, 184, 0, 26, 173, 42]
abbrev dktX14_of_1 : List UInt8 := dkwX14_of_1 ++ dktX14_of_2
def dkwX14_of_0 : List UInt8 := [42, 180, 0, 3, 43, 182, 0, 22, 65, 42, 180, 0, 9, 43, 182, 0, 22, 55, 4, 42, 180, 0, 12]
abbrev dktX14_of_0 : List UInt8 := dkwX14_of_0 ++ dktX14_of_1
theorem dksX14_of_0 : cX14_of.data.toList.drop 0 = dktX14_of_0 := by decide +kernel
theorem dksX14_of_1 : cX14_of.data.toList.drop 23 = dktX14_of_1 := dk_seg dksX14_of_0 23 rfl rfl
theorem dksX14_of_2 : cX14_of.data.toList.drop 46 = dktX14_of_2 := dk_seg dksX14_of_1 23 rfl rfl
theorem dksX14_of_3 : cX14_of.data.toList.drop 68 = dktX14_of_3 := dk_seg dksX14_of_2 22 rfl rfl
theorem dX14_of_0 : decode cX14_of 0 = .ok (.aload_n 0, 1) := dk_42 (dk_at dksX14_of_0 0 rfl rfl)
theorem dX14_of_1 : decode cX14_of 1 = .ok (.getfield 3, 3) := dk_180 0 3 (dk_at dksX14_of_0 1 rfl rfl)
theorem dX14_of_4 : decode cX14_of 4 = .ok (.aload_n 1, 1) := dk_43 (dk_at dksX14_of_0 4 rfl rfl)
theorem dX14_of_5 : decode cX14_of 5 = .ok (.invokevirtual 22, 3) := dk_182 0 22 (dk_at dksX14_of_0 5 rfl rfl)
theorem dX14_of_8 : decode cX14_of 8 = .ok (.lstore_n 2, 1) := dk_65 (dk_at dksX14_of_0 8 rfl rfl)
theorem dX14_of_9 : decode cX14_of 9 = .ok (.aload_n 0, 1) := dk_42 (dk_at dksX14_of_0 9 rfl rfl)
theorem dX14_of_10 : decode cX14_of 10 = .ok (.getfield 9, 3) := dk_180 0 9 (dk_at dksX14_of_0 10 rfl rfl)
theorem dX14_of_13 : decode cX14_of 13 = .ok (.aload_n 1, 1) := dk_43 (dk_at dksX14_of_0 13 rfl rfl)
theorem dX14_of_14 : decode cX14_of 14 = .ok (.invokevirtual 22, 3) := dk_182 0 22 (dk_at dksX14_of_0 14 rfl rfl)
theorem dX14_of_17 : decode cX14_of 17 = .ok (.lstore 4, 2) := dk_55 4 (dk_at dksX14_of_0 17 rfl rfl)
theorem dX14_of_19 : decode cX14_of 19 = .ok (.aload_n 0, 1) := dk_42 (dk_at dksX14_of_0 19 rfl rfl)
theorem dX14_of_20 : decode cX14_of 20 = .ok (.getfield 12, 3) := dk_180 0 12 (dk_at dksX14_of_0 20 rfl rfl)
theorem dX14_of_23 : decode cX14_of 23 = .ok (.bipush 43, 2) := dk_16 43 (dk_at dksX14_of_1 0 rfl rfl)
theorem dX14_of_25 : decode cX14_of 25 = .ok (.if_icmp .eq 20, 3) := dk_159 0 20 (dk_at dksX14_of_1 2 rfl rfl)
theorem dX14_of_28 : decode cX14_of 28 = .ok (.aload_n 0, 1) := dk_42 (dk_at dksX14_of_1 5 rfl rfl)
theorem dX14_of_29 : decode cX14_of 29 = .ok (.getfield 12, 3) := dk_180 0 12 (dk_at dksX14_of_1 6 rfl rfl)
theorem dX14_of_32 : decode cX14_of 32 = .ok (.bipush 45, 2) := dk_16 45 (dk_at dksX14_of_1 9 rfl rfl)
theorem dX14_of_34 : decode cX14_of 34 = .ok (.if_icmp .eq 11, 3) := dk_159 0 11 (dk_at dksX14_of_1 11 rfl rfl)
theorem dX14_of_37 : decode cX14_of 37 = .ok (.lload_n 2, 1) := dk_32 (dk_at dksX14_of_1 14 rfl rfl)
theorem dX14_of_38 : decode cX14_of 38 = .ok (.lload 4, 2) := dk_22 4 (dk_at dksX14_of_1 15 rfl rfl)
theorem dX14_of_40 : decode cX14_of 40 = .ok (.aload_n 1, 1) := dk_43 (dk_at dksX14_of_1 17 rfl rfl)
theorem dX14_of_41 : decode cX14_of 41 = .ok (.invokestatic 26, 3) := dk_184 0 26 (dk_at dksX14_of_1 18 rfl rfl)
theorem dX14_of_44 : decode cX14_of 44 = .ok (.lreturn, 1) := dk_173 (dk_at dksX14_of_1 21 rfl rfl)
theorem dX14_of_45 : decode cX14_of 45 = .ok (.aload_n 0, 1) := dk_42 (dk_at dksX14_of_1 22 rfl rfl)
theorem dX14_of_46 : decode cX14_of 46 = .ok (.getfield 12, 3) := dk_180 0 12 (dk_at dksX14_of_2 0 rfl rfl)
theorem dX14_of_49 : decode cX14_of 49 = .ok (.bipush 43, 2) := dk_16 43 (dk_at dksX14_of_2 3 rfl rfl)
theorem dX14_of_51 : decode cX14_of 51 = .ok (.if_icmp .ne 10, 3) := dk_160 0 10 (dk_at dksX14_of_2 5 rfl rfl)
theorem dX14_of_54 : decode cX14_of 54 = .ok (.lload_n 2, 1) := dk_32 (dk_at dksX14_of_2 8 rfl rfl)
theorem dX14_of_55 : decode cX14_of 55 = .ok (.lload 4, 2) := dk_22 4 (dk_at dksX14_of_2 9 rfl rfl)
theorem dX14_of_57 : decode cX14_of 57 = .ok (.ladd, 1) := dk_97 (dk_at dksX14_of_2 11 rfl rfl)
theorem dX14_of_58 : decode cX14_of 58 = .ok (.goto 7, 3) := dk_167 0 7 (dk_at dksX14_of_2 12 rfl rfl)
theorem dX14_of_61 : decode cX14_of 61 = .ok (.lload_n 2, 1) := dk_32 (dk_at dksX14_of_2 15 rfl rfl)
theorem dX14_of_62 : decode cX14_of 62 = .ok (.lload 4, 2) := dk_22 4 (dk_at dksX14_of_2 16 rfl rfl)
theorem dX14_of_64 : decode cX14_of 64 = .ok (.lsub, 1) := dk_101 (dk_at dksX14_of_2 18 rfl rfl)
theorem dX14_of_65 : decode cX14_of 65 = .ok (.lstore 6, 2) := dk_55 6 (dk_at dksX14_of_2 19 rfl rfl)
theorem dX14_of_67 : decode cX14_of 67 = .ok (.aload_n 0, 1) := dk_42 (dk_at dksX14_of_2 21 rfl rfl)
theorem dX14_of_68 : decode cX14_of 68 = .ok (.getfield 12, 3) := dk_180 0 12 (dk_at dksX14_of_3 0 rfl rfl)
theorem dX14_of_71 : decode cX14_of 71 = .ok (.lload_n 2, 1) := dk_32 (dk_at dksX14_of_3 3 rfl rfl)
theorem dX14_of_72 : decode cX14_of 72 = .ok (.lload 4, 2) := dk_22 4 (dk_at dksX14_of_3 4 rfl rfl)
theorem dX14_of_74 : decode cX14_of 74 = .ok (.lload 6, 2) := dk_22 6 (dk_at dksX14_of_3 6 rfl rfl)
theorem dX14_of_76 : decode cX14_of 76 = .ok (.invokestatic 30, 3) := dk_184 0 30 (dk_at dksX14_of_3 8 rfl rfl)
theorem dX14_of_79 : decode cX14_of 79 = .ok (.ifCond .eq 8, 3) := dk_153 0 8 (dk_at dksX14_of_3 11 rfl rfl)
theorem dX14_of_82 : decode cX14_of 82 = .ok (.aload_n 1, 1) := dk_43 (dk_at dksX14_of_3 14 rfl rfl)
theorem dX14_of_83 : decode cX14_of 83 = .ok (.bipush 6, 2) := dk_16 6 (dk_at dksX14_of_3 15 rfl rfl)
theorem dX14_of_85 : decode cX14_of 85 = .ok (.iconst 1, 1) := dk_4 (dk_at dksX14_of_3 17 rfl rfl)
theorem dX14_of_86 : decode cX14_of 86 = .ok (.iastore, 1) := dk_79 (dk_at dksX14_of_3 18 rfl rfl)
theorem dX14_of_87 : decode cX14_of 87 = .ok (.lload 6, 2) := dk_22 6 (dk_at dksX14_of_3 19 rfl rfl)
theorem dX14_of_89 : decode cX14_of 89 = .ok (.lreturn, 1) := dk_173 (dk_at dksX14_of_3 21 rfl rfl)
theorem q147 : (Jvm.Cond.initialized "ToldPowers$3") ∈ lw_all := lw_g (lw_at lw_m1 46 rfl) rfl
theorem q797 : (Jvm.Cond.selects "ToldPowers$3" ({ cls := "java/lang/Object", name := "getClass", desc := "()Ljava/lang/Class;" } : Jvm.MethodName) ({ cls := "java/lang/Object", name := "getClass", desc := "()Ljava/lang/Class;" } : Jvm.MethodName)) ∈ lw_all := lw_g (lw_at lw_m3 216 rfl) rfl
theorem q1515 : (Jvm.Cond.instantiable "ToldPowers$3" (3 : Nat)) ∈ lw_all := lw_g (lw_at lw_m6 214 rfl) rfl
theorem q1517 : (Jvm.Cond.instanceMethod ({ cls := "ToldPowers$3", name := "<init>", desc := "(LToldPowers$Sum;LToldPowers$Sum;I)V" } : Jvm.MethodName)) ∈ lw_all := lw_g (lw_at lw_m6 216 rfl) rfl
theorem q1518 : (Jvm.Cond.code ({ cls := "ToldPowers$3", name := "<init>", desc := "(LToldPowers$Sum;LToldPowers$Sum;I)V" } : Jvm.MethodName) prog_4_method_1_code (4 : Nat) (Option.none : Option Jvm.ClassFile.FieldType)) ∈ lw_all := lw_g (lw_at lw_m6 217 rfl) rfl
theorem q1519 : (Jvm.Cond.methodLinkNest "ToldPowers$3" (16 : Nat) ({ cls := "ToldPowers$Sum", name := "<init>", desc := "()V" } : Jvm.MethodName) "ToldPowers") ∈ lw_tbl := lw_at lw_m6 218 rfl
theorem q1520 : (Jvm.Cond.fieldLink "ToldPowers$3" (3 : Nat) "ToldPowers$3" "val$a" "LToldPowers$Sum;") ∈ lw_all := lw_g (lw_at lw_m6 219 rfl) rfl
theorem q1521 : (Jvm.Cond.fieldLink "ToldPowers$3" (9 : Nat) "ToldPowers$3" "val$b" "LToldPowers$Sum;") ∈ lw_all := lw_g (lw_at lw_m6 220 rfl) rfl
theorem q1522 : (Jvm.Cond.fieldLink "ToldPowers$3" (12 : Nat) "ToldPowers$3" "val$sign" "I") ∈ lw_all := lw_g (lw_at lw_m6 221 rfl) rfl
theorem q1523 : (Jvm.Cond.laysFinal "ToldPowers$3" "ToldPowers$3" "val$a" "LToldPowers$Sum;") ∈ lw_all := lw_g (lw_at lw_m6 222 rfl) rfl
theorem q1524 : (Jvm.Cond.soleField "ToldPowers$3" "val$a") ∈ lw_all := lw_g (lw_at lw_m6 223 rfl) rfl
theorem q1525 : (Jvm.Cond.laysFinal "ToldPowers$3" "ToldPowers$3" "val$b" "LToldPowers$Sum;") ∈ lw_all := lw_g (lw_at lw_m6 224 rfl) rfl
theorem q1526 : (Jvm.Cond.soleField "ToldPowers$3" "val$b") ∈ lw_all := lw_g (lw_at lw_m6 225 rfl) rfl
theorem q1527 : (Jvm.Cond.laysFinal "ToldPowers$3" "ToldPowers$3" "val$sign" "I") ∈ lw_all := lw_g (lw_at lw_m6 226 rfl) rfl
theorem q1528 : (Jvm.Cond.soleField "ToldPowers$3" "val$sign") ∈ lw_all := lw_g (lw_at lw_m6 227 rfl) rfl
theorem q1529 : (Jvm.Cond.superclass "ToldPowers$3" "ToldPowers$Sum") ∈ lw_all := lw_g (lw_at lw_m6 228 rfl) rfl
theorem q1912 : (Jvm.Cond.selects "ToldPowers$3" ({ cls := "ToldPowers$Sum", name := "of", desc := "([I)J" } : Jvm.MethodName) ({ cls := "ToldPowers$3", name := "of", desc := "([I)J" } : Jvm.MethodName)) ∈ lw_all := lw_g (lw_at lw_m8 131 rfl) rfl
theorem q1913 : (Jvm.Cond.instanceMethod ({ cls := "ToldPowers$3", name := "of", desc := "([I)J" } : Jvm.MethodName)) ∈ lw_all := lw_g (lw_at lw_m8 132 rfl) rfl
theorem q1914 : (Jvm.Cond.code ({ cls := "ToldPowers$3", name := "of", desc := "([I)J" } : Jvm.MethodName) prog_4_method_2_code (8 : Nat) (Option.some Jvm.ClassFile.FieldType.long)) ∈ lw_all := lw_g (lw_at lw_m8 133 rfl) rfl
theorem q1915 : (Jvm.Cond.methodLink "ToldPowers$3" (22 : Nat) ({ cls := "ToldPowers$Sum", name := "of", desc := "([I)J" } : Jvm.MethodName)) ∈ lw_all := lw_g (lw_at lw_m8 134 rfl) rfl
theorem q1926 : (Jvm.Cond.methodLinkNest "ToldPowers$3" (26 : Nat) ({ cls := "ToldPowers", name := "product", desc := "(JJ[I)J" } : Jvm.MethodName) "ToldPowers") ∈ lw_tbl := lw_at lw_m8 145 rfl
theorem q1927 : (Jvm.Cond.methodLinkNest "ToldPowers$3" (30 : Nat) ({ cls := "ToldPowers", name := "goesRound", desc := "(IJJJ)Z" } : Jvm.MethodName) "ToldPowers") ∈ lw_tbl := lw_at lw_m8 146 rfl
theorem q2580 : (Jvm.Cond.castable "ToldPowers$3" "java/lang/Object") ∈ lw_tbl := lw_at lw_m11 79 rfl
theorem q2593 : (Jvm.Cond.castable "ToldPowers$3" "ToldPowers$Sum") ∈ lw_tbl := lw_at lw_m11 92 rfl
