/-! java/lang/RuntimeException -/
set_option maxRecDepth 100000
def RJ3 : String := "java/lang/RuntimeException"
abbrev cJ3_init : ByteArray := prog_42_method_2_code
def yJ3_init : MethodName := ⟨RJ3, "<init>", "(Ljava/lang/String;)V"⟩
def dkwJ3_init_0 : List UInt8 := [42, 43, 183, 0, 7, 177]
abbrev dktJ3_init_0 : List UInt8 := dkwJ3_init_0 ++ []
theorem dksJ3_init_0 : cJ3_init.data.toList.drop 0 = dktJ3_init_0 := by decide +kernel
theorem dJ3_init_0 : decode cJ3_init 0 = .ok (.aload_n 0, 1) := dk_42 (dk_at dksJ3_init_0 0 rfl rfl)
theorem dJ3_init_1 : decode cJ3_init 1 = .ok (.aload_n 1, 1) := dk_43 (dk_at dksJ3_init_0 1 rfl rfl)
theorem dJ3_init_2 : decode cJ3_init 2 = .ok (.invokespecial 7, 3) := dk_183 0 7 (dk_at dksJ3_init_0 2 rfl rfl)
theorem dJ3_init_5 : decode cJ3_init 5 = .ok (.return_, 1) := dk_177 (dk_at dksJ3_init_0 5 rfl rfl)
abbrev cJ3_init_2 : ByteArray := prog_42_method_1_code
def yJ3_init_2 : MethodName := ⟨RJ3, "<init>", "()V"⟩
theorem dJ3_init_2_0 : decode cJ3_init_2 0 = .ok (.aload_n 0, 1) := by decide +kernel
theorem dJ3_init_2_1 : decode cJ3_init_2 1 = .ok (.invokespecial 1, 3) := by decide +kernel
theorem dJ3_init_2_4 : decode cJ3_init_2 4 = .ok (.return_, 1) := by decide +kernel
theorem q108 : (Jvm.Cond.initialized "java/lang/RuntimeException") ∈ lw_all := lw_g (lw_at lw_m1 7 rfl) rfl
theorem q290 : (Jvm.Cond.instanceMethod ({ cls := "java/lang/RuntimeException", name := "<init>", desc := "(Ljava/lang/String;)V" } : Jvm.MethodName)) ∈ lw_all := lw_g (lw_at lw_m1 189 rfl) rfl
theorem q291 : (Jvm.Cond.code ({ cls := "java/lang/RuntimeException", name := "<init>", desc := "(Ljava/lang/String;)V" } : Jvm.MethodName) prog_42_method_2_code (2 : Nat) (Option.none : Option Jvm.ClassFile.FieldType)) ∈ lw_all := lw_g (lw_at lw_m1 190 rfl) rfl
theorem q292 : (Jvm.Cond.methodLink "java/lang/RuntimeException" (7 : Nat) ({ cls := "java/lang/Exception", name := "<init>", desc := "(Ljava/lang/String;)V" } : Jvm.MethodName)) ∈ lw_all := lw_g (lw_at lw_m1 191 rfl) rfl
theorem q319 : (Jvm.Cond.sameMethod "java/lang/RuntimeException" "java/lang/Throwable" "fillInStackTrace" "()Ljava/lang/Throwable;") ∈ lw_all := lw_g (lw_at lw_m1 218 rfl) rfl
theorem q322 : (Jvm.Cond.superclass "java/lang/RuntimeException" "java/lang/Exception") ∈ lw_all := lw_g (lw_at lw_m1 221 rfl) rfl
theorem q351 : (Jvm.Cond.declares ({ cls := "java/lang/RuntimeException", name := "<init>", desc := "()V" } : Jvm.MethodName)) ∈ lw_tbl := lw_at lw_m2 10 rfl
theorem q352 : (Jvm.Cond.declares ({ cls := "java/lang/RuntimeException", name := "<init>", desc := "(Ljava/lang/String;)V" } : Jvm.MethodName)) ∈ lw_tbl := lw_at lw_m2 11 rfl
theorem q906 : (Jvm.Cond.instanceMethod ({ cls := "java/lang/RuntimeException", name := "<init>", desc := "()V" } : Jvm.MethodName)) ∈ lw_all := lw_g (lw_at lw_m4 85 rfl) rfl
theorem q907 : (Jvm.Cond.code ({ cls := "java/lang/RuntimeException", name := "<init>", desc := "()V" } : Jvm.MethodName) prog_42_method_1_code (1 : Nat) (Option.none : Option Jvm.ClassFile.FieldType)) ∈ lw_all := lw_g (lw_at lw_m4 86 rfl) rfl
theorem q908 : (Jvm.Cond.methodLink "java/lang/RuntimeException" (1 : Nat) ({ cls := "java/lang/Exception", name := "<init>", desc := "()V" } : Jvm.MethodName)) ∈ lw_all := lw_g (lw_at lw_m4 87 rfl) rfl
theorem q926 : (Jvm.Cond.castable "java/lang/RuntimeException" "java/lang/Throwable") ∈ lw_tbl := lw_at lw_m4 105 rfl

/-! java/lang/IndexOutOfBoundsException -/
set_option maxRecDepth 100000
def RJ4 : String := "java/lang/IndexOutOfBoundsException"
abbrev cJ4_init : ByteArray := prog_34_method_2_code
def yJ4_init : MethodName := ⟨RJ4, "<init>", "(Ljava/lang/String;)V"⟩
def dkwJ4_init_0 : List UInt8 := [42, 43, 183, 0, 7, 177]
abbrev dktJ4_init_0 : List UInt8 := dkwJ4_init_0 ++ []
theorem dksJ4_init_0 : cJ4_init.data.toList.drop 0 = dktJ4_init_0 := by decide +kernel
theorem dJ4_init_0 : decode cJ4_init 0 = .ok (.aload_n 0, 1) := dk_42 (dk_at dksJ4_init_0 0 rfl rfl)
theorem dJ4_init_1 : decode cJ4_init 1 = .ok (.aload_n 1, 1) := dk_43 (dk_at dksJ4_init_0 1 rfl rfl)
theorem dJ4_init_2 : decode cJ4_init 2 = .ok (.invokespecial 7, 3) := dk_183 0 7 (dk_at dksJ4_init_0 2 rfl rfl)
theorem dJ4_init_5 : decode cJ4_init 5 = .ok (.return_, 1) := dk_177 (dk_at dksJ4_init_0 5 rfl rfl)
theorem q109 : (Jvm.Cond.initialized "java/lang/IndexOutOfBoundsException") ∈ lw_all := lw_g (lw_at lw_m1 8 rfl) rfl
theorem q287 : (Jvm.Cond.instanceMethod ({ cls := "java/lang/IndexOutOfBoundsException", name := "<init>", desc := "(Ljava/lang/String;)V" } : Jvm.MethodName)) ∈ lw_all := lw_g (lw_at lw_m1 186 rfl) rfl
theorem q288 : (Jvm.Cond.code ({ cls := "java/lang/IndexOutOfBoundsException", name := "<init>", desc := "(Ljava/lang/String;)V" } : Jvm.MethodName) prog_34_method_2_code (2 : Nat) (Option.none : Option Jvm.ClassFile.FieldType)) ∈ lw_all := lw_g (lw_at lw_m1 187 rfl) rfl
theorem q289 : (Jvm.Cond.methodLink "java/lang/IndexOutOfBoundsException" (7 : Nat) ({ cls := "java/lang/RuntimeException", name := "<init>", desc := "(Ljava/lang/String;)V" } : Jvm.MethodName)) ∈ lw_all := lw_g (lw_at lw_m1 188 rfl) rfl
theorem q349 : (Jvm.Cond.declares ({ cls := "java/lang/IndexOutOfBoundsException", name := "<init>", desc := "()V" } : Jvm.MethodName)) ∈ lw_tbl := lw_at lw_m2 8 rfl
theorem q350 : (Jvm.Cond.declares ({ cls := "java/lang/IndexOutOfBoundsException", name := "<init>", desc := "(Ljava/lang/String;)V" } : Jvm.MethodName)) ∈ lw_tbl := lw_at lw_m2 9 rfl

/-! java/lang/ArrayIndexOutOfBoundsException -/
set_option maxRecDepth 100000
def RJ5 : String := "java/lang/ArrayIndexOutOfBoundsException"
def TJ5 : u_T := fun k => match k with
  | 0 => ("java/lang/Throwable", "backtrace", "Ljava/lang/Object;", false)
  | 1 => ("java/lang/Throwable", "detailMessage", "Ljava/lang/String;", false)
  | 2 => ("java/lang/Throwable", "cause", "Ljava/lang/Throwable;", false)
  | 3 => ("java/lang/Throwable", "stackTrace", "[Ljava/lang/StackTraceElement;", false)
  | 4 => ("java/lang/Throwable", "depth", "I", false)
  | _ => ("java/lang/Throwable", "suppressedExceptions", "Ljava/util/List;", false)
def tyJ5 : Nat → FieldType := fun k => match k with
  | 0 => .object "java/lang/Object"
  | 1 => .object "java/lang/String"
  | 2 => .object "java/lang/Throwable"
  | 3 => .array (.object "java/lang/StackTraceElement")
  | 4 => .int
  | _ => .object "java/util/List"
abbrev wsJ50 : List Cond := u_ws RJ5 TJ5 6
theorem nmJ5 : ∀ a, a < 6 → ∀ b, b < 6 → a ≠ b → (TJ5 a).2.1 ≠ (TJ5 b).2.1 := by decide +kernel
theorem tyJ5_ok : ∀ k, k < 6 → parseFieldDescriptor (TJ5 k).2.2.1 = some (tyJ5 k) := by decide +kernel
abbrev cJ5_init : ByteArray := prog_28_method_2_code
def yJ5_init : MethodName := ⟨RJ5, "<init>", "(Ljava/lang/String;)V"⟩
def dkwJ5_init_0 : List UInt8 := [42, 43, 183, 0, 7, 177]
abbrev dktJ5_init_0 : List UInt8 := dkwJ5_init_0 ++ []
theorem dksJ5_init_0 : cJ5_init.data.toList.drop 0 = dktJ5_init_0 := by decide +kernel
theorem dJ5_init_0 : decode cJ5_init 0 = .ok (.aload_n 0, 1) := dk_42 (dk_at dksJ5_init_0 0 rfl rfl)
theorem dJ5_init_1 : decode cJ5_init 1 = .ok (.aload_n 1, 1) := dk_43 (dk_at dksJ5_init_0 1 rfl rfl)
theorem dJ5_init_2 : decode cJ5_init 2 = .ok (.invokespecial 7, 3) := dk_183 0 7 (dk_at dksJ5_init_0 2 rfl rfl)
theorem dJ5_init_5 : decode cJ5_init 5 = .ok (.return_, 1) := dk_177 (dk_at dksJ5_init_0 5 rfl rfl)
theorem q110 : (Jvm.Cond.initialized "java/lang/ArrayIndexOutOfBoundsException") ∈ lw_all := lw_g (lw_at lw_m1 9 rfl) rfl
theorem q167 : (Jvm.Cond.selects "java/lang/ArrayIndexOutOfBoundsException" ({ cls := "java/lang/Throwable", name := "getCause", desc := "()Ljava/lang/Throwable;" } : Jvm.MethodName) ({ cls := "java/lang/Throwable", name := "getCause", desc := "()Ljava/lang/Throwable;" } : Jvm.MethodName)) ∈ lw_all := lw_g (lw_at lw_m1 66 rfl) rfl
theorem q283 : (Jvm.Cond.instantiable "java/lang/ArrayIndexOutOfBoundsException" (6 : Nat)) ∈ lw_all := lw_g (lw_at lw_m1 182 rfl) rfl
theorem q284 : (Jvm.Cond.instanceMethod ({ cls := "java/lang/ArrayIndexOutOfBoundsException", name := "<init>", desc := "(Ljava/lang/String;)V" } : Jvm.MethodName)) ∈ lw_all := lw_g (lw_at lw_m1 183 rfl) rfl
theorem q285 : (Jvm.Cond.code ({ cls := "java/lang/ArrayIndexOutOfBoundsException", name := "<init>", desc := "(Ljava/lang/String;)V" } : Jvm.MethodName) prog_28_method_2_code (2 : Nat) (Option.none : Option Jvm.ClassFile.FieldType)) ∈ lw_all := lw_g (lw_at lw_m1 184 rfl) rfl
theorem q286 : (Jvm.Cond.methodLink "java/lang/ArrayIndexOutOfBoundsException" (7 : Nat) ({ cls := "java/lang/IndexOutOfBoundsException", name := "<init>", desc := "(Ljava/lang/String;)V" } : Jvm.MethodName)) ∈ lw_all := lw_g (lw_at lw_m1 185 rfl) rfl
theorem q309 : (Jvm.Cond.selects "java/lang/ArrayIndexOutOfBoundsException" ({ cls := "java/lang/Throwable", name := "fillInStackTrace", desc := "()Ljava/lang/Throwable;" } : Jvm.MethodName) ({ cls := "java/lang/Throwable", name := "fillInStackTrace", desc := "()Ljava/lang/Throwable;" } : Jvm.MethodName)) ∈ lw_all := lw_g (lw_at lw_m1 208 rfl) rfl
theorem q335 : (Jvm.Cond.lays "java/lang/ArrayIndexOutOfBoundsException" "java/lang/Throwable" "backtrace" "Ljava/lang/Object;") ∈ lw_all := lw_g (lw_at lw_m1 234 rfl) rfl
theorem q337 : (Jvm.Cond.lays "java/lang/ArrayIndexOutOfBoundsException" "java/lang/Throwable" "detailMessage" "Ljava/lang/String;") ∈ lw_all := lw_g (lw_at lw_m1 236 rfl) rfl
theorem q339 : (Jvm.Cond.lays "java/lang/ArrayIndexOutOfBoundsException" "java/lang/Throwable" "cause" "Ljava/lang/Throwable;") ∈ lw_all := lw_g (lw_at lw_m1 238 rfl) rfl
theorem q341 : (Jvm.Cond.lays "java/lang/ArrayIndexOutOfBoundsException" "java/lang/Throwable" "stackTrace" "[Ljava/lang/StackTraceElement;") ∈ lw_all := lw_g (lw_at lw_m2 0 rfl) rfl
theorem q343 : (Jvm.Cond.lays "java/lang/ArrayIndexOutOfBoundsException" "java/lang/Throwable" "depth" "I") ∈ lw_all := lw_g (lw_at lw_m2 2 rfl) rfl
theorem q345 : (Jvm.Cond.lays "java/lang/ArrayIndexOutOfBoundsException" "java/lang/Throwable" "suppressedExceptions" "Ljava/util/List;") ∈ lw_all := lw_g (lw_at lw_m2 4 rfl) rfl
theorem q347 : (Jvm.Cond.superclass "java/lang/ArrayIndexOutOfBoundsException" "java/lang/IndexOutOfBoundsException") ∈ lw_all := lw_g (lw_at lw_m2 6 rfl) rfl
theorem q348 : (Jvm.Cond.castable "java/lang/ArrayIndexOutOfBoundsException" "java/lang/ArrayIndexOutOfBoundsException") ∈ lw_tbl := lw_at lw_m2 7 rfl
theorem q357 : (Jvm.Cond.selects "java/lang/ArrayIndexOutOfBoundsException" ({ cls := "java/lang/Throwable", name := "fillInStackTrace", desc := "(I)Ljava/lang/Throwable;" } : Jvm.MethodName) ({ cls := "java/lang/Throwable", name := "fillInStackTrace", desc := "(I)Ljava/lang/Throwable;" } : Jvm.MethodName)) ∈ lw_all := lw_g (lw_at lw_m2 16 rfl) rfl
theorem q815 : (Jvm.Cond.selects "java/lang/ArrayIndexOutOfBoundsException" ({ cls := "java/lang/Object", name := "getClass", desc := "()Ljava/lang/Class;" } : Jvm.MethodName) ({ cls := "java/lang/Object", name := "getClass", desc := "()Ljava/lang/Class;" } : Jvm.MethodName)) ∈ lw_all := lw_g (lw_at lw_m3 234 rfl) rfl
theorem q2563 : (Jvm.Cond.castable "java/lang/ArrayIndexOutOfBoundsException" "java/lang/Object") ∈ lw_tbl := lw_at lw_m11 62 rfl
theorem in_J5 : ∀ w ∈ wsJ50, w ∈ lw_all := lw_in wsJ50 [335, 337, 339, 341, 343, 345] (by decide +kernel) (by decide +kernel)

/-! java/lang/NullPointerException -/
set_option maxRecDepth 100000
def RJ19 : String := "java/lang/NullPointerException"
def TJ19 : u_T := fun k => match k with
  | 0 => ("java/lang/Throwable", "backtrace", "Ljava/lang/Object;", false)
  | 1 => ("java/lang/Throwable", "detailMessage", "Ljava/lang/String;", false)
  | 2 => ("java/lang/Throwable", "cause", "Ljava/lang/Throwable;", false)
  | 3 => ("java/lang/Throwable", "stackTrace", "[Ljava/lang/StackTraceElement;", false)
  | 4 => ("java/lang/Throwable", "depth", "I", false)
  | 5 => ("java/lang/Throwable", "suppressedExceptions", "Ljava/util/List;", false)
  | 6 => ("java/lang/NullPointerException", "extendedMessageState", "I", false)
  | _ => ("java/lang/NullPointerException", "extendedMessage", "Ljava/lang/String;", false)
def tyJ19 : Nat → FieldType := fun k => match k with
  | 0 => .object "java/lang/Object"
  | 1 => .object "java/lang/String"
  | 2 => .object "java/lang/Throwable"
  | 3 => .array (.object "java/lang/StackTraceElement")
  | 4 => .int
  | 5 => .object "java/util/List"
  | 6 => .int
  | _ => .object "java/lang/String"
abbrev wsJ190 : List Cond := u_ws RJ19 TJ19 8
theorem nmJ19 : ∀ a, a < 8 → ∀ b, b < 8 → a ≠ b → (TJ19 a).2.1 ≠ (TJ19 b).2.1 := by decide +kernel
theorem tyJ19_ok : ∀ k, k < 8 → parseFieldDescriptor (TJ19 k).2.2.1 = some (tyJ19 k) := by decide +kernel
abbrev cJ19_init : ByteArray := prog_40_method_1_code
def yJ19_init : MethodName := ⟨RJ19, "<init>", "()V"⟩
theorem dJ19_init_0 : decode cJ19_init 0 = .ok (.aload_n 0, 1) := by decide +kernel
theorem dJ19_init_1 : decode cJ19_init 1 = .ok (.invokespecial 1, 3) := by decide +kernel
theorem dJ19_init_4 : decode cJ19_init 4 = .ok (.return_, 1) := by decide +kernel
theorem q130 : (Jvm.Cond.initialized "java/lang/NullPointerException") ∈ lw_all := lw_g (lw_at lw_m1 29 rfl) rfl
theorem q168 : (Jvm.Cond.selects "java/lang/NullPointerException" ({ cls := "java/lang/Throwable", name := "getCause", desc := "()Ljava/lang/Throwable;" } : Jvm.MethodName) ({ cls := "java/lang/Throwable", name := "getCause", desc := "()Ljava/lang/Throwable;" } : Jvm.MethodName)) ∈ lw_all := lw_g (lw_at lw_m1 67 rfl) rfl
theorem q310 : (Jvm.Cond.selects "java/lang/NullPointerException" ({ cls := "java/lang/Throwable", name := "fillInStackTrace", desc := "()Ljava/lang/Throwable;" } : Jvm.MethodName) ({ cls := "java/lang/NullPointerException", name := "fillInStackTrace", desc := "()Ljava/lang/Throwable;" } : Jvm.MethodName)) ∈ lw_all := lw_g (lw_at lw_m1 209 rfl) rfl
theorem q311 : (Jvm.Cond.instanceMethod ({ cls := "java/lang/NullPointerException", name := "fillInStackTrace", desc := "()Ljava/lang/Throwable;" } : Jvm.MethodName)) ∈ lw_all := lw_g (lw_at lw_m1 210 rfl) rfl
theorem q312 : (Jvm.Cond.codeSync ({ cls := "java/lang/NullPointerException", name := "fillInStackTrace", desc := "()Ljava/lang/Throwable;" } : Jvm.MethodName) prog_40_method_3_code (1 : Nat) (Option.some (Jvm.ClassFile.FieldType.object "java/lang/Throwable"))) ∈ lw_all := lw_g (lw_at lw_m1 211 rfl) rfl
theorem q313 : (Jvm.Cond.methodLink "java/lang/NullPointerException" (16 : Nat) ({ cls := "java/lang/NullPointerException", name := "getExtendedNPEMessage", desc := "()Ljava/lang/String;" } : Jvm.MethodName)) ∈ lw_all := lw_g (lw_at lw_m1 212 rfl) rfl
theorem q314 : (Jvm.Cond.privateMethod ({ cls := "java/lang/NullPointerException", name := "getExtendedNPEMessage", desc := "()Ljava/lang/String;" } : Jvm.MethodName)) ∈ lw_tbl := lw_at lw_m1 213 rfl
theorem q315 : (Jvm.Cond.instanceMethod ({ cls := "java/lang/NullPointerException", name := "getExtendedNPEMessage", desc := "()Ljava/lang/String;" } : Jvm.MethodName)) ∈ lw_all := lw_g (lw_at lw_m1 214 rfl) rfl
theorem q316 : (Jvm.Cond.instantiable "java/lang/NullPointerException" (8 : Nat)) ∈ lw_all := lw_g (lw_at lw_m1 215 rfl) rfl
theorem q317 : (Jvm.Cond.native ({ cls := "java/lang/NullPointerException", name := "getExtendedNPEMessage", desc := "()Ljava/lang/String;" } : Jvm.MethodName)) ∈ lw_all := lw_g (lw_at lw_m1 216 rfl) rfl
theorem q318 : (Jvm.Cond.methodLink "java/lang/NullPointerException" (24 : Nat) ({ cls := "java/lang/RuntimeException", name := "fillInStackTrace", desc := "()Ljava/lang/Throwable;" } : Jvm.MethodName)) ∈ lw_all := lw_g (lw_at lw_m1 217 rfl) rfl
theorem q321 : (Jvm.Cond.superclass "java/lang/NullPointerException" "java/lang/RuntimeException") ∈ lw_all := lw_g (lw_at lw_m1 220 rfl) rfl
theorem q817 : (Jvm.Cond.selects "java/lang/NullPointerException" ({ cls := "java/lang/Object", name := "getClass", desc := "()Ljava/lang/Class;" } : Jvm.MethodName) ({ cls := "java/lang/Object", name := "getClass", desc := "()Ljava/lang/Class;" } : Jvm.MethodName)) ∈ lw_all := lw_g (lw_at lw_m3 236 rfl) rfl
theorem q903 : (Jvm.Cond.instanceMethod ({ cls := "java/lang/NullPointerException", name := "<init>", desc := "()V" } : Jvm.MethodName)) ∈ lw_all := lw_g (lw_at lw_m4 82 rfl) rfl
theorem q904 : (Jvm.Cond.code ({ cls := "java/lang/NullPointerException", name := "<init>", desc := "()V" } : Jvm.MethodName) prog_40_method_1_code (1 : Nat) (Option.none : Option Jvm.ClassFile.FieldType)) ∈ lw_all := lw_g (lw_at lw_m4 83 rfl) rfl
theorem q905 : (Jvm.Cond.methodLink "java/lang/NullPointerException" (1 : Nat) ({ cls := "java/lang/RuntimeException", name := "<init>", desc := "()V" } : Jvm.MethodName)) ∈ lw_all := lw_g (lw_at lw_m4 84 rfl) rfl
theorem q912 : (Jvm.Cond.fieldLink "java/lang/NullPointerException" (10 : Nat) "java/lang/NullPointerException" "extendedMessageState" "I") ∈ lw_all := lw_g (lw_at lw_m4 91 rfl) rfl
theorem q913 : (Jvm.Cond.fieldLink "java/lang/NullPointerException" (20 : Nat) "java/lang/NullPointerException" "extendedMessage" "Ljava/lang/String;") ∈ lw_all := lw_g (lw_at lw_m4 92 rfl) rfl
theorem q914 : (Jvm.Cond.lays "java/lang/NullPointerException" "java/lang/NullPointerException" "extendedMessageState" "I") ∈ lw_all := lw_g (lw_at lw_m4 93 rfl) rfl
theorem q915 : (Jvm.Cond.soleField "java/lang/NullPointerException" "extendedMessageState") ∈ lw_all := lw_g (lw_at lw_m4 94 rfl) rfl
theorem q916 : (Jvm.Cond.lays "java/lang/NullPointerException" "java/lang/NullPointerException" "extendedMessage" "Ljava/lang/String;") ∈ lw_all := lw_g (lw_at lw_m4 95 rfl) rfl
theorem q917 : (Jvm.Cond.soleField "java/lang/NullPointerException" "extendedMessage") ∈ lw_all := lw_g (lw_at lw_m4 96 rfl) rfl
theorem q918 : (Jvm.Cond.lays "java/lang/NullPointerException" "java/lang/Throwable" "backtrace" "Ljava/lang/Object;") ∈ lw_all := lw_g (lw_at lw_m4 97 rfl) rfl
theorem q919 : (Jvm.Cond.lays "java/lang/NullPointerException" "java/lang/Throwable" "detailMessage" "Ljava/lang/String;") ∈ lw_all := lw_g (lw_at lw_m4 98 rfl) rfl
theorem q920 : (Jvm.Cond.lays "java/lang/NullPointerException" "java/lang/Throwable" "cause" "Ljava/lang/Throwable;") ∈ lw_all := lw_g (lw_at lw_m4 99 rfl) rfl
theorem q921 : (Jvm.Cond.lays "java/lang/NullPointerException" "java/lang/Throwable" "stackTrace" "[Ljava/lang/StackTraceElement;") ∈ lw_all := lw_g (lw_at lw_m4 100 rfl) rfl
theorem q922 : (Jvm.Cond.lays "java/lang/NullPointerException" "java/lang/Throwable" "depth" "I") ∈ lw_all := lw_g (lw_at lw_m4 101 rfl) rfl
theorem q923 : (Jvm.Cond.lays "java/lang/NullPointerException" "java/lang/Throwable" "suppressedExceptions" "Ljava/util/List;") ∈ lw_all := lw_g (lw_at lw_m4 102 rfl) rfl
theorem q924 : (Jvm.Cond.castable "java/lang/NullPointerException" "java/lang/NullPointerException") ∈ lw_tbl := lw_at lw_m4 103 rfl
theorem q925 : (Jvm.Cond.selects "java/lang/NullPointerException" ({ cls := "java/lang/Throwable", name := "fillInStackTrace", desc := "(I)Ljava/lang/Throwable;" } : Jvm.MethodName) ({ cls := "java/lang/Throwable", name := "fillInStackTrace", desc := "(I)Ljava/lang/Throwable;" } : Jvm.MethodName)) ∈ lw_all := lw_g (lw_at lw_m4 104 rfl) rfl
theorem q2569 : (Jvm.Cond.castable "java/lang/NullPointerException" "java/lang/Object") ∈ lw_tbl := lw_at lw_m11 68 rfl
theorem in_J19 : ∀ w ∈ wsJ190, w ∈ lw_all := lw_in wsJ190 [918, 919, 920, 921, 922, 923, 914, 916] (by decide +kernel) (by decide +kernel)

set_option maxRecDepth 100000
set_option maxHeartbeats 4000000
theorem em_n {P : Cond → Prop} : ∀ w ∈ ([] : List Cond), P w := fun _ h => nomatch h
theorem em_c {P : Cond → Prop} {w : Cond} {L : List Cond} (h : P w) (t : ∀ w ∈ L, P w) : ∀ w' ∈ w :: L, P w' := fun w' h' => (List.mem_cons.mp h').elim (fun e => by rw [e]; exact h) (t w')
theorem em_a {P : Cond → Prop} {L M : List Cond} (h : ∀ w ∈ L, P w) (t : ∀ w ∈ M, P w) : ∀ w ∈ L ++ M, P w := fun w' h' => (List.mem_append.mp h').elim (h w') (t w')
abbrev xNames : List String := ["java/lang/IndexOutOfBoundsException", "java/lang/RuntimeException", "java/lang/Exception"]
section EXW
variable {p : Program} {s : State} {m : MethodId} {args : Array Value} {c : Code} {cc : ByteArray} {G : gG} {A : Nat → Prop} {own : String} {nL : Nat}
theorem cX.wM0 (X : cX G A own p s m args c cc nL) : ∀ w ∈ Bundle.messageArmAtoms "java/lang/ArrayIndexOutOfBoundsException" xNames, vx_no w = true → w.before args s = true := (em_a (em_a (em_a (em_a (em_c (fun _ => X.1.2.2.2.2 _ q106) (em_c (fun _ => X.1.2.2.2.2 _ q364) (em_c (fun _ => X.1.2.2.2.2 _ q304) (em_c (fun _ => X.1.2.2.2.2 _ q324) (em_c (fun _ => X.1.2.2.2.2 _ q327) (em_c (fun _ => X.1.2.2.2.2 _ q329) (em_c (fun _ => X.1.2.2.2.2 _ q365) (em_c (fun _ => X.1.2.2.2.2 _ q366) (em_c (fun _ => X.1.2.2.2.2 _ q181) (em_c (fun _ => X.1.2.2.2.2 _ q182) (em_c (fun _ => X.1.2.2.2.2 _ q298) (em_c (fun _ => X.1.2.2.2.2 _ q303) (em_c (fun _ => X.1.2.2.2.2 _ q325) (em_c (fun _ => X.1.2.2.2.2 _ q332) (em_c (fun _ => X.1.2.2.2.2 _ q358) (em_c (fun _ => X.1.2.2.2.2 _ q333) (em_c (fun _ => X.1.2.2.2.2 _ q359) (em_c (fun _ => X.1.2.2.2.2 _ q334) (em_c (fun _ => X.1.2.2.2.2 _ q360) (em_c (fun _ => X.1.2.2.2.2 _ q299) (em_c (fun h => absurd h (by decide +kernel)) (em_c (fun _ => X.1.2.2.2.2 _ q301) (em_c (fun h => absurd h (by decide +kernel)) (em_c (fun _ => X.1.2.2.2.2 _ q361) em_n)))))))))))))))))))))))) (em_c (fun _ => X.1.2.2.2.2 _ q296) (em_c (fun _ => X.1.2.2.2.2 _ q297) (em_c (fun _ => X.1.2.2.2.2 _ q331) (em_c (fun _ => X.1.2.2.2.2 _ q361) em_n))))) (em_a (em_c (fun _ => X.1.2.2.2.2 _ q284) (em_c (fun _ => X.1.2.2.2.2 _ q285) (em_c (fun _ => X.1.2.2.2.2 _ q286) (em_c (fun _ => X.1.2.2.2.2 _ q287) (em_c (fun _ => X.2.2.2.1.decl X.2.2.1 q350) em_n))))) (em_a (em_c (fun _ => X.1.2.2.2.2 _ q287) (em_c (fun _ => X.1.2.2.2.2 _ q288) (em_c (fun _ => X.1.2.2.2.2 _ q289) (em_c (fun _ => X.1.2.2.2.2 _ q290) (em_c (fun _ => X.2.2.2.1.decl X.2.2.1 q352) em_n))))) (em_a (em_c (fun _ => X.1.2.2.2.2 _ q290) (em_c (fun _ => X.1.2.2.2.2 _ q291) (em_c (fun _ => X.1.2.2.2.2 _ q292) (em_c (fun _ => X.1.2.2.2.2 _ q293) (em_c (fun _ => X.2.2.2.1.decl X.2.2.1 q354) em_n))))) (em_c (fun _ => X.1.2.2.2.2 _ q293) (em_c (fun _ => X.1.2.2.2.2 _ q294) (em_c (fun _ => X.1.2.2.2.2 _ q295) (em_c (fun _ => X.1.2.2.2.2 _ q296) (em_c (fun _ => X.2.2.2.1.decl X.2.2.1 q356) em_n))))))))) (em_c (fun _ => X.1.2.2.2.2 _ q111) (em_c (fun _ => X.1.2.2.2.2 _ q367) (em_c (fun _ => X.1.2.2.2.2 _ q275) (em_c (fun _ => X.1.2.2.2.2 _ q368) (em_c (fun _ => X.1.2.2.2.2 _ q370) (em_c (fun _ => X.1.2.2.2.2 _ q369) (em_c (fun _ => X.1.2.2.2.2 _ q371) em_n)))))))) (em_c (fun _ => X.1.2.2.2.2 _ q110) (em_c (fun _ => X.1.2.2.2.2 _ q283) (em_c (fun _ => va_Nw.use (A := args) rfl (X.2.2.2.1.castable X.2.2.1 q348)) (em_c (fun _ => X.1.2.2.2.2 _ q357) (em_c (fun _ => X.1.2.2.2.2 _ q309) (em_c (fun _ => X.1.2.2.2.2 _ q339) (em_c (fun _ => X.1.2.2.2.2 _ q341) (em_c (fun _ => X.1.2.2.2.2 _ q345) (em_c (fun _ => X.1.2.2.2.2 _ q337) (em_c (fun h => absurd h (by decide +kernel)) (em_c (fun h => absurd h (by decide +kernel)) (em_c (fun _ => X.1.2.2.2.2 _ q363) (em_c (fun _ => X.1.2.2.2.2 _ q362) (em_c (fun _ => X.1.2.2.2.2 _ q335) em_n)))))))))))))))
theorem cX.wM (X : cX G A own p s m args c cc nL) : ∀ w ∈ vx_atM "java/lang/ArrayIndexOutOfBoundsException" xNames, w.before args s = true := fun w hw => X.wM0 w (List.mem_filter.mp hw).1 (List.mem_filter.mp hw).2
theorem cX.wN0 (X : cX G A own p s m args c cc nL) : ∀ w ∈ Bundle.npeArmAtoms 8, vx_no w = true → w.before args s = true := (em_a (em_a (em_a (em_a (em_a (em_c (fun _ => X.1.2.2.2.2 _ q106) (em_c (fun _ => X.1.2.2.2.2 _ q364) (em_c (fun _ => X.1.2.2.2.2 _ q304) (em_c (fun _ => X.1.2.2.2.2 _ q324) (em_c (fun _ => X.1.2.2.2.2 _ q327) (em_c (fun _ => X.1.2.2.2.2 _ q329) (em_c (fun _ => X.1.2.2.2.2 _ q365) (em_c (fun _ => X.1.2.2.2.2 _ q366) (em_c (fun _ => X.1.2.2.2.2 _ q181) (em_c (fun _ => X.1.2.2.2.2 _ q182) (em_c (fun _ => X.1.2.2.2.2 _ q298) (em_c (fun _ => X.1.2.2.2.2 _ q303) (em_c (fun _ => X.1.2.2.2.2 _ q325) (em_c (fun _ => X.1.2.2.2.2 _ q332) (em_c (fun _ => X.1.2.2.2.2 _ q358) (em_c (fun _ => X.1.2.2.2.2 _ q333) (em_c (fun _ => X.1.2.2.2.2 _ q359) (em_c (fun _ => X.1.2.2.2.2 _ q334) (em_c (fun _ => X.1.2.2.2.2 _ q360) (em_c (fun _ => X.1.2.2.2.2 _ q299) (em_c (fun h => absurd h (by decide +kernel)) (em_c (fun _ => X.1.2.2.2.2 _ q301) (em_c (fun h => absurd h (by decide +kernel)) (em_c (fun _ => X.1.2.2.2.2 _ q361) em_n)))))))))))))))))))))))) (em_c (fun _ => X.1.2.2.2.2 _ q321) (em_c (fun _ => X.1.2.2.2.2 _ q311) (em_c (fun _ => X.1.2.2.2.2 _ q312) (em_c (fun _ => X.1.2.2.2.2 _ q912) (em_c (fun _ => X.1.2.2.2.2 _ q914) (em_c (fun _ => X.1.2.2.2.2 _ q318) (em_c (fun _ => X.1.2.2.2.2 _ q319) (em_c (fun _ => va_Nw.use (A := args) rfl (X.2.2.2.1.castable X.2.2.1 q926)) em_n))))))))) (em_c (fun _ => X.1.2.2.2.2 _ q903) (em_c (fun _ => X.1.2.2.2.2 _ q904) (em_c (fun _ => X.1.2.2.2.2 _ q905) (em_c (fun _ => X.1.2.2.2.2 _ q906) (em_c (fun _ => X.2.2.2.1.decl X.2.2.1 q351) em_n)))))) (em_c (fun _ => X.1.2.2.2.2 _ q906) (em_c (fun _ => X.1.2.2.2.2 _ q907) (em_c (fun _ => X.1.2.2.2.2 _ q908) (em_c (fun _ => X.1.2.2.2.2 _ q909) (em_c (fun _ => X.2.2.2.1.decl X.2.2.1 q353) em_n)))))) (em_c (fun _ => X.1.2.2.2.2 _ q909) (em_c (fun _ => X.1.2.2.2.2 _ q910) (em_c (fun _ => X.1.2.2.2.2 _ q911) (em_c (fun _ => X.1.2.2.2.2 _ q365) (em_c (fun _ => X.2.2.2.1.decl X.2.2.1 q355) em_n)))))) (em_c (fun _ => X.1.2.2.2.2 _ q130) (em_c (fun _ => X.1.2.2.2.2 _ q316) (em_c (fun _ => va_Nw.use (A := args) rfl (X.2.2.2.1.castable X.2.2.1 q924)) (em_c (fun _ => X.1.2.2.2.2 _ q925) (em_c (fun _ => X.1.2.2.2.2 _ q310) (em_c (fun _ => X.1.2.2.2.2 _ q920) (em_c (fun _ => X.1.2.2.2.2 _ q921) (em_c (fun _ => X.1.2.2.2.2 _ q923) (em_c (fun h => absurd h (by decide +kernel)) (em_c (fun h => absurd h (by decide +kernel)) (em_c (fun _ => X.1.2.2.2.2 _ q363) (em_c (fun _ => X.1.2.2.2.2 _ q362) (em_c (fun _ => X.1.2.2.2.2 _ q918) em_n))))))))))))))
theorem cX.wN (X : cX G A own p s m args c cc nL) : ∀ w ∈ vx_atN 8, w.before args s = true := fun w hw => X.wN0 w (List.mem_filter.mp hw).1 (List.mem_filter.mp hw).2
theorem gM : ∀ w ∈ vx_atM "java/lang/ArrayIndexOutOfBoundsException" xNames, vx_ot w = true := by decide +kernel
theorem gN : ∀ w ∈ vx_atN 8, vx_ot w = true := by decide +kernel
end EXW
