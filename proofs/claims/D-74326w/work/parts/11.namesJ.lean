/-! java/lang/Object -/
set_option maxRecDepth 100000
def RJ29 : String := "java/lang/Object"
abbrev cJ29_init : ByteArray := object_method_1_code
def yJ29_init : MethodName := ⟨RJ29, "<init>", "()V"⟩
theorem dJ29_init_0 : decode cJ29_init 0 = .ok (.return_, 1) := by decide +kernel
theorem q181 : (Jvm.Cond.instanceMethod ({ cls := "java/lang/Object", name := "<init>", desc := "()V" } : Jvm.MethodName)) ∈ lw_all := lw_g (lw_at lw_m1 80 rfl) rfl
theorem q182 : (Jvm.Cond.code ({ cls := "java/lang/Object", name := "<init>", desc := "()V" } : Jvm.MethodName) object_method_1_code (1 : Nat) (Option.none : Option Jvm.ClassFile.FieldType)) ∈ lw_all := lw_g (lw_at lw_m1 81 rfl) rfl
theorem q540 : (Jvm.Cond.native ({ cls := "java/lang/Object", name := "clone", desc := "()Ljava/lang/Object;" } : Jvm.MethodName)) ∈ lw_all := lw_g (lw_at lw_m2 199 rfl) rfl
theorem q541 : (Jvm.Cond.instanceMethod ({ cls := "java/lang/Object", name := "clone", desc := "()Ljava/lang/Object;" } : Jvm.MethodName)) ∈ lw_all := lw_g (lw_at lw_m2 200 rfl) rfl
theorem q792 : (Jvm.Cond.instanceMethod ({ cls := "java/lang/Object", name := "getClass", desc := "()Ljava/lang/Class;" } : Jvm.MethodName)) ∈ lw_all := lw_g (lw_at lw_m3 211 rfl) rfl
theorem q793 : (Jvm.Cond.sameMethod "java/lang/Object" "java/lang/Object" "getClass" "()Ljava/lang/Class;") ∈ lw_all := lw_g (lw_at lw_m3 212 rfl) rfl
theorem q825 : (Jvm.Cond.native ({ cls := "java/lang/Object", name := "getClass", desc := "()Ljava/lang/Class;" } : Jvm.MethodName)) ∈ lw_all := lw_g (lw_at lw_m4 4 rfl) rfl
theorem q2596 : (Jvm.Cond.declares ({ cls := "java/lang/Object", name := "getClass", desc := "()Ljava/lang/Class;" } : Jvm.MethodName)) ∈ lw_tbl := lw_at lw_m11 95 rfl

/-! java/util/TreeMap -/
set_option maxRecDepth 100000
abbrev cJ21_init : ByteArray := prog_70_method_2_code
def yJ21_init : MethodName := ⟨RJ21, "<init>", "(Ljava/util/Comparator;)V"⟩
def dkwJ21_init_0 : List UInt8 := [42, 183, 0, 1, 42, 3, 181, 0, 7, 42, 3, 181, 0, 13, 42, 43, 181, 0, 16, 177]
abbrev dktJ21_init_0 : List UInt8 := dkwJ21_init_0 ++ []
theorem dksJ21_init_0 : cJ21_init.data.toList.drop 0 = dktJ21_init_0 := by decide +kernel
theorem dJ21_init_0 : decode cJ21_init 0 = .ok (.aload_n 0, 1) := dk_42 (dk_at dksJ21_init_0 0 rfl rfl)
theorem dJ21_init_1 : decode cJ21_init 1 = .ok (.invokespecial 1, 3) := dk_183 0 1 (dk_at dksJ21_init_0 1 rfl rfl)
theorem dJ21_init_4 : decode cJ21_init 4 = .ok (.aload_n 0, 1) := dk_42 (dk_at dksJ21_init_0 4 rfl rfl)
theorem dJ21_init_5 : decode cJ21_init 5 = .ok (.iconst 0, 1) := dk_3 (dk_at dksJ21_init_0 5 rfl rfl)
theorem dJ21_init_6 : decode cJ21_init 6 = .ok (.putfield 7, 3) := dk_181 0 7 (dk_at dksJ21_init_0 6 rfl rfl)
theorem dJ21_init_9 : decode cJ21_init 9 = .ok (.aload_n 0, 1) := dk_42 (dk_at dksJ21_init_0 9 rfl rfl)
theorem dJ21_init_10 : decode cJ21_init 10 = .ok (.iconst 0, 1) := dk_3 (dk_at dksJ21_init_0 10 rfl rfl)
theorem dJ21_init_11 : decode cJ21_init 11 = .ok (.putfield 13, 3) := dk_181 0 13 (dk_at dksJ21_init_0 11 rfl rfl)
theorem dJ21_init_14 : decode cJ21_init 14 = .ok (.aload_n 0, 1) := dk_42 (dk_at dksJ21_init_0 14 rfl rfl)
theorem dJ21_init_15 : decode cJ21_init 15 = .ok (.aload_n 1, 1) := dk_43 (dk_at dksJ21_init_0 15 rfl rfl)
theorem dJ21_init_16 : decode cJ21_init 16 = .ok (.putfield 16, 3) := dk_181 0 16 (dk_at dksJ21_init_0 16 rfl rfl)
theorem dJ21_init_19 : decode cJ21_init 19 = .ok (.return_, 1) := dk_177 (dk_at dksJ21_init_0 19 rfl rfl)
abbrev cJ21_containsKey : ByteArray := prog_70_method_6_code
def yJ21_containsKey : MethodName := ⟨RJ21, "containsKey", "(Ljava/lang/Object;)Z"⟩
def dkwJ21_containsKey_0 : List UInt8 := [42, 43, 182, 0, 50, 198, 0, 7, 4, 167, 0, 4, 3, 172]
abbrev dktJ21_containsKey_0 : List UInt8 := dkwJ21_containsKey_0 ++ []
theorem dksJ21_containsKey_0 : cJ21_containsKey.data.toList.drop 0 = dktJ21_containsKey_0 := by decide +kernel
theorem dJ21_containsKey_0 : decode cJ21_containsKey 0 = .ok (.aload_n 0, 1) := dk_42 (dk_at dksJ21_containsKey_0 0 rfl rfl)
theorem dJ21_containsKey_1 : decode cJ21_containsKey 1 = .ok (.aload_n 1, 1) := dk_43 (dk_at dksJ21_containsKey_0 1 rfl rfl)
theorem dJ21_containsKey_2 : decode cJ21_containsKey 2 = .ok (.invokevirtual 50, 3) := dk_182 0 50 (dk_at dksJ21_containsKey_0 2 rfl rfl)
theorem dJ21_containsKey_5 : decode cJ21_containsKey 5 = .ok (.ifnull 7, 3) := dk_198 0 7 (dk_at dksJ21_containsKey_0 5 rfl rfl)
theorem dJ21_containsKey_8 : decode cJ21_containsKey 8 = .ok (.iconst 1, 1) := dk_4 (dk_at dksJ21_containsKey_0 8 rfl rfl)
theorem dJ21_containsKey_9 : decode cJ21_containsKey 9 = .ok (.goto 4, 3) := dk_167 0 4 (dk_at dksJ21_containsKey_0 9 rfl rfl)
theorem dJ21_containsKey_12 : decode cJ21_containsKey 12 = .ok (.iconst 0, 1) := dk_3 (dk_at dksJ21_containsKey_0 12 rfl rfl)
theorem dJ21_containsKey_13 : decode cJ21_containsKey 13 = .ok (.ireturn, 1) := dk_172 (dk_at dksJ21_containsKey_0 13 rfl rfl)
abbrev cJ21_getEntry : ByteArray := prog_70_method_15_code
def yJ21_getEntry : MethodName := ⟨RJ21, "getEntry", "(Ljava/lang/Object;)Ljava/util/TreeMap$Entry;"⟩
def dkwJ21_getEntry_3 : List UInt8 := [45, 176, 167, 255, 212, 1, 176]
abbrev dktJ21_getEntry_3 : List UInt8 := dkwJ21_getEntry_3 ++ []
def dkwJ21_getEntry_2 : List UInt8 := [156, 0, 11, 45, 180, 0, 111, 78, 167, 0, 18, 21, 4, 158, 0, 11, 45, 180, 0, 114, 78, 167, 0, 5]
abbrev dktJ21_getEntry_2 : List UInt8 := dkwJ21_getEntry_2 ++ dktJ21_getEntry_3
def dkwJ21_getEntry_1 : List UInt8 := [180, 0, 101, 78, 45, 198, 0, 46, 44, 45, 180, 0, 105, 185, 0, 107, 2, 0, 54, 4, 21, 4]
abbrev dktJ21_getEntry_1 : List UInt8 := dkwJ21_getEntry_1 ++ dktJ21_getEntry_2
def dkwJ21_getEntry_0 : List UInt8 := [42, 180, 0, 16, 198, 0, 9, 42, 43, 182, 0, 92, 176, 43, 184, 0, 95, 87, 43, 192, 0, 99, 77, 42]
abbrev dktJ21_getEntry_0 : List UInt8 := dkwJ21_getEntry_0 ++ dktJ21_getEntry_1
theorem dksJ21_getEntry_0 : cJ21_getEntry.data.toList.drop 0 = dktJ21_getEntry_0 := by decide +kernel
theorem dksJ21_getEntry_1 : cJ21_getEntry.data.toList.drop 24 = dktJ21_getEntry_1 := dk_seg dksJ21_getEntry_0 24 rfl rfl
theorem dksJ21_getEntry_2 : cJ21_getEntry.data.toList.drop 46 = dktJ21_getEntry_2 := dk_seg dksJ21_getEntry_1 22 rfl rfl
theorem dksJ21_getEntry_3 : cJ21_getEntry.data.toList.drop 70 = dktJ21_getEntry_3 := dk_seg dksJ21_getEntry_2 24 rfl rfl
theorem dJ21_getEntry_0 : decode cJ21_getEntry 0 = .ok (.aload_n 0, 1) := dk_42 (dk_at dksJ21_getEntry_0 0 rfl rfl)
theorem dJ21_getEntry_1 : decode cJ21_getEntry 1 = .ok (.getfield 16, 3) := dk_180 0 16 (dk_at dksJ21_getEntry_0 1 rfl rfl)
theorem dJ21_getEntry_4 : decode cJ21_getEntry 4 = .ok (.ifnull 9, 3) := dk_198 0 9 (dk_at dksJ21_getEntry_0 4 rfl rfl)
theorem dJ21_getEntry_7 : decode cJ21_getEntry 7 = .ok (.aload_n 0, 1) := dk_42 (dk_at dksJ21_getEntry_0 7 rfl rfl)
theorem dJ21_getEntry_8 : decode cJ21_getEntry 8 = .ok (.aload_n 1, 1) := dk_43 (dk_at dksJ21_getEntry_0 8 rfl rfl)
theorem dJ21_getEntry_9 : decode cJ21_getEntry 9 = .ok (.invokevirtual 92, 3) := dk_182 0 92 (dk_at dksJ21_getEntry_0 9 rfl rfl)
theorem dJ21_getEntry_12 : decode cJ21_getEntry 12 = .ok (.areturn, 1) := dk_176 (dk_at dksJ21_getEntry_0 12 rfl rfl)
theorem dJ21_getEntry_13 : decode cJ21_getEntry 13 = .ok (.aload_n 1, 1) := dk_43 (dk_at dksJ21_getEntry_0 13 rfl rfl)
theorem dJ21_getEntry_14 : decode cJ21_getEntry 14 = .ok (.invokestatic 95, 3) := dk_184 0 95 (dk_at dksJ21_getEntry_0 14 rfl rfl)
theorem dJ21_getEntry_17 : decode cJ21_getEntry 17 = .ok (.pop, 1) := dk_87 (dk_at dksJ21_getEntry_0 17 rfl rfl)
theorem dJ21_getEntry_18 : decode cJ21_getEntry 18 = .ok (.aload_n 1, 1) := dk_43 (dk_at dksJ21_getEntry_0 18 rfl rfl)
theorem dJ21_getEntry_19 : decode cJ21_getEntry 19 = .ok (.checkcast 99, 3) := dk_192 0 99 (dk_at dksJ21_getEntry_0 19 rfl rfl)
theorem dJ21_getEntry_22 : decode cJ21_getEntry 22 = .ok (.astore_n 2, 1) := dk_77 (dk_at dksJ21_getEntry_0 22 rfl rfl)
theorem dJ21_getEntry_23 : decode cJ21_getEntry 23 = .ok (.aload_n 0, 1) := dk_42 (dk_at dksJ21_getEntry_0 23 rfl rfl)
theorem dJ21_getEntry_24 : decode cJ21_getEntry 24 = .ok (.getfield 101, 3) := dk_180 0 101 (dk_at dksJ21_getEntry_1 0 rfl rfl)
theorem dJ21_getEntry_27 : decode cJ21_getEntry 27 = .ok (.astore_n 3, 1) := dk_78 (dk_at dksJ21_getEntry_1 3 rfl rfl)
theorem dJ21_getEntry_28 : decode cJ21_getEntry 28 = .ok (.aload_n 3, 1) := dk_45 (dk_at dksJ21_getEntry_1 4 rfl rfl)
theorem dJ21_getEntry_29 : decode cJ21_getEntry 29 = .ok (.ifnull 46, 3) := dk_198 0 46 (dk_at dksJ21_getEntry_1 5 rfl rfl)
theorem dJ21_getEntry_32 : decode cJ21_getEntry 32 = .ok (.aload_n 2, 1) := dk_44 (dk_at dksJ21_getEntry_1 8 rfl rfl)
theorem dJ21_getEntry_33 : decode cJ21_getEntry 33 = .ok (.aload_n 3, 1) := dk_45 (dk_at dksJ21_getEntry_1 9 rfl rfl)
theorem dJ21_getEntry_34 : decode cJ21_getEntry 34 = .ok (.getfield 105, 3) := dk_180 0 105 (dk_at dksJ21_getEntry_1 10 rfl rfl)
theorem dJ21_getEntry_37 : decode cJ21_getEntry 37 = .ok (.invokeinterface 107 2, 5) := by decide +kernel
theorem dJ21_getEntry_42 : decode cJ21_getEntry 42 = .ok (.istore 4, 2) := dk_54 4 (dk_at dksJ21_getEntry_1 18 rfl rfl)
theorem dJ21_getEntry_44 : decode cJ21_getEntry 44 = .ok (.iload 4, 2) := dk_21 4 (dk_at dksJ21_getEntry_1 20 rfl rfl)
theorem dJ21_getEntry_46 : decode cJ21_getEntry 46 = .ok (.ifCond .ge 11, 3) := dk_156 0 11 (dk_at dksJ21_getEntry_2 0 rfl rfl)
theorem dJ21_getEntry_49 : decode cJ21_getEntry 49 = .ok (.aload_n 3, 1) := dk_45 (dk_at dksJ21_getEntry_2 3 rfl rfl)
theorem dJ21_getEntry_50 : decode cJ21_getEntry 50 = .ok (.getfield 111, 3) := dk_180 0 111 (dk_at dksJ21_getEntry_2 4 rfl rfl)
theorem dJ21_getEntry_53 : decode cJ21_getEntry 53 = .ok (.astore_n 3, 1) := dk_78 (dk_at dksJ21_getEntry_2 7 rfl rfl)
theorem dJ21_getEntry_54 : decode cJ21_getEntry 54 = .ok (.goto 18, 3) := dk_167 0 18 (dk_at dksJ21_getEntry_2 8 rfl rfl)
theorem dJ21_getEntry_57 : decode cJ21_getEntry 57 = .ok (.iload 4, 2) := dk_21 4 (dk_at dksJ21_getEntry_2 11 rfl rfl)
theorem dJ21_getEntry_59 : decode cJ21_getEntry 59 = .ok (.ifCond .le 11, 3) := dk_158 0 11 (dk_at dksJ21_getEntry_2 13 rfl rfl)
theorem dJ21_getEntry_62 : decode cJ21_getEntry 62 = .ok (.aload_n 3, 1) := dk_45 (dk_at dksJ21_getEntry_2 16 rfl rfl)
theorem dJ21_getEntry_63 : decode cJ21_getEntry 63 = .ok (.getfield 114, 3) := dk_180 0 114 (dk_at dksJ21_getEntry_2 17 rfl rfl)
theorem dJ21_getEntry_66 : decode cJ21_getEntry 66 = .ok (.astore_n 3, 1) := dk_78 (dk_at dksJ21_getEntry_2 20 rfl rfl)
theorem dJ21_getEntry_67 : decode cJ21_getEntry 67 = .ok (.goto 5, 3) := dk_167 0 5 (dk_at dksJ21_getEntry_2 21 rfl rfl)
theorem dJ21_getEntry_70 : decode cJ21_getEntry 70 = .ok (.aload_n 3, 1) := dk_45 (dk_at dksJ21_getEntry_3 0 rfl rfl)
theorem dJ21_getEntry_71 : decode cJ21_getEntry 71 = .ok (.areturn, 1) := dk_176 (dk_at dksJ21_getEntry_3 1 rfl rfl)
theorem dJ21_getEntry_72 : decode cJ21_getEntry 72 = .ok (.goto (-44), 3) := dk_167 255 212 (dk_at dksJ21_getEntry_3 2 rfl rfl)
theorem dJ21_getEntry_75 : decode cJ21_getEntry 75 = .ok (.aconst_null, 1) := dk_1 (dk_at dksJ21_getEntry_3 5 rfl rfl)
theorem dJ21_getEntry_76 : decode cJ21_getEntry 76 = .ok (.areturn, 1) := dk_176 (dk_at dksJ21_getEntry_3 6 rfl rfl)
abbrev cJ21_getEntryUsingComparator : ByteArray := prog_70_method_16_code
def yJ21_getEntryUsingComparator : MethodName := ⟨RJ21, "getEntryUsingComparator", "(Ljava/lang/Object;)Ljava/util/TreeMap$Entry;"⟩
def dkwJ21_getEntryUsingComparator_3 : List UInt8 := [1, 176]
abbrev dktJ21_getEntryUsingComparator_3 : List UInt8 := dkwJ21_getEntryUsingComparator_3 ++ []
def dkwJ21_getEntryUsingComparator_2 : List UInt8 := [167, 0, 21, 21, 5, 158, 0, 13, 25, 4, 180, 0, 114, 58, 4, 167, 0, 6, 25, 4, 176, 167, 255, 204]
abbrev dktJ21_getEntryUsingComparator_2 : List UInt8 := dkwJ21_getEntryUsingComparator_2 ++ dktJ21_getEntryUsingComparator_3
def dkwJ21_getEntryUsingComparator_1 : List UInt8 := [25, 4, 180, 0, 105, 185, 0, 117, 3, 0, 54, 5, 21, 5, 156, 0, 13, 25, 4, 180, 0, 111, 58, 4]
abbrev dktJ21_getEntryUsingComparator_1 : List UInt8 := dkwJ21_getEntryUsingComparator_1 ++ dktJ21_getEntryUsingComparator_2
def dkwJ21_getEntryUsingComparator_0 : List UInt8 := [43, 77, 42, 180, 0, 16, 78, 45, 198, 0, 64, 42, 180, 0, 101, 58, 4, 25, 4, 198, 0, 53, 45, 44]
abbrev dktJ21_getEntryUsingComparator_0 : List UInt8 := dkwJ21_getEntryUsingComparator_0 ++ dktJ21_getEntryUsingComparator_1
theorem dksJ21_getEntryUsingComparator_0 : cJ21_getEntryUsingComparator.data.toList.drop 0 = dktJ21_getEntryUsingComparator_0 := by decide +kernel
theorem dksJ21_getEntryUsingComparator_1 : cJ21_getEntryUsingComparator.data.toList.drop 24 = dktJ21_getEntryUsingComparator_1 := dk_seg dksJ21_getEntryUsingComparator_0 24 rfl rfl
theorem dksJ21_getEntryUsingComparator_2 : cJ21_getEntryUsingComparator.data.toList.drop 48 = dktJ21_getEntryUsingComparator_2 := dk_seg dksJ21_getEntryUsingComparator_1 24 rfl rfl
theorem dksJ21_getEntryUsingComparator_3 : cJ21_getEntryUsingComparator.data.toList.drop 72 = dktJ21_getEntryUsingComparator_3 := dk_seg dksJ21_getEntryUsingComparator_2 24 rfl rfl
theorem dJ21_getEntryUsingComparator_0 : decode cJ21_getEntryUsingComparator 0 = .ok (.aload_n 1, 1) := dk_43 (dk_at dksJ21_getEntryUsingComparator_0 0 rfl rfl)
theorem dJ21_getEntryUsingComparator_1 : decode cJ21_getEntryUsingComparator 1 = .ok (.astore_n 2, 1) := dk_77 (dk_at dksJ21_getEntryUsingComparator_0 1 rfl rfl)
theorem dJ21_getEntryUsingComparator_2 : decode cJ21_getEntryUsingComparator 2 = .ok (.aload_n 0, 1) := dk_42 (dk_at dksJ21_getEntryUsingComparator_0 2 rfl rfl)
theorem dJ21_getEntryUsingComparator_3 : decode cJ21_getEntryUsingComparator 3 = .ok (.getfield 16, 3) := dk_180 0 16 (dk_at dksJ21_getEntryUsingComparator_0 3 rfl rfl)
theorem dJ21_getEntryUsingComparator_6 : decode cJ21_getEntryUsingComparator 6 = .ok (.astore_n 3, 1) := dk_78 (dk_at dksJ21_getEntryUsingComparator_0 6 rfl rfl)
theorem dJ21_getEntryUsingComparator_7 : decode cJ21_getEntryUsingComparator 7 = .ok (.aload_n 3, 1) := dk_45 (dk_at dksJ21_getEntryUsingComparator_0 7 rfl rfl)
theorem dJ21_getEntryUsingComparator_8 : decode cJ21_getEntryUsingComparator 8 = .ok (.ifnull 64, 3) := dk_198 0 64 (dk_at dksJ21_getEntryUsingComparator_0 8 rfl rfl)
theorem dJ21_getEntryUsingComparator_11 : decode cJ21_getEntryUsingComparator 11 = .ok (.aload_n 0, 1) := dk_42 (dk_at dksJ21_getEntryUsingComparator_0 11 rfl rfl)
theorem dJ21_getEntryUsingComparator_12 : decode cJ21_getEntryUsingComparator 12 = .ok (.getfield 101, 3) := dk_180 0 101 (dk_at dksJ21_getEntryUsingComparator_0 12 rfl rfl)
theorem dJ21_getEntryUsingComparator_15 : decode cJ21_getEntryUsingComparator 15 = .ok (.astore 4, 2) := dk_58 4 (dk_at dksJ21_getEntryUsingComparator_0 15 rfl rfl)
theorem dJ21_getEntryUsingComparator_17 : decode cJ21_getEntryUsingComparator 17 = .ok (.aload 4, 2) := dk_25 4 (dk_at dksJ21_getEntryUsingComparator_0 17 rfl rfl)
theorem dJ21_getEntryUsingComparator_19 : decode cJ21_getEntryUsingComparator 19 = .ok (.ifnull 53, 3) := dk_198 0 53 (dk_at dksJ21_getEntryUsingComparator_0 19 rfl rfl)
theorem dJ21_getEntryUsingComparator_22 : decode cJ21_getEntryUsingComparator 22 = .ok (.aload_n 3, 1) := dk_45 (dk_at dksJ21_getEntryUsingComparator_0 22 rfl rfl)
theorem dJ21_getEntryUsingComparator_23 : decode cJ21_getEntryUsingComparator 23 = .ok (.aload_n 2, 1) := dk_44 (dk_at dksJ21_getEntryUsingComparator_0 23 rfl rfl)
theorem dJ21_getEntryUsingComparator_24 : decode cJ21_getEntryUsingComparator 24 = .ok (.aload 4, 2) := dk_25 4 (dk_at dksJ21_getEntryUsingComparator_1 0 rfl rfl)
theorem dJ21_getEntryUsingComparator_26 : decode cJ21_getEntryUsingComparator 26 = .ok (.getfield 105, 3) := dk_180 0 105 (dk_at dksJ21_getEntryUsingComparator_1 2 rfl rfl)
theorem dJ21_getEntryUsingComparator_29 : decode cJ21_getEntryUsingComparator 29 = .ok (.invokeinterface 117 3, 5) := by decide +kernel
theorem dJ21_getEntryUsingComparator_34 : decode cJ21_getEntryUsingComparator 34 = .ok (.istore 5, 2) := dk_54 5 (dk_at dksJ21_getEntryUsingComparator_1 10 rfl rfl)
theorem dJ21_getEntryUsingComparator_36 : decode cJ21_getEntryUsingComparator 36 = .ok (.iload 5, 2) := dk_21 5 (dk_at dksJ21_getEntryUsingComparator_1 12 rfl rfl)
theorem dJ21_getEntryUsingComparator_38 : decode cJ21_getEntryUsingComparator 38 = .ok (.ifCond .ge 13, 3) := dk_156 0 13 (dk_at dksJ21_getEntryUsingComparator_1 14 rfl rfl)
theorem dJ21_getEntryUsingComparator_41 : decode cJ21_getEntryUsingComparator 41 = .ok (.aload 4, 2) := dk_25 4 (dk_at dksJ21_getEntryUsingComparator_1 17 rfl rfl)
theorem dJ21_getEntryUsingComparator_43 : decode cJ21_getEntryUsingComparator 43 = .ok (.getfield 111, 3) := dk_180 0 111 (dk_at dksJ21_getEntryUsingComparator_1 19 rfl rfl)
theorem dJ21_getEntryUsingComparator_46 : decode cJ21_getEntryUsingComparator 46 = .ok (.astore 4, 2) := dk_58 4 (dk_at dksJ21_getEntryUsingComparator_1 22 rfl rfl)
theorem dJ21_getEntryUsingComparator_48 : decode cJ21_getEntryUsingComparator 48 = .ok (.goto 21, 3) := dk_167 0 21 (dk_at dksJ21_getEntryUsingComparator_2 0 rfl rfl)
theorem dJ21_getEntryUsingComparator_51 : decode cJ21_getEntryUsingComparator 51 = .ok (.iload 5, 2) := dk_21 5 (dk_at dksJ21_getEntryUsingComparator_2 3 rfl rfl)
theorem dJ21_getEntryUsingComparator_53 : decode cJ21_getEntryUsingComparator 53 = .ok (.ifCond .le 13, 3) := dk_158 0 13 (dk_at dksJ21_getEntryUsingComparator_2 5 rfl rfl)
theorem dJ21_getEntryUsingComparator_56 : decode cJ21_getEntryUsingComparator 56 = .ok (.aload 4, 2) := dk_25 4 (dk_at dksJ21_getEntryUsingComparator_2 8 rfl rfl)
theorem dJ21_getEntryUsingComparator_58 : decode cJ21_getEntryUsingComparator 58 = .ok (.getfield 114, 3) := dk_180 0 114 (dk_at dksJ21_getEntryUsingComparator_2 10 rfl rfl)
theorem dJ21_getEntryUsingComparator_61 : decode cJ21_getEntryUsingComparator 61 = .ok (.astore 4, 2) := dk_58 4 (dk_at dksJ21_getEntryUsingComparator_2 13 rfl rfl)
theorem dJ21_getEntryUsingComparator_63 : decode cJ21_getEntryUsingComparator 63 = .ok (.goto 6, 3) := dk_167 0 6 (dk_at dksJ21_getEntryUsingComparator_2 15 rfl rfl)
theorem dJ21_getEntryUsingComparator_66 : decode cJ21_getEntryUsingComparator 66 = .ok (.aload 4, 2) := dk_25 4 (dk_at dksJ21_getEntryUsingComparator_2 18 rfl rfl)
theorem dJ21_getEntryUsingComparator_68 : decode cJ21_getEntryUsingComparator 68 = .ok (.areturn, 1) := dk_176 (dk_at dksJ21_getEntryUsingComparator_2 20 rfl rfl)
theorem dJ21_getEntryUsingComparator_69 : decode cJ21_getEntryUsingComparator 69 = .ok (.goto (-52), 3) := dk_167 255 204 (dk_at dksJ21_getEntryUsingComparator_2 21 rfl rfl)
theorem dJ21_getEntryUsingComparator_72 : decode cJ21_getEntryUsingComparator 72 = .ok (.aconst_null, 1) := dk_1 (dk_at dksJ21_getEntryUsingComparator_3 0 rfl rfl)
theorem dJ21_getEntryUsingComparator_73 : decode cJ21_getEntryUsingComparator 73 = .ok (.areturn, 1) := dk_176 (dk_at dksJ21_getEntryUsingComparator_3 1 rfl rfl)
abbrev cJ21_put : ByteArray := prog_70_method_21_code
def yJ21_put : MethodName := ⟨RJ21, "put", "(Ljava/lang/Object;Ljava/lang/Object;)Ljava/lang/Object;"⟩
def dkwJ21_put_0 : List UInt8 := [42, 43, 44, 4, 182, 0, 127, 176]
abbrev dktJ21_put_0 : List UInt8 := dkwJ21_put_0 ++ []
theorem dksJ21_put_0 : cJ21_put.data.toList.drop 0 = dktJ21_put_0 := by decide +kernel
theorem dJ21_put_0 : decode cJ21_put 0 = .ok (.aload_n 0, 1) := dk_42 (dk_at dksJ21_put_0 0 rfl rfl)
theorem dJ21_put_1 : decode cJ21_put 1 = .ok (.aload_n 1, 1) := dk_43 (dk_at dksJ21_put_0 1 rfl rfl)
theorem dJ21_put_2 : decode cJ21_put 2 = .ok (.aload_n 2, 1) := dk_44 (dk_at dksJ21_put_0 2 rfl rfl)
theorem dJ21_put_3 : decode cJ21_put 3 = .ok (.iconst 1, 1) := dk_4 (dk_at dksJ21_put_0 3 rfl rfl)
theorem dJ21_put_4 : decode cJ21_put 4 = .ok (.invokevirtual 127, 3) := dk_182 0 127 (dk_at dksJ21_put_0 4 rfl rfl)
theorem dJ21_put_7 : decode cJ21_put 7 = .ok (.areturn, 1) := dk_176 (dk_at dksJ21_put_0 7 rfl rfl)
abbrev cJ21_put_2 : ByteArray := prog_70_method_31_code
def yJ21_put_2 : MethodName := ⟨RJ21, "put", "(Ljava/lang/Object;Ljava/lang/Object;Z)Ljava/lang/Object;"⟩
def dkwJ21_put_2_9 : List UInt8 := [4, 167, 0, 4, 3, 182, 0, 139, 1, 176]
abbrev dktJ21_put_2_9 : List UInt8 := dkwJ21_put_2_9 ++ []
def dkwJ21_put_2_8 : List UInt8 := [25, 4, 44, 181, 0, 58, 25, 9, 176, 25, 4, 199, 255, 181, 42, 43, 44, 25, 6, 21, 5, 156, 0, 7]
abbrev dktJ21_put_2_8 : List UInt8 := dkwJ21_put_2_8 ++ dktJ21_put_2_9
def dkwJ21_put_2_7 : List UInt8 := [180, 0, 114, 58, 4, 167, 0, 28, 25, 4, 180, 0, 58, 58, 9, 29, 154, 0, 8, 25, 9, 199, 0, 9]
abbrev dktJ21_put_2_7 : List UInt8 := dkwJ21_put_2_7 ++ dktJ21_put_2_8
def dkwJ21_put_2_6 : List UInt8 := [21, 5, 156, 0, 13, 25, 4, 180, 0, 111, 58, 4, 167, 0, 43, 21, 5, 158, 0, 13, 25, 4]
abbrev dktJ21_put_2_6 : List UInt8 := dkwJ21_put_2_6 ++ dktJ21_put_2_7
def dkwJ21_put_2_5 : List UInt8 := [192, 0, 99, 58, 8, 25, 4, 58, 6, 25, 8, 25, 4, 180, 0, 105, 185, 0, 107, 2, 0, 54, 5]
abbrev dktJ21_put_2_5 : List UInt8 := dkwJ21_put_2_5 ++ dktJ21_put_2_6
def dkwJ21_put_2_4 : List UInt8 := [25, 4, 44, 181, 0, 58, 25, 8, 176, 25, 4, 199, 255, 180, 167, 0, 92, 43, 184, 0, 95, 87, 43]
abbrev dktJ21_put_2_4 : List UInt8 := dkwJ21_put_2_4 ++ dktJ21_put_2_5
def dkwJ21_put_2_3 : List UInt8 := [180, 0, 114, 58, 4, 167, 0, 28, 25, 4, 180, 0, 58, 58, 8, 29, 154, 0, 8, 25, 8, 199, 0, 9]
abbrev dktJ21_put_2_3 : List UInt8 := dkwJ21_put_2_3 ++ dktJ21_put_2_4
def dkwJ21_put_2_2 : List UInt8 := [54, 5, 21, 5, 156, 0, 13, 25, 4, 180, 0, 111, 58, 4, 167, 0, 43, 21, 5, 158, 0, 13, 25, 4]
abbrev dktJ21_put_2_2 : List UInt8 := dkwJ21_put_2_2 ++ dktJ21_put_2_3
def dkwJ21_put_2_1 : List UInt8 := [58, 7, 25, 7, 198, 0, 85, 25, 4, 58, 6, 25, 7, 43, 25, 4, 180, 0, 105, 185, 0, 117, 3, 0]
abbrev dktJ21_put_2_1 : List UInt8 := dkwJ21_put_2_1 ++ dktJ21_put_2_2
def dkwJ21_put_2_0 : List UInt8 := [42, 180, 0, 101, 58, 4, 25, 4, 199, 0, 11, 42, 43, 44, 182, 0, 135, 1, 176, 42, 180, 0, 16]
abbrev dktJ21_put_2_0 : List UInt8 := dkwJ21_put_2_0 ++ dktJ21_put_2_1
theorem dksJ21_put_2_0 : cJ21_put_2.data.toList.drop 0 = dktJ21_put_2_0 := by decide +kernel
theorem dksJ21_put_2_1 : cJ21_put_2.data.toList.drop 23 = dktJ21_put_2_1 := dk_seg dksJ21_put_2_0 23 rfl rfl
theorem dksJ21_put_2_2 : cJ21_put_2.data.toList.drop 47 = dktJ21_put_2_2 := dk_seg dksJ21_put_2_1 24 rfl rfl
theorem dksJ21_put_2_3 : cJ21_put_2.data.toList.drop 71 = dktJ21_put_2_3 := dk_seg dksJ21_put_2_2 24 rfl rfl
theorem dksJ21_put_2_4 : cJ21_put_2.data.toList.drop 95 = dktJ21_put_2_4 := dk_seg dksJ21_put_2_3 24 rfl rfl
theorem dksJ21_put_2_5 : cJ21_put_2.data.toList.drop 118 = dktJ21_put_2_5 := dk_seg dksJ21_put_2_4 23 rfl rfl
theorem dksJ21_put_2_6 : cJ21_put_2.data.toList.drop 141 = dktJ21_put_2_6 := dk_seg dksJ21_put_2_5 23 rfl rfl
theorem dksJ21_put_2_7 : cJ21_put_2.data.toList.drop 163 = dktJ21_put_2_7 := dk_seg dksJ21_put_2_6 22 rfl rfl
theorem dksJ21_put_2_8 : cJ21_put_2.data.toList.drop 187 = dktJ21_put_2_8 := dk_seg dksJ21_put_2_7 24 rfl rfl
theorem dksJ21_put_2_9 : cJ21_put_2.data.toList.drop 211 = dktJ21_put_2_9 := dk_seg dksJ21_put_2_8 24 rfl rfl
theorem dJ21_put_2_0 : decode cJ21_put_2 0 = .ok (.aload_n 0, 1) := dk_42 (dk_at dksJ21_put_2_0 0 rfl rfl)
theorem dJ21_put_2_1 : decode cJ21_put_2 1 = .ok (.getfield 101, 3) := dk_180 0 101 (dk_at dksJ21_put_2_0 1 rfl rfl)
theorem dJ21_put_2_4 : decode cJ21_put_2 4 = .ok (.astore 4, 2) := dk_58 4 (dk_at dksJ21_put_2_0 4 rfl rfl)
theorem dJ21_put_2_6 : decode cJ21_put_2 6 = .ok (.aload 4, 2) := dk_25 4 (dk_at dksJ21_put_2_0 6 rfl rfl)
theorem dJ21_put_2_8 : decode cJ21_put_2 8 = .ok (.ifnonnull 11, 3) := dk_199 0 11 (dk_at dksJ21_put_2_0 8 rfl rfl)
theorem dJ21_put_2_11 : decode cJ21_put_2 11 = .ok (.aload_n 0, 1) := dk_42 (dk_at dksJ21_put_2_0 11 rfl rfl)
theorem dJ21_put_2_12 : decode cJ21_put_2 12 = .ok (.aload_n 1, 1) := dk_43 (dk_at dksJ21_put_2_0 12 rfl rfl)
theorem dJ21_put_2_13 : decode cJ21_put_2 13 = .ok (.aload_n 2, 1) := dk_44 (dk_at dksJ21_put_2_0 13 rfl rfl)
theorem dJ21_put_2_14 : decode cJ21_put_2 14 = .ok (.invokevirtual 135, 3) := dk_182 0 135 (dk_at dksJ21_put_2_0 14 rfl rfl)
theorem dJ21_put_2_17 : decode cJ21_put_2 17 = .ok (.aconst_null, 1) := dk_1 (dk_at dksJ21_put_2_0 17 rfl rfl)
theorem dJ21_put_2_18 : decode cJ21_put_2 18 = .ok (.areturn, 1) := dk_176 (dk_at dksJ21_put_2_0 18 rfl rfl)
theorem dJ21_put_2_19 : decode cJ21_put_2 19 = .ok (.aload_n 0, 1) := dk_42 (dk_at dksJ21_put_2_0 19 rfl rfl)
theorem dJ21_put_2_20 : decode cJ21_put_2 20 = .ok (.getfield 16, 3) := dk_180 0 16 (dk_at dksJ21_put_2_0 20 rfl rfl)
theorem dJ21_put_2_23 : decode cJ21_put_2 23 = .ok (.astore 7, 2) := dk_58 7 (dk_at dksJ21_put_2_1 0 rfl rfl)
theorem dJ21_put_2_25 : decode cJ21_put_2 25 = .ok (.aload 7, 2) := dk_25 7 (dk_at dksJ21_put_2_1 2 rfl rfl)
theorem dJ21_put_2_27 : decode cJ21_put_2 27 = .ok (.ifnull 85, 3) := dk_198 0 85 (dk_at dksJ21_put_2_1 4 rfl rfl)
theorem dJ21_put_2_30 : decode cJ21_put_2 30 = .ok (.aload 4, 2) := dk_25 4 (dk_at dksJ21_put_2_1 7 rfl rfl)
theorem dJ21_put_2_32 : decode cJ21_put_2 32 = .ok (.astore 6, 2) := dk_58 6 (dk_at dksJ21_put_2_1 9 rfl rfl)
theorem dJ21_put_2_34 : decode cJ21_put_2 34 = .ok (.aload 7, 2) := dk_25 7 (dk_at dksJ21_put_2_1 11 rfl rfl)
theorem dJ21_put_2_36 : decode cJ21_put_2 36 = .ok (.aload_n 1, 1) := dk_43 (dk_at dksJ21_put_2_1 13 rfl rfl)
theorem dJ21_put_2_37 : decode cJ21_put_2 37 = .ok (.aload 4, 2) := dk_25 4 (dk_at dksJ21_put_2_1 14 rfl rfl)
theorem dJ21_put_2_39 : decode cJ21_put_2 39 = .ok (.getfield 105, 3) := dk_180 0 105 (dk_at dksJ21_put_2_1 16 rfl rfl)
theorem dJ21_put_2_42 : decode cJ21_put_2 42 = .ok (.invokeinterface 117 3, 5) := by decide +kernel
theorem dJ21_put_2_47 : decode cJ21_put_2 47 = .ok (.istore 5, 2) := dk_54 5 (dk_at dksJ21_put_2_2 0 rfl rfl)
theorem dJ21_put_2_49 : decode cJ21_put_2 49 = .ok (.iload 5, 2) := dk_21 5 (dk_at dksJ21_put_2_2 2 rfl rfl)
theorem dJ21_put_2_51 : decode cJ21_put_2 51 = .ok (.ifCond .ge 13, 3) := dk_156 0 13 (dk_at dksJ21_put_2_2 4 rfl rfl)
theorem dJ21_put_2_54 : decode cJ21_put_2 54 = .ok (.aload 4, 2) := dk_25 4 (dk_at dksJ21_put_2_2 7 rfl rfl)
theorem dJ21_put_2_56 : decode cJ21_put_2 56 = .ok (.getfield 111, 3) := dk_180 0 111 (dk_at dksJ21_put_2_2 9 rfl rfl)
theorem dJ21_put_2_59 : decode cJ21_put_2 59 = .ok (.astore 4, 2) := dk_58 4 (dk_at dksJ21_put_2_2 12 rfl rfl)
theorem dJ21_put_2_61 : decode cJ21_put_2 61 = .ok (.goto 43, 3) := dk_167 0 43 (dk_at dksJ21_put_2_2 14 rfl rfl)
theorem dJ21_put_2_64 : decode cJ21_put_2 64 = .ok (.iload 5, 2) := dk_21 5 (dk_at dksJ21_put_2_2 17 rfl rfl)
theorem dJ21_put_2_66 : decode cJ21_put_2 66 = .ok (.ifCond .le 13, 3) := dk_158 0 13 (dk_at dksJ21_put_2_2 19 rfl rfl)
theorem dJ21_put_2_69 : decode cJ21_put_2 69 = .ok (.aload 4, 2) := dk_25 4 (dk_at dksJ21_put_2_2 22 rfl rfl)
theorem dJ21_put_2_71 : decode cJ21_put_2 71 = .ok (.getfield 114, 3) := dk_180 0 114 (dk_at dksJ21_put_2_3 0 rfl rfl)
theorem dJ21_put_2_74 : decode cJ21_put_2 74 = .ok (.astore 4, 2) := dk_58 4 (dk_at dksJ21_put_2_3 3 rfl rfl)
theorem dJ21_put_2_76 : decode cJ21_put_2 76 = .ok (.goto 28, 3) := dk_167 0 28 (dk_at dksJ21_put_2_3 5 rfl rfl)
theorem dJ21_put_2_79 : decode cJ21_put_2 79 = .ok (.aload 4, 2) := dk_25 4 (dk_at dksJ21_put_2_3 8 rfl rfl)
theorem dJ21_put_2_81 : decode cJ21_put_2 81 = .ok (.getfield 58, 3) := dk_180 0 58 (dk_at dksJ21_put_2_3 10 rfl rfl)
theorem dJ21_put_2_84 : decode cJ21_put_2 84 = .ok (.astore 8, 2) := dk_58 8 (dk_at dksJ21_put_2_3 13 rfl rfl)
theorem dJ21_put_2_86 : decode cJ21_put_2 86 = .ok (.iload_n 3, 1) := dk_29 (dk_at dksJ21_put_2_3 15 rfl rfl)
theorem dJ21_put_2_87 : decode cJ21_put_2 87 = .ok (.ifCond .ne 8, 3) := dk_154 0 8 (dk_at dksJ21_put_2_3 16 rfl rfl)
theorem dJ21_put_2_90 : decode cJ21_put_2 90 = .ok (.aload 8, 2) := dk_25 8 (dk_at dksJ21_put_2_3 19 rfl rfl)
theorem dJ21_put_2_92 : decode cJ21_put_2 92 = .ok (.ifnonnull 9, 3) := dk_199 0 9 (dk_at dksJ21_put_2_3 21 rfl rfl)
theorem dJ21_put_2_95 : decode cJ21_put_2 95 = .ok (.aload 4, 2) := dk_25 4 (dk_at dksJ21_put_2_4 0 rfl rfl)
theorem dJ21_put_2_97 : decode cJ21_put_2 97 = .ok (.aload_n 2, 1) := dk_44 (dk_at dksJ21_put_2_4 2 rfl rfl)
theorem dJ21_put_2_98 : decode cJ21_put_2 98 = .ok (.putfield 58, 3) := dk_181 0 58 (dk_at dksJ21_put_2_4 3 rfl rfl)
theorem dJ21_put_2_101 : decode cJ21_put_2 101 = .ok (.aload 8, 2) := dk_25 8 (dk_at dksJ21_put_2_4 6 rfl rfl)
theorem dJ21_put_2_103 : decode cJ21_put_2 103 = .ok (.areturn, 1) := dk_176 (dk_at dksJ21_put_2_4 8 rfl rfl)
theorem dJ21_put_2_104 : decode cJ21_put_2 104 = .ok (.aload 4, 2) := dk_25 4 (dk_at dksJ21_put_2_4 9 rfl rfl)
theorem dJ21_put_2_106 : decode cJ21_put_2 106 = .ok (.ifnonnull (-76), 3) := dk_199 255 180 (dk_at dksJ21_put_2_4 11 rfl rfl)
theorem dJ21_put_2_109 : decode cJ21_put_2 109 = .ok (.goto 92, 3) := dk_167 0 92 (dk_at dksJ21_put_2_4 14 rfl rfl)
theorem dJ21_put_2_112 : decode cJ21_put_2 112 = .ok (.aload_n 1, 1) := dk_43 (dk_at dksJ21_put_2_4 17 rfl rfl)
theorem dJ21_put_2_113 : decode cJ21_put_2 113 = .ok (.invokestatic 95, 3) := dk_184 0 95 (dk_at dksJ21_put_2_4 18 rfl rfl)
theorem dJ21_put_2_116 : decode cJ21_put_2 116 = .ok (.pop, 1) := dk_87 (dk_at dksJ21_put_2_4 21 rfl rfl)
theorem dJ21_put_2_117 : decode cJ21_put_2 117 = .ok (.aload_n 1, 1) := dk_43 (dk_at dksJ21_put_2_4 22 rfl rfl)
theorem dJ21_put_2_118 : decode cJ21_put_2 118 = .ok (.checkcast 99, 3) := dk_192 0 99 (dk_at dksJ21_put_2_5 0 rfl rfl)
theorem dJ21_put_2_121 : decode cJ21_put_2 121 = .ok (.astore 8, 2) := dk_58 8 (dk_at dksJ21_put_2_5 3 rfl rfl)
theorem dJ21_put_2_123 : decode cJ21_put_2 123 = .ok (.aload 4, 2) := dk_25 4 (dk_at dksJ21_put_2_5 5 rfl rfl)
theorem dJ21_put_2_125 : decode cJ21_put_2 125 = .ok (.astore 6, 2) := dk_58 6 (dk_at dksJ21_put_2_5 7 rfl rfl)
theorem dJ21_put_2_127 : decode cJ21_put_2 127 = .ok (.aload 8, 2) := dk_25 8 (dk_at dksJ21_put_2_5 9 rfl rfl)
theorem dJ21_put_2_129 : decode cJ21_put_2 129 = .ok (.aload 4, 2) := dk_25 4 (dk_at dksJ21_put_2_5 11 rfl rfl)
theorem dJ21_put_2_131 : decode cJ21_put_2 131 = .ok (.getfield 105, 3) := dk_180 0 105 (dk_at dksJ21_put_2_5 13 rfl rfl)
theorem dJ21_put_2_134 : decode cJ21_put_2 134 = .ok (.invokeinterface 107 2, 5) := by decide +kernel
theorem dJ21_put_2_139 : decode cJ21_put_2 139 = .ok (.istore 5, 2) := dk_54 5 (dk_at dksJ21_put_2_5 21 rfl rfl)
theorem dJ21_put_2_141 : decode cJ21_put_2 141 = .ok (.iload 5, 2) := dk_21 5 (dk_at dksJ21_put_2_6 0 rfl rfl)
theorem dJ21_put_2_143 : decode cJ21_put_2 143 = .ok (.ifCond .ge 13, 3) := dk_156 0 13 (dk_at dksJ21_put_2_6 2 rfl rfl)
theorem dJ21_put_2_146 : decode cJ21_put_2 146 = .ok (.aload 4, 2) := dk_25 4 (dk_at dksJ21_put_2_6 5 rfl rfl)
theorem dJ21_put_2_148 : decode cJ21_put_2 148 = .ok (.getfield 111, 3) := dk_180 0 111 (dk_at dksJ21_put_2_6 7 rfl rfl)
theorem dJ21_put_2_151 : decode cJ21_put_2 151 = .ok (.astore 4, 2) := dk_58 4 (dk_at dksJ21_put_2_6 10 rfl rfl)
theorem dJ21_put_2_153 : decode cJ21_put_2 153 = .ok (.goto 43, 3) := dk_167 0 43 (dk_at dksJ21_put_2_6 12 rfl rfl)
theorem dJ21_put_2_156 : decode cJ21_put_2 156 = .ok (.iload 5, 2) := dk_21 5 (dk_at dksJ21_put_2_6 15 rfl rfl)
theorem dJ21_put_2_158 : decode cJ21_put_2 158 = .ok (.ifCond .le 13, 3) := dk_158 0 13 (dk_at dksJ21_put_2_6 17 rfl rfl)
theorem dJ21_put_2_161 : decode cJ21_put_2 161 = .ok (.aload 4, 2) := dk_25 4 (dk_at dksJ21_put_2_6 20 rfl rfl)
theorem dJ21_put_2_163 : decode cJ21_put_2 163 = .ok (.getfield 114, 3) := dk_180 0 114 (dk_at dksJ21_put_2_7 0 rfl rfl)
theorem dJ21_put_2_166 : decode cJ21_put_2 166 = .ok (.astore 4, 2) := dk_58 4 (dk_at dksJ21_put_2_7 3 rfl rfl)
theorem dJ21_put_2_168 : decode cJ21_put_2 168 = .ok (.goto 28, 3) := dk_167 0 28 (dk_at dksJ21_put_2_7 5 rfl rfl)
theorem dJ21_put_2_171 : decode cJ21_put_2 171 = .ok (.aload 4, 2) := dk_25 4 (dk_at dksJ21_put_2_7 8 rfl rfl)
theorem dJ21_put_2_173 : decode cJ21_put_2 173 = .ok (.getfield 58, 3) := dk_180 0 58 (dk_at dksJ21_put_2_7 10 rfl rfl)
theorem dJ21_put_2_176 : decode cJ21_put_2 176 = .ok (.astore 9, 2) := dk_58 9 (dk_at dksJ21_put_2_7 13 rfl rfl)
theorem dJ21_put_2_178 : decode cJ21_put_2 178 = .ok (.iload_n 3, 1) := dk_29 (dk_at dksJ21_put_2_7 15 rfl rfl)
theorem dJ21_put_2_179 : decode cJ21_put_2 179 = .ok (.ifCond .ne 8, 3) := dk_154 0 8 (dk_at dksJ21_put_2_7 16 rfl rfl)
theorem dJ21_put_2_182 : decode cJ21_put_2 182 = .ok (.aload 9, 2) := dk_25 9 (dk_at dksJ21_put_2_7 19 rfl rfl)
theorem dJ21_put_2_184 : decode cJ21_put_2 184 = .ok (.ifnonnull 9, 3) := dk_199 0 9 (dk_at dksJ21_put_2_7 21 rfl rfl)
theorem dJ21_put_2_187 : decode cJ21_put_2 187 = .ok (.aload 4, 2) := dk_25 4 (dk_at dksJ21_put_2_8 0 rfl rfl)
theorem dJ21_put_2_189 : decode cJ21_put_2 189 = .ok (.aload_n 2, 1) := dk_44 (dk_at dksJ21_put_2_8 2 rfl rfl)
theorem dJ21_put_2_190 : decode cJ21_put_2 190 = .ok (.putfield 58, 3) := dk_181 0 58 (dk_at dksJ21_put_2_8 3 rfl rfl)
theorem dJ21_put_2_193 : decode cJ21_put_2 193 = .ok (.aload 9, 2) := dk_25 9 (dk_at dksJ21_put_2_8 6 rfl rfl)
theorem dJ21_put_2_195 : decode cJ21_put_2 195 = .ok (.areturn, 1) := dk_176 (dk_at dksJ21_put_2_8 8 rfl rfl)
theorem dJ21_put_2_196 : decode cJ21_put_2 196 = .ok (.aload 4, 2) := dk_25 4 (dk_at dksJ21_put_2_8 9 rfl rfl)
theorem dJ21_put_2_198 : decode cJ21_put_2 198 = .ok (.ifnonnull (-75), 3) := dk_199 255 181 (dk_at dksJ21_put_2_8 11 rfl rfl)
theorem dJ21_put_2_201 : decode cJ21_put_2 201 = .ok (.aload_n 0, 1) := dk_42 (dk_at dksJ21_put_2_8 14 rfl rfl)
theorem dJ21_put_2_202 : decode cJ21_put_2 202 = .ok (.aload_n 1, 1) := dk_43 (dk_at dksJ21_put_2_8 15 rfl rfl)
theorem dJ21_put_2_203 : decode cJ21_put_2 203 = .ok (.aload_n 2, 1) := dk_44 (dk_at dksJ21_put_2_8 16 rfl rfl)
theorem dJ21_put_2_204 : decode cJ21_put_2 204 = .ok (.aload 6, 2) := dk_25 6 (dk_at dksJ21_put_2_8 17 rfl rfl)
theorem dJ21_put_2_206 : decode cJ21_put_2 206 = .ok (.iload 5, 2) := dk_21 5 (dk_at dksJ21_put_2_8 19 rfl rfl)
theorem dJ21_put_2_208 : decode cJ21_put_2 208 = .ok (.ifCond .ge 7, 3) := dk_156 0 7 (dk_at dksJ21_put_2_8 21 rfl rfl)
theorem dJ21_put_2_211 : decode cJ21_put_2 211 = .ok (.iconst 1, 1) := dk_4 (dk_at dksJ21_put_2_9 0 rfl rfl)
theorem dJ21_put_2_212 : decode cJ21_put_2 212 = .ok (.goto 4, 3) := dk_167 0 4 (dk_at dksJ21_put_2_9 1 rfl rfl)
theorem dJ21_put_2_215 : decode cJ21_put_2 215 = .ok (.iconst 0, 1) := dk_3 (dk_at dksJ21_put_2_9 4 rfl rfl)
theorem dJ21_put_2_216 : decode cJ21_put_2 216 = .ok (.invokevirtual 139, 3) := dk_182 0 139 (dk_at dksJ21_put_2_9 5 rfl rfl)
theorem dJ21_put_2_219 : decode cJ21_put_2 219 = .ok (.aconst_null, 1) := dk_1 (dk_at dksJ21_put_2_9 8 rfl rfl)
theorem dJ21_put_2_220 : decode cJ21_put_2 220 = .ok (.areturn, 1) := dk_176 (dk_at dksJ21_put_2_9 9 rfl rfl)
abbrev cJ21_addEntryToEmptyMap : ByteArray := prog_70_method_30_code
def yJ21_addEntryToEmptyMap : MethodName := ⟨RJ21, "addEntryToEmptyMap", "(Ljava/lang/Object;Ljava/lang/Object;)V"⟩
def dkwJ21_addEntryToEmptyMap_1 : List UInt8 := [181, 0, 7, 42, 89, 180, 0, 13, 4, 96, 181, 0, 13, 177]
abbrev dktJ21_addEntryToEmptyMap_1 : List UInt8 := dkwJ21_addEntryToEmptyMap_1 ++ []
def dkwJ21_addEntryToEmptyMap_0 : List UInt8 := [42, 43, 43, 182, 0, 123, 87, 42, 187, 0, 59, 89, 43, 44, 1, 183, 0, 167, 181, 0, 101, 42, 4]
abbrev dktJ21_addEntryToEmptyMap_0 : List UInt8 := dkwJ21_addEntryToEmptyMap_0 ++ dktJ21_addEntryToEmptyMap_1
theorem dksJ21_addEntryToEmptyMap_0 : cJ21_addEntryToEmptyMap.data.toList.drop 0 = dktJ21_addEntryToEmptyMap_0 := by decide +kernel
theorem dksJ21_addEntryToEmptyMap_1 : cJ21_addEntryToEmptyMap.data.toList.drop 23 = dktJ21_addEntryToEmptyMap_1 := dk_seg dksJ21_addEntryToEmptyMap_0 23 rfl rfl
theorem dJ21_addEntryToEmptyMap_0 : decode cJ21_addEntryToEmptyMap 0 = .ok (.aload_n 0, 1) := dk_42 (dk_at dksJ21_addEntryToEmptyMap_0 0 rfl rfl)
theorem dJ21_addEntryToEmptyMap_1 : decode cJ21_addEntryToEmptyMap 1 = .ok (.aload_n 1, 1) := dk_43 (dk_at dksJ21_addEntryToEmptyMap_0 1 rfl rfl)
theorem dJ21_addEntryToEmptyMap_2 : decode cJ21_addEntryToEmptyMap 2 = .ok (.aload_n 1, 1) := dk_43 (dk_at dksJ21_addEntryToEmptyMap_0 2 rfl rfl)
theorem dJ21_addEntryToEmptyMap_3 : decode cJ21_addEntryToEmptyMap 3 = .ok (.invokevirtual 123, 3) := dk_182 0 123 (dk_at dksJ21_addEntryToEmptyMap_0 3 rfl rfl)
theorem dJ21_addEntryToEmptyMap_6 : decode cJ21_addEntryToEmptyMap 6 = .ok (.pop, 1) := dk_87 (dk_at dksJ21_addEntryToEmptyMap_0 6 rfl rfl)
theorem dJ21_addEntryToEmptyMap_7 : decode cJ21_addEntryToEmptyMap 7 = .ok (.aload_n 0, 1) := dk_42 (dk_at dksJ21_addEntryToEmptyMap_0 7 rfl rfl)
theorem dJ21_addEntryToEmptyMap_8 : decode cJ21_addEntryToEmptyMap 8 = .ok (.new 59, 3) := dk_187 0 59 (dk_at dksJ21_addEntryToEmptyMap_0 8 rfl rfl)
theorem dJ21_addEntryToEmptyMap_11 : decode cJ21_addEntryToEmptyMap 11 = .ok (.dup, 1) := dk_89 (dk_at dksJ21_addEntryToEmptyMap_0 11 rfl rfl)
theorem dJ21_addEntryToEmptyMap_12 : decode cJ21_addEntryToEmptyMap 12 = .ok (.aload_n 1, 1) := dk_43 (dk_at dksJ21_addEntryToEmptyMap_0 12 rfl rfl)
theorem dJ21_addEntryToEmptyMap_13 : decode cJ21_addEntryToEmptyMap 13 = .ok (.aload_n 2, 1) := dk_44 (dk_at dksJ21_addEntryToEmptyMap_0 13 rfl rfl)
theorem dJ21_addEntryToEmptyMap_14 : decode cJ21_addEntryToEmptyMap 14 = .ok (.aconst_null, 1) := dk_1 (dk_at dksJ21_addEntryToEmptyMap_0 14 rfl rfl)
theorem dJ21_addEntryToEmptyMap_15 : decode cJ21_addEntryToEmptyMap 15 = .ok (.invokespecial 167, 3) := dk_183 0 167 (dk_at dksJ21_addEntryToEmptyMap_0 15 rfl rfl)
theorem dJ21_addEntryToEmptyMap_18 : decode cJ21_addEntryToEmptyMap 18 = .ok (.putfield 101, 3) := dk_181 0 101 (dk_at dksJ21_addEntryToEmptyMap_0 18 rfl rfl)
theorem dJ21_addEntryToEmptyMap_21 : decode cJ21_addEntryToEmptyMap 21 = .ok (.aload_n 0, 1) := dk_42 (dk_at dksJ21_addEntryToEmptyMap_0 21 rfl rfl)
theorem dJ21_addEntryToEmptyMap_22 : decode cJ21_addEntryToEmptyMap 22 = .ok (.iconst 1, 1) := dk_4 (dk_at dksJ21_addEntryToEmptyMap_0 22 rfl rfl)
theorem dJ21_addEntryToEmptyMap_23 : decode cJ21_addEntryToEmptyMap 23 = .ok (.putfield 7, 3) := dk_181 0 7 (dk_at dksJ21_addEntryToEmptyMap_1 0 rfl rfl)
theorem dJ21_addEntryToEmptyMap_26 : decode cJ21_addEntryToEmptyMap 26 = .ok (.aload_n 0, 1) := dk_42 (dk_at dksJ21_addEntryToEmptyMap_1 3 rfl rfl)
theorem dJ21_addEntryToEmptyMap_27 : decode cJ21_addEntryToEmptyMap 27 = .ok (.dup, 1) := dk_89 (dk_at dksJ21_addEntryToEmptyMap_1 4 rfl rfl)
theorem dJ21_addEntryToEmptyMap_28 : decode cJ21_addEntryToEmptyMap 28 = .ok (.getfield 13, 3) := dk_180 0 13 (dk_at dksJ21_addEntryToEmptyMap_1 5 rfl rfl)
theorem dJ21_addEntryToEmptyMap_31 : decode cJ21_addEntryToEmptyMap 31 = .ok (.iconst 1, 1) := dk_4 (dk_at dksJ21_addEntryToEmptyMap_1 8 rfl rfl)
theorem dJ21_addEntryToEmptyMap_32 : decode cJ21_addEntryToEmptyMap 32 = .ok (.iadd, 1) := dk_96 (dk_at dksJ21_addEntryToEmptyMap_1 9 rfl rfl)
theorem dJ21_addEntryToEmptyMap_33 : decode cJ21_addEntryToEmptyMap 33 = .ok (.putfield 13, 3) := dk_181 0 13 (dk_at dksJ21_addEntryToEmptyMap_1 10 rfl rfl)
theorem dJ21_addEntryToEmptyMap_36 : decode cJ21_addEntryToEmptyMap 36 = .ok (.return_, 1) := dk_177 (dk_at dksJ21_addEntryToEmptyMap_1 13 rfl rfl)
abbrev cJ21_compare : ByteArray := prog_70_method_67_code
def yJ21_compare : MethodName := ⟨RJ21, "compare", "(Ljava/lang/Object;Ljava/lang/Object;)I"⟩
def dkwJ21_compare_1 : List UInt8 := [43, 44, 185, 0, 117, 3, 0, 172]
abbrev dktJ21_compare_1 : List UInt8 := dkwJ21_compare_1 ++ []
def dkwJ21_compare_0 : List UInt8 := [42, 180, 0, 16, 199, 0, 16, 43, 192, 0, 99, 44, 185, 0, 107, 2, 0, 167, 0, 14, 42, 180, 0, 16]
abbrev dktJ21_compare_0 : List UInt8 := dkwJ21_compare_0 ++ dktJ21_compare_1
theorem dksJ21_compare_0 : cJ21_compare.data.toList.drop 0 = dktJ21_compare_0 := by decide +kernel
theorem dksJ21_compare_1 : cJ21_compare.data.toList.drop 24 = dktJ21_compare_1 := dk_seg dksJ21_compare_0 24 rfl rfl
theorem dJ21_compare_0 : decode cJ21_compare 0 = .ok (.aload_n 0, 1) := dk_42 (dk_at dksJ21_compare_0 0 rfl rfl)
theorem dJ21_compare_1 : decode cJ21_compare 1 = .ok (.getfield 16, 3) := dk_180 0 16 (dk_at dksJ21_compare_0 1 rfl rfl)
theorem dJ21_compare_4 : decode cJ21_compare 4 = .ok (.ifnonnull 16, 3) := dk_199 0 16 (dk_at dksJ21_compare_0 4 rfl rfl)
theorem dJ21_compare_7 : decode cJ21_compare 7 = .ok (.aload_n 1, 1) := dk_43 (dk_at dksJ21_compare_0 7 rfl rfl)
theorem dJ21_compare_8 : decode cJ21_compare 8 = .ok (.checkcast 99, 3) := dk_192 0 99 (dk_at dksJ21_compare_0 8 rfl rfl)
theorem dJ21_compare_11 : decode cJ21_compare 11 = .ok (.aload_n 2, 1) := dk_44 (dk_at dksJ21_compare_0 11 rfl rfl)
theorem dJ21_compare_12 : decode cJ21_compare 12 = .ok (.invokeinterface 107 2, 5) := by decide +kernel
theorem dJ21_compare_17 : decode cJ21_compare 17 = .ok (.goto 14, 3) := dk_167 0 14 (dk_at dksJ21_compare_0 17 rfl rfl)
theorem dJ21_compare_20 : decode cJ21_compare 20 = .ok (.aload_n 0, 1) := dk_42 (dk_at dksJ21_compare_0 20 rfl rfl)
theorem dJ21_compare_21 : decode cJ21_compare 21 = .ok (.getfield 16, 3) := dk_180 0 16 (dk_at dksJ21_compare_0 21 rfl rfl)
theorem dJ21_compare_24 : decode cJ21_compare 24 = .ok (.aload_n 1, 1) := dk_43 (dk_at dksJ21_compare_1 0 rfl rfl)
theorem dJ21_compare_25 : decode cJ21_compare 25 = .ok (.aload_n 2, 1) := dk_44 (dk_at dksJ21_compare_1 1 rfl rfl)
theorem dJ21_compare_26 : decode cJ21_compare 26 = .ok (.invokeinterface 117 3, 5) := by decide +kernel
theorem dJ21_compare_31 : decode cJ21_compare 31 = .ok (.ireturn, 1) := dk_172 (dk_at dksJ21_compare_1 7 rfl rfl)
abbrev cJ21_addEntry : ByteArray := prog_70_method_29_code
def yJ21_addEntry : MethodName := ⟨RJ21, "addEntry", "(Ljava/lang/Object;Ljava/lang/Object;Ljava/util/TreeMap$Entry;Z)V"⟩
def dkwJ21_addEntry_2 : List UInt8 := [181, 0, 7, 42, 89, 180, 0, 13, 4, 96, 181, 0, 13, 177]
abbrev dktJ21_addEntry_2 : List UInt8 := dkwJ21_addEntry_2 ++ []
def dkwJ21_addEntry_1 : List UInt8 := [167, 0, 9, 45, 25, 5, 181, 0, 114, 42, 25, 5, 182, 0, 170, 42, 89, 180, 0, 7, 4, 96]
abbrev dktJ21_addEntry_1 : List UInt8 := dkwJ21_addEntry_1 ++ dktJ21_addEntry_2
def dkwJ21_addEntry_0 : List UInt8 := [187, 0, 59, 89, 43, 44, 45, 183, 0, 167, 58, 5, 21, 4, 153, 0, 12, 45, 25, 5, 181, 0, 111]
abbrev dktJ21_addEntry_0 : List UInt8 := dkwJ21_addEntry_0 ++ dktJ21_addEntry_1
theorem dksJ21_addEntry_0 : cJ21_addEntry.data.toList.drop 0 = dktJ21_addEntry_0 := by decide +kernel
theorem dksJ21_addEntry_1 : cJ21_addEntry.data.toList.drop 23 = dktJ21_addEntry_1 := dk_seg dksJ21_addEntry_0 23 rfl rfl
theorem dksJ21_addEntry_2 : cJ21_addEntry.data.toList.drop 45 = dktJ21_addEntry_2 := dk_seg dksJ21_addEntry_1 22 rfl rfl
theorem dJ21_addEntry_0 : decode cJ21_addEntry 0 = .ok (.new 59, 3) := dk_187 0 59 (dk_at dksJ21_addEntry_0 0 rfl rfl)
theorem dJ21_addEntry_3 : decode cJ21_addEntry 3 = .ok (.dup, 1) := dk_89 (dk_at dksJ21_addEntry_0 3 rfl rfl)
theorem dJ21_addEntry_4 : decode cJ21_addEntry 4 = .ok (.aload_n 1, 1) := dk_43 (dk_at dksJ21_addEntry_0 4 rfl rfl)
theorem dJ21_addEntry_5 : decode cJ21_addEntry 5 = .ok (.aload_n 2, 1) := dk_44 (dk_at dksJ21_addEntry_0 5 rfl rfl)
theorem dJ21_addEntry_6 : decode cJ21_addEntry 6 = .ok (.aload_n 3, 1) := dk_45 (dk_at dksJ21_addEntry_0 6 rfl rfl)
theorem dJ21_addEntry_7 : decode cJ21_addEntry 7 = .ok (.invokespecial 167, 3) := dk_183 0 167 (dk_at dksJ21_addEntry_0 7 rfl rfl)
theorem dJ21_addEntry_10 : decode cJ21_addEntry 10 = .ok (.astore 5, 2) := dk_58 5 (dk_at dksJ21_addEntry_0 10 rfl rfl)
theorem dJ21_addEntry_12 : decode cJ21_addEntry 12 = .ok (.iload 4, 2) := dk_21 4 (dk_at dksJ21_addEntry_0 12 rfl rfl)
theorem dJ21_addEntry_14 : decode cJ21_addEntry 14 = .ok (.ifCond .eq 12, 3) := dk_153 0 12 (dk_at dksJ21_addEntry_0 14 rfl rfl)
theorem dJ21_addEntry_17 : decode cJ21_addEntry 17 = .ok (.aload_n 3, 1) := dk_45 (dk_at dksJ21_addEntry_0 17 rfl rfl)
theorem dJ21_addEntry_18 : decode cJ21_addEntry 18 = .ok (.aload 5, 2) := dk_25 5 (dk_at dksJ21_addEntry_0 18 rfl rfl)
theorem dJ21_addEntry_20 : decode cJ21_addEntry 20 = .ok (.putfield 111, 3) := dk_181 0 111 (dk_at dksJ21_addEntry_0 20 rfl rfl)
theorem dJ21_addEntry_23 : decode cJ21_addEntry 23 = .ok (.goto 9, 3) := dk_167 0 9 (dk_at dksJ21_addEntry_1 0 rfl rfl)
theorem dJ21_addEntry_26 : decode cJ21_addEntry 26 = .ok (.aload_n 3, 1) := dk_45 (dk_at dksJ21_addEntry_1 3 rfl rfl)
theorem dJ21_addEntry_27 : decode cJ21_addEntry 27 = .ok (.aload 5, 2) := dk_25 5 (dk_at dksJ21_addEntry_1 4 rfl rfl)
theorem dJ21_addEntry_29 : decode cJ21_addEntry 29 = .ok (.putfield 114, 3) := dk_181 0 114 (dk_at dksJ21_addEntry_1 6 rfl rfl)
theorem dJ21_addEntry_32 : decode cJ21_addEntry 32 = .ok (.aload_n 0, 1) := dk_42 (dk_at dksJ21_addEntry_1 9 rfl rfl)
theorem dJ21_addEntry_33 : decode cJ21_addEntry 33 = .ok (.aload 5, 2) := dk_25 5 (dk_at dksJ21_addEntry_1 10 rfl rfl)
theorem dJ21_addEntry_35 : decode cJ21_addEntry 35 = .ok (.invokevirtual 170, 3) := dk_182 0 170 (dk_at dksJ21_addEntry_1 12 rfl rfl)
theorem dJ21_addEntry_38 : decode cJ21_addEntry 38 = .ok (.aload_n 0, 1) := dk_42 (dk_at dksJ21_addEntry_1 15 rfl rfl)
theorem dJ21_addEntry_39 : decode cJ21_addEntry 39 = .ok (.dup, 1) := dk_89 (dk_at dksJ21_addEntry_1 16 rfl rfl)
theorem dJ21_addEntry_40 : decode cJ21_addEntry 40 = .ok (.getfield 7, 3) := dk_180 0 7 (dk_at dksJ21_addEntry_1 17 rfl rfl)
theorem dJ21_addEntry_43 : decode cJ21_addEntry 43 = .ok (.iconst 1, 1) := dk_4 (dk_at dksJ21_addEntry_1 20 rfl rfl)
theorem dJ21_addEntry_44 : decode cJ21_addEntry 44 = .ok (.iadd, 1) := dk_96 (dk_at dksJ21_addEntry_1 21 rfl rfl)
theorem dJ21_addEntry_45 : decode cJ21_addEntry 45 = .ok (.putfield 7, 3) := dk_181 0 7 (dk_at dksJ21_addEntry_2 0 rfl rfl)
theorem dJ21_addEntry_48 : decode cJ21_addEntry 48 = .ok (.aload_n 0, 1) := dk_42 (dk_at dksJ21_addEntry_2 3 rfl rfl)
theorem dJ21_addEntry_49 : decode cJ21_addEntry 49 = .ok (.dup, 1) := dk_89 (dk_at dksJ21_addEntry_2 4 rfl rfl)
theorem dJ21_addEntry_50 : decode cJ21_addEntry 50 = .ok (.getfield 13, 3) := dk_180 0 13 (dk_at dksJ21_addEntry_2 5 rfl rfl)
theorem dJ21_addEntry_53 : decode cJ21_addEntry 53 = .ok (.iconst 1, 1) := dk_4 (dk_at dksJ21_addEntry_2 8 rfl rfl)
theorem dJ21_addEntry_54 : decode cJ21_addEntry 54 = .ok (.iadd, 1) := dk_96 (dk_at dksJ21_addEntry_2 9 rfl rfl)
theorem dJ21_addEntry_55 : decode cJ21_addEntry 55 = .ok (.putfield 13, 3) := dk_181 0 13 (dk_at dksJ21_addEntry_2 10 rfl rfl)
theorem dJ21_addEntry_58 : decode cJ21_addEntry 58 = .ok (.return_, 1) := dk_177 (dk_at dksJ21_addEntry_2 13 rfl rfl)
abbrev cJ21_fixAfterInsertion : ByteArray := prog_70_method_83_code
def yJ21_fixAfterInsertion : MethodName := ⟨RJ21, "fixAfterInsertion", "(Ljava/util/TreeMap$Entry;)V"⟩
def dkwJ21_fixAfterInsertion_11 : List UInt8 := [42, 180, 0, 101, 4, 181, 1, 34, 177]
abbrev dktJ21_fixAfterInsertion_11 : List UInt8 := dkwJ21_fixAfterInsertion_11 ++ []
def dkwJ21_fixAfterInsertion_10 : List UInt8 := [184, 1, 38, 184, 1, 38, 3, 184, 1, 51, 42, 43, 184, 1, 38, 184, 1, 38, 182, 1, 55, 167, 255, 6]
abbrev dktJ21_fixAfterInsertion_10 : List UInt8 := dkwJ21_fixAfterInsertion_10 ++ dktJ21_fixAfterInsertion_11
def dkwJ21_fixAfterInsertion_9 : List UInt8 := [166, 0, 13, 43, 184, 1, 38, 76, 42, 43, 182, 1, 58, 43, 184, 1, 38, 4, 184, 1, 51, 43]
abbrev dktJ21_fixAfterInsertion_9 : List UInt8 := dkwJ21_fixAfterInsertion_9 ++ dktJ21_fixAfterInsertion_10
def dkwJ21_fixAfterInsertion_8 : List UInt8 := [184, 1, 51, 43, 184, 1, 38, 184, 1, 38, 76, 167, 0, 54, 43, 43, 184, 1, 38, 184, 1, 41]
abbrev dktJ21_fixAfterInsertion_8 : List UInt8 := dkwJ21_fixAfterInsertion_8 ++ dktJ21_fixAfterInsertion_9
def dkwJ21_fixAfterInsertion_7 : List UInt8 := [154, 0, 38, 43, 184, 1, 38, 4, 184, 1, 51, 44, 4, 184, 1, 51, 43, 184, 1, 38, 184, 1, 38, 3]
abbrev dktJ21_fixAfterInsertion_7 : List UInt8 := dkwJ21_fixAfterInsertion_7 ++ dktJ21_fixAfterInsertion_8
def dkwJ21_fixAfterInsertion_6 : List UInt8 := [184, 1, 38, 182, 1, 58, 167, 255, 113, 43, 184, 1, 38, 184, 1, 38, 184, 1, 41, 77, 44, 184, 1, 47]
abbrev dktJ21_fixAfterInsertion_6 : List UInt8 := dkwJ21_fixAfterInsertion_6 ++ dktJ21_fixAfterInsertion_7
def dkwJ21_fixAfterInsertion_5 : List UInt8 := [43, 184, 1, 38, 4, 184, 1, 51, 43, 184, 1, 38, 184, 1, 38, 3, 184, 1, 51, 42, 43, 184, 1, 38]
abbrev dktJ21_fixAfterInsertion_5 : List UInt8 := dkwJ21_fixAfterInsertion_5 ++ dktJ21_fixAfterInsertion_6
def dkwJ21_fixAfterInsertion_4 : List UInt8 := [167, 0, 54, 43, 43, 184, 1, 38, 184, 1, 44, 166, 0, 13, 43, 184, 1, 38, 76, 42, 43, 182, 1, 55]
abbrev dktJ21_fixAfterInsertion_4 : List UInt8 := dkwJ21_fixAfterInsertion_4 ++ dktJ21_fixAfterInsertion_5
def dkwJ21_fixAfterInsertion_3 : List UInt8 := [184, 1, 51, 43, 184, 1, 38, 184, 1, 38, 3, 184, 1, 51, 43, 184, 1, 38, 184, 1, 38, 76]
abbrev dktJ21_fixAfterInsertion_3 : List UInt8 := dkwJ21_fixAfterInsertion_3 ++ dktJ21_fixAfterInsertion_4
def dkwJ21_fixAfterInsertion_2 : List UInt8 := [184, 1, 38, 184, 1, 44, 77, 44, 184, 1, 47, 154, 0, 38, 43, 184, 1, 38, 4, 184, 1, 51, 44, 4]
abbrev dktJ21_fixAfterInsertion_2 : List UInt8 := dkwJ21_fixAfterInsertion_2 ++ dktJ21_fixAfterInsertion_3
def dkwJ21_fixAfterInsertion_1 : List UInt8 := [154, 0, 234, 43, 184, 1, 38, 43, 184, 1, 38, 184, 1, 38, 184, 1, 41, 166, 0, 110, 43, 184, 1, 38]
abbrev dktJ21_fixAfterInsertion_1 : List UInt8 := dkwJ21_fixAfterInsertion_1 ++ dktJ21_fixAfterInsertion_2
def dkwJ21_fixAfterInsertion_0 : List UInt8 := [43, 3, 181, 1, 34, 43, 198, 0, 252, 43, 42, 180, 0, 101, 165, 0, 244, 43, 180, 0, 124, 180, 1, 34]
abbrev dktJ21_fixAfterInsertion_0 : List UInt8 := dkwJ21_fixAfterInsertion_0 ++ dktJ21_fixAfterInsertion_1
theorem dksJ21_fixAfterInsertion_0 : cJ21_fixAfterInsertion.data.toList.drop 0 = dktJ21_fixAfterInsertion_0 := by decide +kernel
theorem dksJ21_fixAfterInsertion_1 : cJ21_fixAfterInsertion.data.toList.drop 24 = dktJ21_fixAfterInsertion_1 := dk_seg dksJ21_fixAfterInsertion_0 24 rfl rfl
theorem dksJ21_fixAfterInsertion_2 : cJ21_fixAfterInsertion.data.toList.drop 48 = dktJ21_fixAfterInsertion_2 := dk_seg dksJ21_fixAfterInsertion_1 24 rfl rfl
theorem dksJ21_fixAfterInsertion_3 : cJ21_fixAfterInsertion.data.toList.drop 72 = dktJ21_fixAfterInsertion_3 := dk_seg dksJ21_fixAfterInsertion_2 24 rfl rfl
theorem dksJ21_fixAfterInsertion_4 : cJ21_fixAfterInsertion.data.toList.drop 94 = dktJ21_fixAfterInsertion_4 := dk_seg dksJ21_fixAfterInsertion_3 22 rfl rfl
theorem dksJ21_fixAfterInsertion_5 : cJ21_fixAfterInsertion.data.toList.drop 118 = dktJ21_fixAfterInsertion_5 := dk_seg dksJ21_fixAfterInsertion_4 24 rfl rfl
theorem dksJ21_fixAfterInsertion_6 : cJ21_fixAfterInsertion.data.toList.drop 142 = dktJ21_fixAfterInsertion_6 := dk_seg dksJ21_fixAfterInsertion_5 24 rfl rfl
theorem dksJ21_fixAfterInsertion_7 : cJ21_fixAfterInsertion.data.toList.drop 166 = dktJ21_fixAfterInsertion_7 := dk_seg dksJ21_fixAfterInsertion_6 24 rfl rfl
theorem dksJ21_fixAfterInsertion_8 : cJ21_fixAfterInsertion.data.toList.drop 190 = dktJ21_fixAfterInsertion_8 := dk_seg dksJ21_fixAfterInsertion_7 24 rfl rfl
theorem dksJ21_fixAfterInsertion_9 : cJ21_fixAfterInsertion.data.toList.drop 212 = dktJ21_fixAfterInsertion_9 := dk_seg dksJ21_fixAfterInsertion_8 22 rfl rfl
theorem dksJ21_fixAfterInsertion_10 : cJ21_fixAfterInsertion.data.toList.drop 234 = dktJ21_fixAfterInsertion_10 := dk_seg dksJ21_fixAfterInsertion_9 22 rfl rfl
theorem dksJ21_fixAfterInsertion_11 : cJ21_fixAfterInsertion.data.toList.drop 258 = dktJ21_fixAfterInsertion_11 := dk_seg dksJ21_fixAfterInsertion_10 24 rfl rfl
theorem dJ21_fixAfterInsertion_0 : decode cJ21_fixAfterInsertion 0 = .ok (.aload_n 1, 1) := dk_43 (dk_at dksJ21_fixAfterInsertion_0 0 rfl rfl)
theorem dJ21_fixAfterInsertion_1 : decode cJ21_fixAfterInsertion 1 = .ok (.iconst 0, 1) := dk_3 (dk_at dksJ21_fixAfterInsertion_0 1 rfl rfl)
theorem dJ21_fixAfterInsertion_2 : decode cJ21_fixAfterInsertion 2 = .ok (.putfield 290, 3) := dk_181 1 34 (dk_at dksJ21_fixAfterInsertion_0 2 rfl rfl)
theorem dJ21_fixAfterInsertion_5 : decode cJ21_fixAfterInsertion 5 = .ok (.aload_n 1, 1) := dk_43 (dk_at dksJ21_fixAfterInsertion_0 5 rfl rfl)
theorem dJ21_fixAfterInsertion_6 : decode cJ21_fixAfterInsertion 6 = .ok (.ifnull 252, 3) := dk_198 0 252 (dk_at dksJ21_fixAfterInsertion_0 6 rfl rfl)
theorem dJ21_fixAfterInsertion_9 : decode cJ21_fixAfterInsertion 9 = .ok (.aload_n 1, 1) := dk_43 (dk_at dksJ21_fixAfterInsertion_0 9 rfl rfl)
theorem dJ21_fixAfterInsertion_10 : decode cJ21_fixAfterInsertion 10 = .ok (.aload_n 0, 1) := dk_42 (dk_at dksJ21_fixAfterInsertion_0 10 rfl rfl)
theorem dJ21_fixAfterInsertion_11 : decode cJ21_fixAfterInsertion 11 = .ok (.getfield 101, 3) := dk_180 0 101 (dk_at dksJ21_fixAfterInsertion_0 11 rfl rfl)
theorem dJ21_fixAfterInsertion_14 : decode cJ21_fixAfterInsertion 14 = .ok (.if_acmp .eq 244, 3) := dk_165 0 244 (dk_at dksJ21_fixAfterInsertion_0 14 rfl rfl)
theorem dJ21_fixAfterInsertion_17 : decode cJ21_fixAfterInsertion 17 = .ok (.aload_n 1, 1) := dk_43 (dk_at dksJ21_fixAfterInsertion_0 17 rfl rfl)
theorem dJ21_fixAfterInsertion_18 : decode cJ21_fixAfterInsertion 18 = .ok (.getfield 124, 3) := dk_180 0 124 (dk_at dksJ21_fixAfterInsertion_0 18 rfl rfl)
theorem dJ21_fixAfterInsertion_21 : decode cJ21_fixAfterInsertion 21 = .ok (.getfield 290, 3) := dk_180 1 34 (dk_at dksJ21_fixAfterInsertion_0 21 rfl rfl)
theorem dJ21_fixAfterInsertion_24 : decode cJ21_fixAfterInsertion 24 = .ok (.ifCond .ne 234, 3) := dk_154 0 234 (dk_at dksJ21_fixAfterInsertion_1 0 rfl rfl)
theorem dJ21_fixAfterInsertion_27 : decode cJ21_fixAfterInsertion 27 = .ok (.aload_n 1, 1) := dk_43 (dk_at dksJ21_fixAfterInsertion_1 3 rfl rfl)
theorem dJ21_fixAfterInsertion_28 : decode cJ21_fixAfterInsertion 28 = .ok (.invokestatic 294, 3) := dk_184 1 38 (dk_at dksJ21_fixAfterInsertion_1 4 rfl rfl)
theorem dJ21_fixAfterInsertion_31 : decode cJ21_fixAfterInsertion 31 = .ok (.aload_n 1, 1) := dk_43 (dk_at dksJ21_fixAfterInsertion_1 7 rfl rfl)
theorem dJ21_fixAfterInsertion_32 : decode cJ21_fixAfterInsertion 32 = .ok (.invokestatic 294, 3) := dk_184 1 38 (dk_at dksJ21_fixAfterInsertion_1 8 rfl rfl)
theorem dJ21_fixAfterInsertion_35 : decode cJ21_fixAfterInsertion 35 = .ok (.invokestatic 294, 3) := dk_184 1 38 (dk_at dksJ21_fixAfterInsertion_1 11 rfl rfl)
theorem dJ21_fixAfterInsertion_38 : decode cJ21_fixAfterInsertion 38 = .ok (.invokestatic 297, 3) := dk_184 1 41 (dk_at dksJ21_fixAfterInsertion_1 14 rfl rfl)
theorem dJ21_fixAfterInsertion_41 : decode cJ21_fixAfterInsertion 41 = .ok (.if_acmp .ne 110, 3) := dk_166 0 110 (dk_at dksJ21_fixAfterInsertion_1 17 rfl rfl)
theorem dJ21_fixAfterInsertion_44 : decode cJ21_fixAfterInsertion 44 = .ok (.aload_n 1, 1) := dk_43 (dk_at dksJ21_fixAfterInsertion_1 20 rfl rfl)
theorem dJ21_fixAfterInsertion_45 : decode cJ21_fixAfterInsertion 45 = .ok (.invokestatic 294, 3) := dk_184 1 38 (dk_at dksJ21_fixAfterInsertion_1 21 rfl rfl)
theorem dJ21_fixAfterInsertion_48 : decode cJ21_fixAfterInsertion 48 = .ok (.invokestatic 294, 3) := dk_184 1 38 (dk_at dksJ21_fixAfterInsertion_2 0 rfl rfl)
theorem dJ21_fixAfterInsertion_51 : decode cJ21_fixAfterInsertion 51 = .ok (.invokestatic 300, 3) := dk_184 1 44 (dk_at dksJ21_fixAfterInsertion_2 3 rfl rfl)
theorem dJ21_fixAfterInsertion_54 : decode cJ21_fixAfterInsertion 54 = .ok (.astore_n 2, 1) := dk_77 (dk_at dksJ21_fixAfterInsertion_2 6 rfl rfl)
theorem dJ21_fixAfterInsertion_55 : decode cJ21_fixAfterInsertion 55 = .ok (.aload_n 2, 1) := dk_44 (dk_at dksJ21_fixAfterInsertion_2 7 rfl rfl)
theorem dJ21_fixAfterInsertion_56 : decode cJ21_fixAfterInsertion 56 = .ok (.invokestatic 303, 3) := dk_184 1 47 (dk_at dksJ21_fixAfterInsertion_2 8 rfl rfl)
theorem dJ21_fixAfterInsertion_59 : decode cJ21_fixAfterInsertion 59 = .ok (.ifCond .ne 38, 3) := dk_154 0 38 (dk_at dksJ21_fixAfterInsertion_2 11 rfl rfl)
theorem dJ21_fixAfterInsertion_62 : decode cJ21_fixAfterInsertion 62 = .ok (.aload_n 1, 1) := dk_43 (dk_at dksJ21_fixAfterInsertion_2 14 rfl rfl)
theorem dJ21_fixAfterInsertion_63 : decode cJ21_fixAfterInsertion 63 = .ok (.invokestatic 294, 3) := dk_184 1 38 (dk_at dksJ21_fixAfterInsertion_2 15 rfl rfl)
theorem dJ21_fixAfterInsertion_66 : decode cJ21_fixAfterInsertion 66 = .ok (.iconst 1, 1) := dk_4 (dk_at dksJ21_fixAfterInsertion_2 18 rfl rfl)
theorem dJ21_fixAfterInsertion_67 : decode cJ21_fixAfterInsertion 67 = .ok (.invokestatic 307, 3) := dk_184 1 51 (dk_at dksJ21_fixAfterInsertion_2 19 rfl rfl)
theorem dJ21_fixAfterInsertion_70 : decode cJ21_fixAfterInsertion 70 = .ok (.aload_n 2, 1) := dk_44 (dk_at dksJ21_fixAfterInsertion_2 22 rfl rfl)
theorem dJ21_fixAfterInsertion_71 : decode cJ21_fixAfterInsertion 71 = .ok (.iconst 1, 1) := dk_4 (dk_at dksJ21_fixAfterInsertion_2 23 rfl rfl)
theorem dJ21_fixAfterInsertion_72 : decode cJ21_fixAfterInsertion 72 = .ok (.invokestatic 307, 3) := dk_184 1 51 (dk_at dksJ21_fixAfterInsertion_3 0 rfl rfl)
theorem dJ21_fixAfterInsertion_75 : decode cJ21_fixAfterInsertion 75 = .ok (.aload_n 1, 1) := dk_43 (dk_at dksJ21_fixAfterInsertion_3 3 rfl rfl)
theorem dJ21_fixAfterInsertion_76 : decode cJ21_fixAfterInsertion 76 = .ok (.invokestatic 294, 3) := dk_184 1 38 (dk_at dksJ21_fixAfterInsertion_3 4 rfl rfl)
theorem dJ21_fixAfterInsertion_79 : decode cJ21_fixAfterInsertion 79 = .ok (.invokestatic 294, 3) := dk_184 1 38 (dk_at dksJ21_fixAfterInsertion_3 7 rfl rfl)
theorem dJ21_fixAfterInsertion_82 : decode cJ21_fixAfterInsertion 82 = .ok (.iconst 0, 1) := dk_3 (dk_at dksJ21_fixAfterInsertion_3 10 rfl rfl)
theorem dJ21_fixAfterInsertion_83 : decode cJ21_fixAfterInsertion 83 = .ok (.invokestatic 307, 3) := dk_184 1 51 (dk_at dksJ21_fixAfterInsertion_3 11 rfl rfl)
theorem dJ21_fixAfterInsertion_86 : decode cJ21_fixAfterInsertion 86 = .ok (.aload_n 1, 1) := dk_43 (dk_at dksJ21_fixAfterInsertion_3 14 rfl rfl)
theorem dJ21_fixAfterInsertion_87 : decode cJ21_fixAfterInsertion 87 = .ok (.invokestatic 294, 3) := dk_184 1 38 (dk_at dksJ21_fixAfterInsertion_3 15 rfl rfl)
theorem dJ21_fixAfterInsertion_90 : decode cJ21_fixAfterInsertion 90 = .ok (.invokestatic 294, 3) := dk_184 1 38 (dk_at dksJ21_fixAfterInsertion_3 18 rfl rfl)
theorem dJ21_fixAfterInsertion_93 : decode cJ21_fixAfterInsertion 93 = .ok (.astore_n 1, 1) := dk_76 (dk_at dksJ21_fixAfterInsertion_3 21 rfl rfl)
theorem dJ21_fixAfterInsertion_94 : decode cJ21_fixAfterInsertion 94 = .ok (.goto 54, 3) := dk_167 0 54 (dk_at dksJ21_fixAfterInsertion_4 0 rfl rfl)
theorem dJ21_fixAfterInsertion_97 : decode cJ21_fixAfterInsertion 97 = .ok (.aload_n 1, 1) := dk_43 (dk_at dksJ21_fixAfterInsertion_4 3 rfl rfl)
theorem dJ21_fixAfterInsertion_98 : decode cJ21_fixAfterInsertion 98 = .ok (.aload_n 1, 1) := dk_43 (dk_at dksJ21_fixAfterInsertion_4 4 rfl rfl)
theorem dJ21_fixAfterInsertion_99 : decode cJ21_fixAfterInsertion 99 = .ok (.invokestatic 294, 3) := dk_184 1 38 (dk_at dksJ21_fixAfterInsertion_4 5 rfl rfl)
theorem dJ21_fixAfterInsertion_102 : decode cJ21_fixAfterInsertion 102 = .ok (.invokestatic 300, 3) := dk_184 1 44 (dk_at dksJ21_fixAfterInsertion_4 8 rfl rfl)
theorem dJ21_fixAfterInsertion_105 : decode cJ21_fixAfterInsertion 105 = .ok (.if_acmp .ne 13, 3) := dk_166 0 13 (dk_at dksJ21_fixAfterInsertion_4 11 rfl rfl)
theorem dJ21_fixAfterInsertion_108 : decode cJ21_fixAfterInsertion 108 = .ok (.aload_n 1, 1) := dk_43 (dk_at dksJ21_fixAfterInsertion_4 14 rfl rfl)
theorem dJ21_fixAfterInsertion_109 : decode cJ21_fixAfterInsertion 109 = .ok (.invokestatic 294, 3) := dk_184 1 38 (dk_at dksJ21_fixAfterInsertion_4 15 rfl rfl)
theorem dJ21_fixAfterInsertion_112 : decode cJ21_fixAfterInsertion 112 = .ok (.astore_n 1, 1) := dk_76 (dk_at dksJ21_fixAfterInsertion_4 18 rfl rfl)
theorem dJ21_fixAfterInsertion_113 : decode cJ21_fixAfterInsertion 113 = .ok (.aload_n 0, 1) := dk_42 (dk_at dksJ21_fixAfterInsertion_4 19 rfl rfl)
theorem dJ21_fixAfterInsertion_114 : decode cJ21_fixAfterInsertion 114 = .ok (.aload_n 1, 1) := dk_43 (dk_at dksJ21_fixAfterInsertion_4 20 rfl rfl)
theorem dJ21_fixAfterInsertion_115 : decode cJ21_fixAfterInsertion 115 = .ok (.invokevirtual 311, 3) := dk_182 1 55 (dk_at dksJ21_fixAfterInsertion_4 21 rfl rfl)
theorem dJ21_fixAfterInsertion_118 : decode cJ21_fixAfterInsertion 118 = .ok (.aload_n 1, 1) := dk_43 (dk_at dksJ21_fixAfterInsertion_5 0 rfl rfl)
theorem dJ21_fixAfterInsertion_119 : decode cJ21_fixAfterInsertion 119 = .ok (.invokestatic 294, 3) := dk_184 1 38 (dk_at dksJ21_fixAfterInsertion_5 1 rfl rfl)
theorem dJ21_fixAfterInsertion_122 : decode cJ21_fixAfterInsertion 122 = .ok (.iconst 1, 1) := dk_4 (dk_at dksJ21_fixAfterInsertion_5 4 rfl rfl)
theorem dJ21_fixAfterInsertion_123 : decode cJ21_fixAfterInsertion 123 = .ok (.invokestatic 307, 3) := dk_184 1 51 (dk_at dksJ21_fixAfterInsertion_5 5 rfl rfl)
theorem dJ21_fixAfterInsertion_126 : decode cJ21_fixAfterInsertion 126 = .ok (.aload_n 1, 1) := dk_43 (dk_at dksJ21_fixAfterInsertion_5 8 rfl rfl)
theorem dJ21_fixAfterInsertion_127 : decode cJ21_fixAfterInsertion 127 = .ok (.invokestatic 294, 3) := dk_184 1 38 (dk_at dksJ21_fixAfterInsertion_5 9 rfl rfl)
theorem dJ21_fixAfterInsertion_130 : decode cJ21_fixAfterInsertion 130 = .ok (.invokestatic 294, 3) := dk_184 1 38 (dk_at dksJ21_fixAfterInsertion_5 12 rfl rfl)
theorem dJ21_fixAfterInsertion_133 : decode cJ21_fixAfterInsertion 133 = .ok (.iconst 0, 1) := dk_3 (dk_at dksJ21_fixAfterInsertion_5 15 rfl rfl)
theorem dJ21_fixAfterInsertion_134 : decode cJ21_fixAfterInsertion 134 = .ok (.invokestatic 307, 3) := dk_184 1 51 (dk_at dksJ21_fixAfterInsertion_5 16 rfl rfl)
theorem dJ21_fixAfterInsertion_137 : decode cJ21_fixAfterInsertion 137 = .ok (.aload_n 0, 1) := dk_42 (dk_at dksJ21_fixAfterInsertion_5 19 rfl rfl)
theorem dJ21_fixAfterInsertion_138 : decode cJ21_fixAfterInsertion 138 = .ok (.aload_n 1, 1) := dk_43 (dk_at dksJ21_fixAfterInsertion_5 20 rfl rfl)
theorem dJ21_fixAfterInsertion_139 : decode cJ21_fixAfterInsertion 139 = .ok (.invokestatic 294, 3) := dk_184 1 38 (dk_at dksJ21_fixAfterInsertion_5 21 rfl rfl)
theorem dJ21_fixAfterInsertion_142 : decode cJ21_fixAfterInsertion 142 = .ok (.invokestatic 294, 3) := dk_184 1 38 (dk_at dksJ21_fixAfterInsertion_6 0 rfl rfl)
theorem dJ21_fixAfterInsertion_145 : decode cJ21_fixAfterInsertion 145 = .ok (.invokevirtual 314, 3) := dk_182 1 58 (dk_at dksJ21_fixAfterInsertion_6 3 rfl rfl)
theorem dJ21_fixAfterInsertion_148 : decode cJ21_fixAfterInsertion 148 = .ok (.goto (-143), 3) := dk_167 255 113 (dk_at dksJ21_fixAfterInsertion_6 6 rfl rfl)
theorem dJ21_fixAfterInsertion_151 : decode cJ21_fixAfterInsertion 151 = .ok (.aload_n 1, 1) := dk_43 (dk_at dksJ21_fixAfterInsertion_6 9 rfl rfl)
theorem dJ21_fixAfterInsertion_152 : decode cJ21_fixAfterInsertion 152 = .ok (.invokestatic 294, 3) := dk_184 1 38 (dk_at dksJ21_fixAfterInsertion_6 10 rfl rfl)
theorem dJ21_fixAfterInsertion_155 : decode cJ21_fixAfterInsertion 155 = .ok (.invokestatic 294, 3) := dk_184 1 38 (dk_at dksJ21_fixAfterInsertion_6 13 rfl rfl)
theorem dJ21_fixAfterInsertion_158 : decode cJ21_fixAfterInsertion 158 = .ok (.invokestatic 297, 3) := dk_184 1 41 (dk_at dksJ21_fixAfterInsertion_6 16 rfl rfl)
theorem dJ21_fixAfterInsertion_161 : decode cJ21_fixAfterInsertion 161 = .ok (.astore_n 2, 1) := dk_77 (dk_at dksJ21_fixAfterInsertion_6 19 rfl rfl)
theorem dJ21_fixAfterInsertion_162 : decode cJ21_fixAfterInsertion 162 = .ok (.aload_n 2, 1) := dk_44 (dk_at dksJ21_fixAfterInsertion_6 20 rfl rfl)
theorem dJ21_fixAfterInsertion_163 : decode cJ21_fixAfterInsertion 163 = .ok (.invokestatic 303, 3) := dk_184 1 47 (dk_at dksJ21_fixAfterInsertion_6 21 rfl rfl)
theorem dJ21_fixAfterInsertion_166 : decode cJ21_fixAfterInsertion 166 = .ok (.ifCond .ne 38, 3) := dk_154 0 38 (dk_at dksJ21_fixAfterInsertion_7 0 rfl rfl)
theorem dJ21_fixAfterInsertion_169 : decode cJ21_fixAfterInsertion 169 = .ok (.aload_n 1, 1) := dk_43 (dk_at dksJ21_fixAfterInsertion_7 3 rfl rfl)
theorem dJ21_fixAfterInsertion_170 : decode cJ21_fixAfterInsertion 170 = .ok (.invokestatic 294, 3) := dk_184 1 38 (dk_at dksJ21_fixAfterInsertion_7 4 rfl rfl)
theorem dJ21_fixAfterInsertion_173 : decode cJ21_fixAfterInsertion 173 = .ok (.iconst 1, 1) := dk_4 (dk_at dksJ21_fixAfterInsertion_7 7 rfl rfl)
theorem dJ21_fixAfterInsertion_174 : decode cJ21_fixAfterInsertion 174 = .ok (.invokestatic 307, 3) := dk_184 1 51 (dk_at dksJ21_fixAfterInsertion_7 8 rfl rfl)
theorem dJ21_fixAfterInsertion_177 : decode cJ21_fixAfterInsertion 177 = .ok (.aload_n 2, 1) := dk_44 (dk_at dksJ21_fixAfterInsertion_7 11 rfl rfl)
theorem dJ21_fixAfterInsertion_178 : decode cJ21_fixAfterInsertion 178 = .ok (.iconst 1, 1) := dk_4 (dk_at dksJ21_fixAfterInsertion_7 12 rfl rfl)
theorem dJ21_fixAfterInsertion_179 : decode cJ21_fixAfterInsertion 179 = .ok (.invokestatic 307, 3) := dk_184 1 51 (dk_at dksJ21_fixAfterInsertion_7 13 rfl rfl)
theorem dJ21_fixAfterInsertion_182 : decode cJ21_fixAfterInsertion 182 = .ok (.aload_n 1, 1) := dk_43 (dk_at dksJ21_fixAfterInsertion_7 16 rfl rfl)
theorem dJ21_fixAfterInsertion_183 : decode cJ21_fixAfterInsertion 183 = .ok (.invokestatic 294, 3) := dk_184 1 38 (dk_at dksJ21_fixAfterInsertion_7 17 rfl rfl)
theorem dJ21_fixAfterInsertion_186 : decode cJ21_fixAfterInsertion 186 = .ok (.invokestatic 294, 3) := dk_184 1 38 (dk_at dksJ21_fixAfterInsertion_7 20 rfl rfl)
theorem dJ21_fixAfterInsertion_189 : decode cJ21_fixAfterInsertion 189 = .ok (.iconst 0, 1) := dk_3 (dk_at dksJ21_fixAfterInsertion_7 23 rfl rfl)
theorem dJ21_fixAfterInsertion_190 : decode cJ21_fixAfterInsertion 190 = .ok (.invokestatic 307, 3) := dk_184 1 51 (dk_at dksJ21_fixAfterInsertion_8 0 rfl rfl)
theorem dJ21_fixAfterInsertion_193 : decode cJ21_fixAfterInsertion 193 = .ok (.aload_n 1, 1) := dk_43 (dk_at dksJ21_fixAfterInsertion_8 3 rfl rfl)
theorem dJ21_fixAfterInsertion_194 : decode cJ21_fixAfterInsertion 194 = .ok (.invokestatic 294, 3) := dk_184 1 38 (dk_at dksJ21_fixAfterInsertion_8 4 rfl rfl)
theorem dJ21_fixAfterInsertion_197 : decode cJ21_fixAfterInsertion 197 = .ok (.invokestatic 294, 3) := dk_184 1 38 (dk_at dksJ21_fixAfterInsertion_8 7 rfl rfl)
theorem dJ21_fixAfterInsertion_200 : decode cJ21_fixAfterInsertion 200 = .ok (.astore_n 1, 1) := dk_76 (dk_at dksJ21_fixAfterInsertion_8 10 rfl rfl)
theorem dJ21_fixAfterInsertion_201 : decode cJ21_fixAfterInsertion 201 = .ok (.goto 54, 3) := dk_167 0 54 (dk_at dksJ21_fixAfterInsertion_8 11 rfl rfl)
theorem dJ21_fixAfterInsertion_204 : decode cJ21_fixAfterInsertion 204 = .ok (.aload_n 1, 1) := dk_43 (dk_at dksJ21_fixAfterInsertion_8 14 rfl rfl)
theorem dJ21_fixAfterInsertion_205 : decode cJ21_fixAfterInsertion 205 = .ok (.aload_n 1, 1) := dk_43 (dk_at dksJ21_fixAfterInsertion_8 15 rfl rfl)
theorem dJ21_fixAfterInsertion_206 : decode cJ21_fixAfterInsertion 206 = .ok (.invokestatic 294, 3) := dk_184 1 38 (dk_at dksJ21_fixAfterInsertion_8 16 rfl rfl)
theorem dJ21_fixAfterInsertion_209 : decode cJ21_fixAfterInsertion 209 = .ok (.invokestatic 297, 3) := dk_184 1 41 (dk_at dksJ21_fixAfterInsertion_8 19 rfl rfl)
theorem dJ21_fixAfterInsertion_212 : decode cJ21_fixAfterInsertion 212 = .ok (.if_acmp .ne 13, 3) := dk_166 0 13 (dk_at dksJ21_fixAfterInsertion_9 0 rfl rfl)
theorem dJ21_fixAfterInsertion_215 : decode cJ21_fixAfterInsertion 215 = .ok (.aload_n 1, 1) := dk_43 (dk_at dksJ21_fixAfterInsertion_9 3 rfl rfl)
theorem dJ21_fixAfterInsertion_216 : decode cJ21_fixAfterInsertion 216 = .ok (.invokestatic 294, 3) := dk_184 1 38 (dk_at dksJ21_fixAfterInsertion_9 4 rfl rfl)
theorem dJ21_fixAfterInsertion_219 : decode cJ21_fixAfterInsertion 219 = .ok (.astore_n 1, 1) := dk_76 (dk_at dksJ21_fixAfterInsertion_9 7 rfl rfl)
theorem dJ21_fixAfterInsertion_220 : decode cJ21_fixAfterInsertion 220 = .ok (.aload_n 0, 1) := dk_42 (dk_at dksJ21_fixAfterInsertion_9 8 rfl rfl)
theorem dJ21_fixAfterInsertion_221 : decode cJ21_fixAfterInsertion 221 = .ok (.aload_n 1, 1) := dk_43 (dk_at dksJ21_fixAfterInsertion_9 9 rfl rfl)
theorem dJ21_fixAfterInsertion_222 : decode cJ21_fixAfterInsertion 222 = .ok (.invokevirtual 314, 3) := dk_182 1 58 (dk_at dksJ21_fixAfterInsertion_9 10 rfl rfl)
theorem dJ21_fixAfterInsertion_225 : decode cJ21_fixAfterInsertion 225 = .ok (.aload_n 1, 1) := dk_43 (dk_at dksJ21_fixAfterInsertion_9 13 rfl rfl)
theorem dJ21_fixAfterInsertion_226 : decode cJ21_fixAfterInsertion 226 = .ok (.invokestatic 294, 3) := dk_184 1 38 (dk_at dksJ21_fixAfterInsertion_9 14 rfl rfl)
theorem dJ21_fixAfterInsertion_229 : decode cJ21_fixAfterInsertion 229 = .ok (.iconst 1, 1) := dk_4 (dk_at dksJ21_fixAfterInsertion_9 17 rfl rfl)
theorem dJ21_fixAfterInsertion_230 : decode cJ21_fixAfterInsertion 230 = .ok (.invokestatic 307, 3) := dk_184 1 51 (dk_at dksJ21_fixAfterInsertion_9 18 rfl rfl)
theorem dJ21_fixAfterInsertion_233 : decode cJ21_fixAfterInsertion 233 = .ok (.aload_n 1, 1) := dk_43 (dk_at dksJ21_fixAfterInsertion_9 21 rfl rfl)
theorem dJ21_fixAfterInsertion_234 : decode cJ21_fixAfterInsertion 234 = .ok (.invokestatic 294, 3) := dk_184 1 38 (dk_at dksJ21_fixAfterInsertion_10 0 rfl rfl)
theorem dJ21_fixAfterInsertion_237 : decode cJ21_fixAfterInsertion 237 = .ok (.invokestatic 294, 3) := dk_184 1 38 (dk_at dksJ21_fixAfterInsertion_10 3 rfl rfl)
theorem dJ21_fixAfterInsertion_240 : decode cJ21_fixAfterInsertion 240 = .ok (.iconst 0, 1) := dk_3 (dk_at dksJ21_fixAfterInsertion_10 6 rfl rfl)
theorem dJ21_fixAfterInsertion_241 : decode cJ21_fixAfterInsertion 241 = .ok (.invokestatic 307, 3) := dk_184 1 51 (dk_at dksJ21_fixAfterInsertion_10 7 rfl rfl)
theorem dJ21_fixAfterInsertion_244 : decode cJ21_fixAfterInsertion 244 = .ok (.aload_n 0, 1) := dk_42 (dk_at dksJ21_fixAfterInsertion_10 10 rfl rfl)
theorem dJ21_fixAfterInsertion_245 : decode cJ21_fixAfterInsertion 245 = .ok (.aload_n 1, 1) := dk_43 (dk_at dksJ21_fixAfterInsertion_10 11 rfl rfl)
theorem dJ21_fixAfterInsertion_246 : decode cJ21_fixAfterInsertion 246 = .ok (.invokestatic 294, 3) := dk_184 1 38 (dk_at dksJ21_fixAfterInsertion_10 12 rfl rfl)
theorem dJ21_fixAfterInsertion_249 : decode cJ21_fixAfterInsertion 249 = .ok (.invokestatic 294, 3) := dk_184 1 38 (dk_at dksJ21_fixAfterInsertion_10 15 rfl rfl)
theorem dJ21_fixAfterInsertion_252 : decode cJ21_fixAfterInsertion 252 = .ok (.invokevirtual 311, 3) := dk_182 1 55 (dk_at dksJ21_fixAfterInsertion_10 18 rfl rfl)
theorem dJ21_fixAfterInsertion_255 : decode cJ21_fixAfterInsertion 255 = .ok (.goto (-250), 3) := dk_167 255 6 (dk_at dksJ21_fixAfterInsertion_10 21 rfl rfl)
theorem dJ21_fixAfterInsertion_258 : decode cJ21_fixAfterInsertion 258 = .ok (.aload_n 0, 1) := dk_42 (dk_at dksJ21_fixAfterInsertion_11 0 rfl rfl)
theorem dJ21_fixAfterInsertion_259 : decode cJ21_fixAfterInsertion 259 = .ok (.getfield 101, 3) := dk_180 0 101 (dk_at dksJ21_fixAfterInsertion_11 1 rfl rfl)
theorem dJ21_fixAfterInsertion_262 : decode cJ21_fixAfterInsertion 262 = .ok (.iconst 1, 1) := dk_4 (dk_at dksJ21_fixAfterInsertion_11 4 rfl rfl)
theorem dJ21_fixAfterInsertion_263 : decode cJ21_fixAfterInsertion 263 = .ok (.putfield 290, 3) := dk_181 1 34 (dk_at dksJ21_fixAfterInsertion_11 5 rfl rfl)
theorem dJ21_fixAfterInsertion_266 : decode cJ21_fixAfterInsertion 266 = .ok (.return_, 1) := dk_177 (dk_at dksJ21_fixAfterInsertion_11 8 rfl rfl)
abbrev cJ21_parentOf : ByteArray := prog_70_method_77_code
def yJ21_parentOf : MethodName := ⟨RJ21, "parentOf", "(Ljava/util/TreeMap$Entry;)Ljava/util/TreeMap$Entry;"⟩
def dkwJ21_parentOf_0 : List UInt8 := [42, 199, 0, 7, 1, 167, 0, 7, 42, 180, 0, 124, 176]
abbrev dktJ21_parentOf_0 : List UInt8 := dkwJ21_parentOf_0 ++ []
theorem dksJ21_parentOf_0 : cJ21_parentOf.data.toList.drop 0 = dktJ21_parentOf_0 := by decide +kernel
theorem dJ21_parentOf_0 : decode cJ21_parentOf 0 = .ok (.aload_n 0, 1) := dk_42 (dk_at dksJ21_parentOf_0 0 rfl rfl)
theorem dJ21_parentOf_1 : decode cJ21_parentOf 1 = .ok (.ifnonnull 7, 3) := dk_199 0 7 (dk_at dksJ21_parentOf_0 1 rfl rfl)
theorem dJ21_parentOf_4 : decode cJ21_parentOf 4 = .ok (.aconst_null, 1) := dk_1 (dk_at dksJ21_parentOf_0 4 rfl rfl)
theorem dJ21_parentOf_5 : decode cJ21_parentOf 5 = .ok (.goto 7, 3) := dk_167 0 7 (dk_at dksJ21_parentOf_0 5 rfl rfl)
theorem dJ21_parentOf_8 : decode cJ21_parentOf 8 = .ok (.aload_n 0, 1) := dk_42 (dk_at dksJ21_parentOf_0 8 rfl rfl)
theorem dJ21_parentOf_9 : decode cJ21_parentOf 9 = .ok (.getfield 124, 3) := dk_180 0 124 (dk_at dksJ21_parentOf_0 9 rfl rfl)
theorem dJ21_parentOf_12 : decode cJ21_parentOf 12 = .ok (.areturn, 1) := dk_176 (dk_at dksJ21_parentOf_0 12 rfl rfl)
abbrev cJ21_leftOf : ByteArray := prog_70_method_79_code
def yJ21_leftOf : MethodName := ⟨RJ21, "leftOf", "(Ljava/util/TreeMap$Entry;)Ljava/util/TreeMap$Entry;"⟩
def dkwJ21_leftOf_0 : List UInt8 := [42, 199, 0, 7, 1, 167, 0, 7, 42, 180, 0, 111, 176]
abbrev dktJ21_leftOf_0 : List UInt8 := dkwJ21_leftOf_0 ++ []
theorem dksJ21_leftOf_0 : cJ21_leftOf.data.toList.drop 0 = dktJ21_leftOf_0 := by decide +kernel
theorem dJ21_leftOf_0 : decode cJ21_leftOf 0 = .ok (.aload_n 0, 1) := dk_42 (dk_at dksJ21_leftOf_0 0 rfl rfl)
theorem dJ21_leftOf_1 : decode cJ21_leftOf 1 = .ok (.ifnonnull 7, 3) := dk_199 0 7 (dk_at dksJ21_leftOf_0 1 rfl rfl)
theorem dJ21_leftOf_4 : decode cJ21_leftOf 4 = .ok (.aconst_null, 1) := dk_1 (dk_at dksJ21_leftOf_0 4 rfl rfl)
theorem dJ21_leftOf_5 : decode cJ21_leftOf 5 = .ok (.goto 7, 3) := dk_167 0 7 (dk_at dksJ21_leftOf_0 5 rfl rfl)
theorem dJ21_leftOf_8 : decode cJ21_leftOf 8 = .ok (.aload_n 0, 1) := dk_42 (dk_at dksJ21_leftOf_0 8 rfl rfl)
theorem dJ21_leftOf_9 : decode cJ21_leftOf 9 = .ok (.getfield 111, 3) := dk_180 0 111 (dk_at dksJ21_leftOf_0 9 rfl rfl)
theorem dJ21_leftOf_12 : decode cJ21_leftOf 12 = .ok (.areturn, 1) := dk_176 (dk_at dksJ21_leftOf_0 12 rfl rfl)
abbrev cJ21_rightOf : ByteArray := prog_70_method_80_code
def yJ21_rightOf : MethodName := ⟨RJ21, "rightOf", "(Ljava/util/TreeMap$Entry;)Ljava/util/TreeMap$Entry;"⟩
def dkwJ21_rightOf_0 : List UInt8 := [42, 199, 0, 7, 1, 167, 0, 7, 42, 180, 0, 114, 176]
abbrev dktJ21_rightOf_0 : List UInt8 := dkwJ21_rightOf_0 ++ []
theorem dksJ21_rightOf_0 : cJ21_rightOf.data.toList.drop 0 = dktJ21_rightOf_0 := by decide +kernel
theorem dJ21_rightOf_0 : decode cJ21_rightOf 0 = .ok (.aload_n 0, 1) := dk_42 (dk_at dksJ21_rightOf_0 0 rfl rfl)
theorem dJ21_rightOf_1 : decode cJ21_rightOf 1 = .ok (.ifnonnull 7, 3) := dk_199 0 7 (dk_at dksJ21_rightOf_0 1 rfl rfl)
theorem dJ21_rightOf_4 : decode cJ21_rightOf 4 = .ok (.aconst_null, 1) := dk_1 (dk_at dksJ21_rightOf_0 4 rfl rfl)
theorem dJ21_rightOf_5 : decode cJ21_rightOf 5 = .ok (.goto 7, 3) := dk_167 0 7 (dk_at dksJ21_rightOf_0 5 rfl rfl)
theorem dJ21_rightOf_8 : decode cJ21_rightOf 8 = .ok (.aload_n 0, 1) := dk_42 (dk_at dksJ21_rightOf_0 8 rfl rfl)
theorem dJ21_rightOf_9 : decode cJ21_rightOf 9 = .ok (.getfield 114, 3) := dk_180 0 114 (dk_at dksJ21_rightOf_0 9 rfl rfl)
theorem dJ21_rightOf_12 : decode cJ21_rightOf 12 = .ok (.areturn, 1) := dk_176 (dk_at dksJ21_rightOf_0 12 rfl rfl)
abbrev cJ21_colorOf : ByteArray := prog_70_method_76_code
def yJ21_colorOf : MethodName := ⟨RJ21, "colorOf", "(Ljava/util/TreeMap$Entry;)Z"⟩
def dkwJ21_colorOf_0 : List UInt8 := [42, 199, 0, 7, 4, 167, 0, 7, 42, 180, 1, 34, 172]
abbrev dktJ21_colorOf_0 : List UInt8 := dkwJ21_colorOf_0 ++ []
theorem dksJ21_colorOf_0 : cJ21_colorOf.data.toList.drop 0 = dktJ21_colorOf_0 := by decide +kernel
theorem dJ21_colorOf_0 : decode cJ21_colorOf 0 = .ok (.aload_n 0, 1) := dk_42 (dk_at dksJ21_colorOf_0 0 rfl rfl)
theorem dJ21_colorOf_1 : decode cJ21_colorOf 1 = .ok (.ifnonnull 7, 3) := dk_199 0 7 (dk_at dksJ21_colorOf_0 1 rfl rfl)
theorem dJ21_colorOf_4 : decode cJ21_colorOf 4 = .ok (.iconst 1, 1) := dk_4 (dk_at dksJ21_colorOf_0 4 rfl rfl)
theorem dJ21_colorOf_5 : decode cJ21_colorOf 5 = .ok (.goto 7, 3) := dk_167 0 7 (dk_at dksJ21_colorOf_0 5 rfl rfl)
theorem dJ21_colorOf_8 : decode cJ21_colorOf 8 = .ok (.aload_n 0, 1) := dk_42 (dk_at dksJ21_colorOf_0 8 rfl rfl)
theorem dJ21_colorOf_9 : decode cJ21_colorOf 9 = .ok (.getfield 290, 3) := dk_180 1 34 (dk_at dksJ21_colorOf_0 9 rfl rfl)
theorem dJ21_colorOf_12 : decode cJ21_colorOf 12 = .ok (.ireturn, 1) := dk_172 (dk_at dksJ21_colorOf_0 12 rfl rfl)
abbrev cJ21_setColor : ByteArray := prog_70_method_78_code
def yJ21_setColor : MethodName := ⟨RJ21, "setColor", "(Ljava/util/TreeMap$Entry;Z)V"⟩
def dkwJ21_setColor_0 : List UInt8 := [42, 198, 0, 8, 42, 27, 181, 1, 34, 177]
abbrev dktJ21_setColor_0 : List UInt8 := dkwJ21_setColor_0 ++ []
theorem dksJ21_setColor_0 : cJ21_setColor.data.toList.drop 0 = dktJ21_setColor_0 := by decide +kernel
theorem dJ21_setColor_0 : decode cJ21_setColor 0 = .ok (.aload_n 0, 1) := dk_42 (dk_at dksJ21_setColor_0 0 rfl rfl)
theorem dJ21_setColor_1 : decode cJ21_setColor 1 = .ok (.ifnull 8, 3) := dk_198 0 8 (dk_at dksJ21_setColor_0 1 rfl rfl)
theorem dJ21_setColor_4 : decode cJ21_setColor 4 = .ok (.aload_n 0, 1) := dk_42 (dk_at dksJ21_setColor_0 4 rfl rfl)
theorem dJ21_setColor_5 : decode cJ21_setColor 5 = .ok (.iload_n 1, 1) := dk_27 (dk_at dksJ21_setColor_0 5 rfl rfl)
theorem dJ21_setColor_6 : decode cJ21_setColor 6 = .ok (.putfield 290, 3) := dk_181 1 34 (dk_at dksJ21_setColor_0 6 rfl rfl)
theorem dJ21_setColor_9 : decode cJ21_setColor 9 = .ok (.return_, 1) := dk_177 (dk_at dksJ21_setColor_0 9 rfl rfl)
abbrev cJ21_rotateLeft : ByteArray := prog_70_method_81_code
def yJ21_rotateLeft : MethodName := ⟨RJ21, "rotateLeft", "(Ljava/util/TreeMap$Entry;)V"⟩
def dkwJ21_rotateLeft_4 : List UInt8 := [177]
abbrev dktJ21_rotateLeft_4 : List UInt8 := dkwJ21_rotateLeft_4 ++ []
def dkwJ21_rotateLeft_3 : List UInt8 := [181, 0, 111, 167, 0, 11, 43, 180, 0, 124, 44, 181, 0, 114, 44, 43, 181, 0, 111, 43, 44, 181, 0, 124]
abbrev dktJ21_rotateLeft_3 : List UInt8 := dkwJ21_rotateLeft_3 ++ dktJ21_rotateLeft_4
def dkwJ21_rotateLeft_2 : List UInt8 := [44, 181, 0, 101, 167, 0, 33, 43, 180, 0, 124, 180, 0, 111, 43, 166, 0, 14, 43, 180, 0, 124, 44]
abbrev dktJ21_rotateLeft_2 : List UInt8 := dkwJ21_rotateLeft_2 ++ dktJ21_rotateLeft_3
def dkwJ21_rotateLeft_1 : List UInt8 := [44, 180, 0, 111, 43, 181, 0, 124, 44, 43, 180, 0, 124, 181, 0, 124, 43, 180, 0, 124, 199, 0, 11, 42]
abbrev dktJ21_rotateLeft_1 : List UInt8 := dkwJ21_rotateLeft_1 ++ dktJ21_rotateLeft_2
def dkwJ21_rotateLeft_0 : List UInt8 := [43, 198, 0, 94, 43, 180, 0, 114, 77, 43, 44, 180, 0, 111, 181, 0, 114, 44, 180, 0, 111, 198, 0, 11]
abbrev dktJ21_rotateLeft_0 : List UInt8 := dkwJ21_rotateLeft_0 ++ dktJ21_rotateLeft_1
theorem dksJ21_rotateLeft_0 : cJ21_rotateLeft.data.toList.drop 0 = dktJ21_rotateLeft_0 := by decide +kernel
theorem dksJ21_rotateLeft_1 : cJ21_rotateLeft.data.toList.drop 24 = dktJ21_rotateLeft_1 := dk_seg dksJ21_rotateLeft_0 24 rfl rfl
theorem dksJ21_rotateLeft_2 : cJ21_rotateLeft.data.toList.drop 48 = dktJ21_rotateLeft_2 := dk_seg dksJ21_rotateLeft_1 24 rfl rfl
theorem dksJ21_rotateLeft_3 : cJ21_rotateLeft.data.toList.drop 71 = dktJ21_rotateLeft_3 := dk_seg dksJ21_rotateLeft_2 23 rfl rfl
theorem dksJ21_rotateLeft_4 : cJ21_rotateLeft.data.toList.drop 95 = dktJ21_rotateLeft_4 := dk_seg dksJ21_rotateLeft_3 24 rfl rfl
theorem dJ21_rotateLeft_0 : decode cJ21_rotateLeft 0 = .ok (.aload_n 1, 1) := dk_43 (dk_at dksJ21_rotateLeft_0 0 rfl rfl)
theorem dJ21_rotateLeft_1 : decode cJ21_rotateLeft 1 = .ok (.ifnull 94, 3) := dk_198 0 94 (dk_at dksJ21_rotateLeft_0 1 rfl rfl)
theorem dJ21_rotateLeft_4 : decode cJ21_rotateLeft 4 = .ok (.aload_n 1, 1) := dk_43 (dk_at dksJ21_rotateLeft_0 4 rfl rfl)
theorem dJ21_rotateLeft_5 : decode cJ21_rotateLeft 5 = .ok (.getfield 114, 3) := dk_180 0 114 (dk_at dksJ21_rotateLeft_0 5 rfl rfl)
theorem dJ21_rotateLeft_8 : decode cJ21_rotateLeft 8 = .ok (.astore_n 2, 1) := dk_77 (dk_at dksJ21_rotateLeft_0 8 rfl rfl)
theorem dJ21_rotateLeft_9 : decode cJ21_rotateLeft 9 = .ok (.aload_n 1, 1) := dk_43 (dk_at dksJ21_rotateLeft_0 9 rfl rfl)
theorem dJ21_rotateLeft_10 : decode cJ21_rotateLeft 10 = .ok (.aload_n 2, 1) := dk_44 (dk_at dksJ21_rotateLeft_0 10 rfl rfl)
theorem dJ21_rotateLeft_11 : decode cJ21_rotateLeft 11 = .ok (.getfield 111, 3) := dk_180 0 111 (dk_at dksJ21_rotateLeft_0 11 rfl rfl)
theorem dJ21_rotateLeft_14 : decode cJ21_rotateLeft 14 = .ok (.putfield 114, 3) := dk_181 0 114 (dk_at dksJ21_rotateLeft_0 14 rfl rfl)
theorem dJ21_rotateLeft_17 : decode cJ21_rotateLeft 17 = .ok (.aload_n 2, 1) := dk_44 (dk_at dksJ21_rotateLeft_0 17 rfl rfl)
theorem dJ21_rotateLeft_18 : decode cJ21_rotateLeft 18 = .ok (.getfield 111, 3) := dk_180 0 111 (dk_at dksJ21_rotateLeft_0 18 rfl rfl)
theorem dJ21_rotateLeft_21 : decode cJ21_rotateLeft 21 = .ok (.ifnull 11, 3) := dk_198 0 11 (dk_at dksJ21_rotateLeft_0 21 rfl rfl)
theorem dJ21_rotateLeft_24 : decode cJ21_rotateLeft 24 = .ok (.aload_n 2, 1) := dk_44 (dk_at dksJ21_rotateLeft_1 0 rfl rfl)
theorem dJ21_rotateLeft_25 : decode cJ21_rotateLeft 25 = .ok (.getfield 111, 3) := dk_180 0 111 (dk_at dksJ21_rotateLeft_1 1 rfl rfl)
theorem dJ21_rotateLeft_28 : decode cJ21_rotateLeft 28 = .ok (.aload_n 1, 1) := dk_43 (dk_at dksJ21_rotateLeft_1 4 rfl rfl)
theorem dJ21_rotateLeft_29 : decode cJ21_rotateLeft 29 = .ok (.putfield 124, 3) := dk_181 0 124 (dk_at dksJ21_rotateLeft_1 5 rfl rfl)
theorem dJ21_rotateLeft_32 : decode cJ21_rotateLeft 32 = .ok (.aload_n 2, 1) := dk_44 (dk_at dksJ21_rotateLeft_1 8 rfl rfl)
theorem dJ21_rotateLeft_33 : decode cJ21_rotateLeft 33 = .ok (.aload_n 1, 1) := dk_43 (dk_at dksJ21_rotateLeft_1 9 rfl rfl)
theorem dJ21_rotateLeft_34 : decode cJ21_rotateLeft 34 = .ok (.getfield 124, 3) := dk_180 0 124 (dk_at dksJ21_rotateLeft_1 10 rfl rfl)
theorem dJ21_rotateLeft_37 : decode cJ21_rotateLeft 37 = .ok (.putfield 124, 3) := dk_181 0 124 (dk_at dksJ21_rotateLeft_1 13 rfl rfl)
theorem dJ21_rotateLeft_40 : decode cJ21_rotateLeft 40 = .ok (.aload_n 1, 1) := dk_43 (dk_at dksJ21_rotateLeft_1 16 rfl rfl)
theorem dJ21_rotateLeft_41 : decode cJ21_rotateLeft 41 = .ok (.getfield 124, 3) := dk_180 0 124 (dk_at dksJ21_rotateLeft_1 17 rfl rfl)
theorem dJ21_rotateLeft_44 : decode cJ21_rotateLeft 44 = .ok (.ifnonnull 11, 3) := dk_199 0 11 (dk_at dksJ21_rotateLeft_1 20 rfl rfl)
theorem dJ21_rotateLeft_47 : decode cJ21_rotateLeft 47 = .ok (.aload_n 0, 1) := dk_42 (dk_at dksJ21_rotateLeft_1 23 rfl rfl)
theorem dJ21_rotateLeft_48 : decode cJ21_rotateLeft 48 = .ok (.aload_n 2, 1) := dk_44 (dk_at dksJ21_rotateLeft_2 0 rfl rfl)
theorem dJ21_rotateLeft_49 : decode cJ21_rotateLeft 49 = .ok (.putfield 101, 3) := dk_181 0 101 (dk_at dksJ21_rotateLeft_2 1 rfl rfl)
theorem dJ21_rotateLeft_52 : decode cJ21_rotateLeft 52 = .ok (.goto 33, 3) := dk_167 0 33 (dk_at dksJ21_rotateLeft_2 4 rfl rfl)
theorem dJ21_rotateLeft_55 : decode cJ21_rotateLeft 55 = .ok (.aload_n 1, 1) := dk_43 (dk_at dksJ21_rotateLeft_2 7 rfl rfl)
theorem dJ21_rotateLeft_56 : decode cJ21_rotateLeft 56 = .ok (.getfield 124, 3) := dk_180 0 124 (dk_at dksJ21_rotateLeft_2 8 rfl rfl)
theorem dJ21_rotateLeft_59 : decode cJ21_rotateLeft 59 = .ok (.getfield 111, 3) := dk_180 0 111 (dk_at dksJ21_rotateLeft_2 11 rfl rfl)
theorem dJ21_rotateLeft_62 : decode cJ21_rotateLeft 62 = .ok (.aload_n 1, 1) := dk_43 (dk_at dksJ21_rotateLeft_2 14 rfl rfl)
theorem dJ21_rotateLeft_63 : decode cJ21_rotateLeft 63 = .ok (.if_acmp .ne 14, 3) := dk_166 0 14 (dk_at dksJ21_rotateLeft_2 15 rfl rfl)
theorem dJ21_rotateLeft_66 : decode cJ21_rotateLeft 66 = .ok (.aload_n 1, 1) := dk_43 (dk_at dksJ21_rotateLeft_2 18 rfl rfl)
theorem dJ21_rotateLeft_67 : decode cJ21_rotateLeft 67 = .ok (.getfield 124, 3) := dk_180 0 124 (dk_at dksJ21_rotateLeft_2 19 rfl rfl)
theorem dJ21_rotateLeft_70 : decode cJ21_rotateLeft 70 = .ok (.aload_n 2, 1) := dk_44 (dk_at dksJ21_rotateLeft_2 22 rfl rfl)
theorem dJ21_rotateLeft_71 : decode cJ21_rotateLeft 71 = .ok (.putfield 111, 3) := dk_181 0 111 (dk_at dksJ21_rotateLeft_3 0 rfl rfl)
theorem dJ21_rotateLeft_74 : decode cJ21_rotateLeft 74 = .ok (.goto 11, 3) := dk_167 0 11 (dk_at dksJ21_rotateLeft_3 3 rfl rfl)
theorem dJ21_rotateLeft_77 : decode cJ21_rotateLeft 77 = .ok (.aload_n 1, 1) := dk_43 (dk_at dksJ21_rotateLeft_3 6 rfl rfl)
theorem dJ21_rotateLeft_78 : decode cJ21_rotateLeft 78 = .ok (.getfield 124, 3) := dk_180 0 124 (dk_at dksJ21_rotateLeft_3 7 rfl rfl)
theorem dJ21_rotateLeft_81 : decode cJ21_rotateLeft 81 = .ok (.aload_n 2, 1) := dk_44 (dk_at dksJ21_rotateLeft_3 10 rfl rfl)
theorem dJ21_rotateLeft_82 : decode cJ21_rotateLeft 82 = .ok (.putfield 114, 3) := dk_181 0 114 (dk_at dksJ21_rotateLeft_3 11 rfl rfl)
theorem dJ21_rotateLeft_85 : decode cJ21_rotateLeft 85 = .ok (.aload_n 2, 1) := dk_44 (dk_at dksJ21_rotateLeft_3 14 rfl rfl)
theorem dJ21_rotateLeft_86 : decode cJ21_rotateLeft 86 = .ok (.aload_n 1, 1) := dk_43 (dk_at dksJ21_rotateLeft_3 15 rfl rfl)
theorem dJ21_rotateLeft_87 : decode cJ21_rotateLeft 87 = .ok (.putfield 111, 3) := dk_181 0 111 (dk_at dksJ21_rotateLeft_3 16 rfl rfl)
theorem dJ21_rotateLeft_90 : decode cJ21_rotateLeft 90 = .ok (.aload_n 1, 1) := dk_43 (dk_at dksJ21_rotateLeft_3 19 rfl rfl)
theorem dJ21_rotateLeft_91 : decode cJ21_rotateLeft 91 = .ok (.aload_n 2, 1) := dk_44 (dk_at dksJ21_rotateLeft_3 20 rfl rfl)
theorem dJ21_rotateLeft_92 : decode cJ21_rotateLeft 92 = .ok (.putfield 124, 3) := dk_181 0 124 (dk_at dksJ21_rotateLeft_3 21 rfl rfl)
theorem dJ21_rotateLeft_95 : decode cJ21_rotateLeft 95 = .ok (.return_, 1) := dk_177 (dk_at dksJ21_rotateLeft_4 0 rfl rfl)
abbrev cJ21_rotateRight : ByteArray := prog_70_method_82_code
def yJ21_rotateRight : MethodName := ⟨RJ21, "rotateRight", "(Ljava/util/TreeMap$Entry;)V"⟩
def dkwJ21_rotateRight_4 : List UInt8 := [177]
abbrev dktJ21_rotateRight_4 : List UInt8 := dkwJ21_rotateRight_4 ++ []
def dkwJ21_rotateRight_3 : List UInt8 := [181, 0, 114, 167, 0, 11, 43, 180, 0, 124, 44, 181, 0, 111, 44, 43, 181, 0, 114, 43, 44, 181, 0, 124]
abbrev dktJ21_rotateRight_3 : List UInt8 := dkwJ21_rotateRight_3 ++ dktJ21_rotateRight_4
def dkwJ21_rotateRight_2 : List UInt8 := [44, 181, 0, 101, 167, 0, 33, 43, 180, 0, 124, 180, 0, 114, 43, 166, 0, 14, 43, 180, 0, 124, 44]
abbrev dktJ21_rotateRight_2 : List UInt8 := dkwJ21_rotateRight_2 ++ dktJ21_rotateRight_3
def dkwJ21_rotateRight_1 : List UInt8 := [44, 180, 0, 114, 43, 181, 0, 124, 44, 43, 180, 0, 124, 181, 0, 124, 43, 180, 0, 124, 199, 0, 11, 42]
abbrev dktJ21_rotateRight_1 : List UInt8 := dkwJ21_rotateRight_1 ++ dktJ21_rotateRight_2
def dkwJ21_rotateRight_0 : List UInt8 := [43, 198, 0, 94, 43, 180, 0, 111, 77, 43, 44, 180, 0, 114, 181, 0, 111, 44, 180, 0, 114, 198, 0, 11]
abbrev dktJ21_rotateRight_0 : List UInt8 := dkwJ21_rotateRight_0 ++ dktJ21_rotateRight_1
theorem dksJ21_rotateRight_0 : cJ21_rotateRight.data.toList.drop 0 = dktJ21_rotateRight_0 := by decide +kernel
theorem dksJ21_rotateRight_1 : cJ21_rotateRight.data.toList.drop 24 = dktJ21_rotateRight_1 := dk_seg dksJ21_rotateRight_0 24 rfl rfl
theorem dksJ21_rotateRight_2 : cJ21_rotateRight.data.toList.drop 48 = dktJ21_rotateRight_2 := dk_seg dksJ21_rotateRight_1 24 rfl rfl
theorem dksJ21_rotateRight_3 : cJ21_rotateRight.data.toList.drop 71 = dktJ21_rotateRight_3 := dk_seg dksJ21_rotateRight_2 23 rfl rfl
theorem dksJ21_rotateRight_4 : cJ21_rotateRight.data.toList.drop 95 = dktJ21_rotateRight_4 := dk_seg dksJ21_rotateRight_3 24 rfl rfl
theorem dJ21_rotateRight_0 : decode cJ21_rotateRight 0 = .ok (.aload_n 1, 1) := dk_43 (dk_at dksJ21_rotateRight_0 0 rfl rfl)
theorem dJ21_rotateRight_1 : decode cJ21_rotateRight 1 = .ok (.ifnull 94, 3) := dk_198 0 94 (dk_at dksJ21_rotateRight_0 1 rfl rfl)
theorem dJ21_rotateRight_4 : decode cJ21_rotateRight 4 = .ok (.aload_n 1, 1) := dk_43 (dk_at dksJ21_rotateRight_0 4 rfl rfl)
theorem dJ21_rotateRight_5 : decode cJ21_rotateRight 5 = .ok (.getfield 111, 3) := dk_180 0 111 (dk_at dksJ21_rotateRight_0 5 rfl rfl)
theorem dJ21_rotateRight_8 : decode cJ21_rotateRight 8 = .ok (.astore_n 2, 1) := dk_77 (dk_at dksJ21_rotateRight_0 8 rfl rfl)
theorem dJ21_rotateRight_9 : decode cJ21_rotateRight 9 = .ok (.aload_n 1, 1) := dk_43 (dk_at dksJ21_rotateRight_0 9 rfl rfl)
theorem dJ21_rotateRight_10 : decode cJ21_rotateRight 10 = .ok (.aload_n 2, 1) := dk_44 (dk_at dksJ21_rotateRight_0 10 rfl rfl)
theorem dJ21_rotateRight_11 : decode cJ21_rotateRight 11 = .ok (.getfield 114, 3) := dk_180 0 114 (dk_at dksJ21_rotateRight_0 11 rfl rfl)
theorem dJ21_rotateRight_14 : decode cJ21_rotateRight 14 = .ok (.putfield 111, 3) := dk_181 0 111 (dk_at dksJ21_rotateRight_0 14 rfl rfl)
theorem dJ21_rotateRight_17 : decode cJ21_rotateRight 17 = .ok (.aload_n 2, 1) := dk_44 (dk_at dksJ21_rotateRight_0 17 rfl rfl)
theorem dJ21_rotateRight_18 : decode cJ21_rotateRight 18 = .ok (.getfield 114, 3) := dk_180 0 114 (dk_at dksJ21_rotateRight_0 18 rfl rfl)
theorem dJ21_rotateRight_21 : decode cJ21_rotateRight 21 = .ok (.ifnull 11, 3) := dk_198 0 11 (dk_at dksJ21_rotateRight_0 21 rfl rfl)
theorem dJ21_rotateRight_24 : decode cJ21_rotateRight 24 = .ok (.aload_n 2, 1) := dk_44 (dk_at dksJ21_rotateRight_1 0 rfl rfl)
theorem dJ21_rotateRight_25 : decode cJ21_rotateRight 25 = .ok (.getfield 114, 3) := dk_180 0 114 (dk_at dksJ21_rotateRight_1 1 rfl rfl)
theorem dJ21_rotateRight_28 : decode cJ21_rotateRight 28 = .ok (.aload_n 1, 1) := dk_43 (dk_at dksJ21_rotateRight_1 4 rfl rfl)
theorem dJ21_rotateRight_29 : decode cJ21_rotateRight 29 = .ok (.putfield 124, 3) := dk_181 0 124 (dk_at dksJ21_rotateRight_1 5 rfl rfl)
theorem dJ21_rotateRight_32 : decode cJ21_rotateRight 32 = .ok (.aload_n 2, 1) := dk_44 (dk_at dksJ21_rotateRight_1 8 rfl rfl)
theorem dJ21_rotateRight_33 : decode cJ21_rotateRight 33 = .ok (.aload_n 1, 1) := dk_43 (dk_at dksJ21_rotateRight_1 9 rfl rfl)
theorem dJ21_rotateRight_34 : decode cJ21_rotateRight 34 = .ok (.getfield 124, 3) := dk_180 0 124 (dk_at dksJ21_rotateRight_1 10 rfl rfl)
theorem dJ21_rotateRight_37 : decode cJ21_rotateRight 37 = .ok (.putfield 124, 3) := dk_181 0 124 (dk_at dksJ21_rotateRight_1 13 rfl rfl)
theorem dJ21_rotateRight_40 : decode cJ21_rotateRight 40 = .ok (.aload_n 1, 1) := dk_43 (dk_at dksJ21_rotateRight_1 16 rfl rfl)
theorem dJ21_rotateRight_41 : decode cJ21_rotateRight 41 = .ok (.getfield 124, 3) := dk_180 0 124 (dk_at dksJ21_rotateRight_1 17 rfl rfl)
theorem dJ21_rotateRight_44 : decode cJ21_rotateRight 44 = .ok (.ifnonnull 11, 3) := dk_199 0 11 (dk_at dksJ21_rotateRight_1 20 rfl rfl)
theorem dJ21_rotateRight_47 : decode cJ21_rotateRight 47 = .ok (.aload_n 0, 1) := dk_42 (dk_at dksJ21_rotateRight_1 23 rfl rfl)
theorem dJ21_rotateRight_48 : decode cJ21_rotateRight 48 = .ok (.aload_n 2, 1) := dk_44 (dk_at dksJ21_rotateRight_2 0 rfl rfl)
theorem dJ21_rotateRight_49 : decode cJ21_rotateRight 49 = .ok (.putfield 101, 3) := dk_181 0 101 (dk_at dksJ21_rotateRight_2 1 rfl rfl)
theorem dJ21_rotateRight_52 : decode cJ21_rotateRight 52 = .ok (.goto 33, 3) := dk_167 0 33 (dk_at dksJ21_rotateRight_2 4 rfl rfl)
theorem dJ21_rotateRight_55 : decode cJ21_rotateRight 55 = .ok (.aload_n 1, 1) := dk_43 (dk_at dksJ21_rotateRight_2 7 rfl rfl)
theorem dJ21_rotateRight_56 : decode cJ21_rotateRight 56 = .ok (.getfield 124, 3) := dk_180 0 124 (dk_at dksJ21_rotateRight_2 8 rfl rfl)
theorem dJ21_rotateRight_59 : decode cJ21_rotateRight 59 = .ok (.getfield 114, 3) := dk_180 0 114 (dk_at dksJ21_rotateRight_2 11 rfl rfl)
theorem dJ21_rotateRight_62 : decode cJ21_rotateRight 62 = .ok (.aload_n 1, 1) := dk_43 (dk_at dksJ21_rotateRight_2 14 rfl rfl)
theorem dJ21_rotateRight_63 : decode cJ21_rotateRight 63 = .ok (.if_acmp .ne 14, 3) := dk_166 0 14 (dk_at dksJ21_rotateRight_2 15 rfl rfl)
theorem dJ21_rotateRight_66 : decode cJ21_rotateRight 66 = .ok (.aload_n 1, 1) := dk_43 (dk_at dksJ21_rotateRight_2 18 rfl rfl)
theorem dJ21_rotateRight_67 : decode cJ21_rotateRight 67 = .ok (.getfield 124, 3) := dk_180 0 124 (dk_at dksJ21_rotateRight_2 19 rfl rfl)
theorem dJ21_rotateRight_70 : decode cJ21_rotateRight 70 = .ok (.aload_n 2, 1) := dk_44 (dk_at dksJ21_rotateRight_2 22 rfl rfl)
theorem dJ21_rotateRight_71 : decode cJ21_rotateRight 71 = .ok (.putfield 114, 3) := dk_181 0 114 (dk_at dksJ21_rotateRight_3 0 rfl rfl)
theorem dJ21_rotateRight_74 : decode cJ21_rotateRight 74 = .ok (.goto 11, 3) := dk_167 0 11 (dk_at dksJ21_rotateRight_3 3 rfl rfl)
theorem dJ21_rotateRight_77 : decode cJ21_rotateRight 77 = .ok (.aload_n 1, 1) := dk_43 (dk_at dksJ21_rotateRight_3 6 rfl rfl)
theorem dJ21_rotateRight_78 : decode cJ21_rotateRight 78 = .ok (.getfield 124, 3) := dk_180 0 124 (dk_at dksJ21_rotateRight_3 7 rfl rfl)
theorem dJ21_rotateRight_81 : decode cJ21_rotateRight 81 = .ok (.aload_n 2, 1) := dk_44 (dk_at dksJ21_rotateRight_3 10 rfl rfl)
theorem dJ21_rotateRight_82 : decode cJ21_rotateRight 82 = .ok (.putfield 111, 3) := dk_181 0 111 (dk_at dksJ21_rotateRight_3 11 rfl rfl)
theorem dJ21_rotateRight_85 : decode cJ21_rotateRight 85 = .ok (.aload_n 2, 1) := dk_44 (dk_at dksJ21_rotateRight_3 14 rfl rfl)
theorem dJ21_rotateRight_86 : decode cJ21_rotateRight 86 = .ok (.aload_n 1, 1) := dk_43 (dk_at dksJ21_rotateRight_3 15 rfl rfl)
theorem dJ21_rotateRight_87 : decode cJ21_rotateRight 87 = .ok (.putfield 114, 3) := dk_181 0 114 (dk_at dksJ21_rotateRight_3 16 rfl rfl)
theorem dJ21_rotateRight_90 : decode cJ21_rotateRight 90 = .ok (.aload_n 1, 1) := dk_43 (dk_at dksJ21_rotateRight_3 19 rfl rfl)
theorem dJ21_rotateRight_91 : decode cJ21_rotateRight 91 = .ok (.aload_n 2, 1) := dk_44 (dk_at dksJ21_rotateRight_3 20 rfl rfl)
theorem dJ21_rotateRight_92 : decode cJ21_rotateRight 92 = .ok (.putfield 124, 3) := dk_181 0 124 (dk_at dksJ21_rotateRight_3 21 rfl rfl)
theorem dJ21_rotateRight_95 : decode cJ21_rotateRight 95 = .ok (.return_, 1) := dk_177 (dk_at dksJ21_rotateRight_4 0 rfl rfl)
theorem q132 : (Jvm.Cond.initialized "java/util/TreeMap") ∈ lw_all := lw_g (lw_at lw_m1 31 rfl) rfl
theorem q822 : (Jvm.Cond.selects "java/util/TreeMap" ({ cls := "java/lang/Object", name := "getClass", desc := "()Ljava/lang/Class;" } : Jvm.MethodName) ({ cls := "java/lang/Object", name := "getClass", desc := "()Ljava/lang/Class;" } : Jvm.MethodName)) ∈ lw_all := lw_g (lw_at lw_m4 1 rfl) rfl
theorem q933 : (Jvm.Cond.instantiable "java/util/TreeMap" (9 : Nat)) ∈ lw_all := lw_g (lw_at lw_m4 112 rfl) rfl
theorem q942 : (Jvm.Cond.instanceMethod ({ cls := "java/util/TreeMap", name := "<init>", desc := "(Ljava/util/Comparator;)V" } : Jvm.MethodName)) ∈ lw_all := lw_g (lw_at lw_m4 121 rfl) rfl
theorem q943 : (Jvm.Cond.code ({ cls := "java/util/TreeMap", name := "<init>", desc := "(Ljava/util/Comparator;)V" } : Jvm.MethodName) prog_70_method_2_code (2 : Nat) (Option.none : Option Jvm.ClassFile.FieldType)) ∈ lw_all := lw_g (lw_at lw_m4 122 rfl) rfl
theorem q944 : (Jvm.Cond.methodLink "java/util/TreeMap" (1 : Nat) ({ cls := "java/util/AbstractMap", name := "<init>", desc := "()V" } : Jvm.MethodName)) ∈ lw_all := lw_g (lw_at lw_m4 123 rfl) rfl
theorem q948 : (Jvm.Cond.fieldLink "java/util/TreeMap" (16 : Nat) "java/util/TreeMap" "comparator" "Ljava/util/Comparator;") ∈ lw_all := lw_g (lw_at lw_m4 127 rfl) rfl
theorem q949 : (Jvm.Cond.fieldLink "java/util/TreeMap" (101 : Nat) "java/util/TreeMap" "root" "Ljava/util/TreeMap$Entry;") ∈ lw_all := lw_g (lw_at lw_m4 128 rfl) rfl
theorem q950 : (Jvm.Cond.fieldLink "java/util/TreeMap" (7 : Nat) "java/util/TreeMap" "size" "I") ∈ lw_all := lw_g (lw_at lw_m4 129 rfl) rfl
theorem q951 : (Jvm.Cond.fieldLink "java/util/TreeMap" (13 : Nat) "java/util/TreeMap" "modCount" "I") ∈ lw_all := lw_g (lw_at lw_m4 130 rfl) rfl
theorem q952 : (Jvm.Cond.laysFinal "java/util/TreeMap" "java/util/TreeMap" "comparator" "Ljava/util/Comparator;") ∈ lw_all := lw_g (lw_at lw_m4 131 rfl) rfl
theorem q953 : (Jvm.Cond.soleField "java/util/TreeMap" "comparator") ∈ lw_all := lw_g (lw_at lw_m4 132 rfl) rfl
theorem q954 : (Jvm.Cond.lays "java/util/TreeMap" "java/util/TreeMap" "root" "Ljava/util/TreeMap$Entry;") ∈ lw_all := lw_g (lw_at lw_m4 133 rfl) rfl
theorem q955 : (Jvm.Cond.soleField "java/util/TreeMap" "root") ∈ lw_all := lw_g (lw_at lw_m4 134 rfl) rfl
theorem q956 : (Jvm.Cond.lays "java/util/TreeMap" "java/util/TreeMap" "size" "I") ∈ lw_all := lw_g (lw_at lw_m4 135 rfl) rfl
theorem q957 : (Jvm.Cond.soleField "java/util/TreeMap" "size") ∈ lw_all := lw_g (lw_at lw_m4 136 rfl) rfl
theorem q958 : (Jvm.Cond.lays "java/util/TreeMap" "java/util/TreeMap" "modCount" "I") ∈ lw_all := lw_g (lw_at lw_m4 137 rfl) rfl
theorem q959 : (Jvm.Cond.soleField "java/util/TreeMap" "modCount") ∈ lw_all := lw_g (lw_at lw_m4 138 rfl) rfl
theorem q960 : (Jvm.Cond.lays "java/util/TreeMap" "java/util/TreeMap" "entrySet" "Ljava/util/TreeMap$EntrySet;") ∈ lw_all := lw_g (lw_at lw_m4 139 rfl) rfl
theorem q961 : (Jvm.Cond.soleField "java/util/TreeMap" "entrySet") ∈ lw_all := lw_g (lw_at lw_m4 140 rfl) rfl
theorem q962 : (Jvm.Cond.lays "java/util/TreeMap" "java/util/TreeMap" "navigableKeySet" "Ljava/util/TreeMap$KeySet;") ∈ lw_all := lw_g (lw_at lw_m4 141 rfl) rfl
theorem q963 : (Jvm.Cond.soleField "java/util/TreeMap" "navigableKeySet") ∈ lw_all := lw_g (lw_at lw_m4 142 rfl) rfl
theorem q964 : (Jvm.Cond.lays "java/util/TreeMap" "java/util/TreeMap" "descendingMap" "Ljava/util/NavigableMap;") ∈ lw_all := lw_g (lw_at lw_m4 143 rfl) rfl
theorem q965 : (Jvm.Cond.soleField "java/util/TreeMap" "descendingMap") ∈ lw_all := lw_g (lw_at lw_m4 144 rfl) rfl
theorem q966 : (Jvm.Cond.lays "java/util/TreeMap" "java/util/AbstractMap" "keySet" "Ljava/util/Set;") ∈ lw_all := lw_g (lw_at lw_m4 145 rfl) rfl
theorem q968 : (Jvm.Cond.lays "java/util/TreeMap" "java/util/AbstractMap" "values" "Ljava/util/Collection;") ∈ lw_all := lw_g (lw_at lw_m4 147 rfl) rfl
theorem q970 : (Jvm.Cond.superclass "java/util/TreeMap" "java/util/AbstractMap") ∈ lw_all := lw_g (lw_at lw_m4 149 rfl) rfl
theorem q1001 : (Jvm.Cond.instanceMethod ({ cls := "java/util/TreeMap", name := "containsKey", desc := "(Ljava/lang/Object;)Z" } : Jvm.MethodName)) ∈ lw_all := lw_g (lw_at lw_m4 180 rfl) rfl
theorem q1002 : (Jvm.Cond.selects "java/util/TreeMap" ({ cls := "java/util/TreeMap", name := "containsKey", desc := "(Ljava/lang/Object;)Z" } : Jvm.MethodName) ({ cls := "java/util/TreeMap", name := "containsKey", desc := "(Ljava/lang/Object;)Z" } : Jvm.MethodName)) ∈ lw_all := lw_g (lw_at lw_m4 181 rfl) rfl
theorem q1003 : (Jvm.Cond.code ({ cls := "java/util/TreeMap", name := "containsKey", desc := "(Ljava/lang/Object;)Z" } : Jvm.MethodName) prog_70_method_6_code (2 : Nat) (Option.some Jvm.ClassFile.FieldType.boolean)) ∈ lw_all := lw_g (lw_at lw_m4 182 rfl) rfl
theorem q1004 : (Jvm.Cond.methodLink "java/util/TreeMap" (50 : Nat) ({ cls := "java/util/TreeMap", name := "getEntry", desc := "(Ljava/lang/Object;)Ljava/util/TreeMap$Entry;" } : Jvm.MethodName)) ∈ lw_all := lw_g (lw_at lw_m4 183 rfl) rfl
theorem q1005 : (Jvm.Cond.instanceMethod ({ cls := "java/util/TreeMap", name := "getEntry", desc := "(Ljava/lang/Object;)Ljava/util/TreeMap$Entry;" } : Jvm.MethodName)) ∈ lw_all := lw_g (lw_at lw_m4 184 rfl) rfl
theorem q1006 : (Jvm.Cond.selects "java/util/TreeMap" ({ cls := "java/util/TreeMap", name := "getEntry", desc := "(Ljava/lang/Object;)Ljava/util/TreeMap$Entry;" } : Jvm.MethodName) ({ cls := "java/util/TreeMap", name := "getEntry", desc := "(Ljava/lang/Object;)Ljava/util/TreeMap$Entry;" } : Jvm.MethodName)) ∈ lw_all := lw_g (lw_at lw_m4 185 rfl) rfl
theorem q1007 : (Jvm.Cond.code ({ cls := "java/util/TreeMap", name := "getEntry", desc := "(Ljava/lang/Object;)Ljava/util/TreeMap$Entry;" } : Jvm.MethodName) prog_70_method_15_code (5 : Nat) (Option.some (Jvm.ClassFile.FieldType.object "java/util/TreeMap$Entry"))) ∈ lw_all := lw_g (lw_at lw_m4 186 rfl) rfl
theorem q1008 : (Jvm.Cond.methodLink "java/util/TreeMap" (92 : Nat) ({ cls := "java/util/TreeMap", name := "getEntryUsingComparator", desc := "(Ljava/lang/Object;)Ljava/util/TreeMap$Entry;" } : Jvm.MethodName)) ∈ lw_all := lw_g (lw_at lw_m4 187 rfl) rfl
theorem q1009 : (Jvm.Cond.instanceMethod ({ cls := "java/util/TreeMap", name := "getEntryUsingComparator", desc := "(Ljava/lang/Object;)Ljava/util/TreeMap$Entry;" } : Jvm.MethodName)) ∈ lw_all := lw_g (lw_at lw_m4 188 rfl) rfl
theorem q1010 : (Jvm.Cond.selects "java/util/TreeMap" ({ cls := "java/util/TreeMap", name := "getEntryUsingComparator", desc := "(Ljava/lang/Object;)Ljava/util/TreeMap$Entry;" } : Jvm.MethodName) ({ cls := "java/util/TreeMap", name := "getEntryUsingComparator", desc := "(Ljava/lang/Object;)Ljava/util/TreeMap$Entry;" } : Jvm.MethodName)) ∈ lw_all := lw_g (lw_at lw_m4 189 rfl) rfl
theorem q1011 : (Jvm.Cond.code ({ cls := "java/util/TreeMap", name := "getEntryUsingComparator", desc := "(Ljava/lang/Object;)Ljava/util/TreeMap$Entry;" } : Jvm.MethodName) prog_70_method_16_code (6 : Nat) (Option.some (Jvm.ClassFile.FieldType.object "java/util/TreeMap$Entry"))) ∈ lw_all := lw_g (lw_at lw_m4 190 rfl) rfl
theorem q1012 : (Jvm.Cond.interfaceEntry "java/util/TreeMap" (117 : Nat)) ∈ lw_tbl := lw_at lw_m4 191 rfl
theorem q1013 : (Jvm.Cond.methodLink "java/util/TreeMap" (117 : Nat) ({ cls := "java/util/Comparator", name := "compare", desc := "(Ljava/lang/Object;Ljava/lang/Object;)I" } : Jvm.MethodName)) ∈ lw_all := lw_g (lw_at lw_m4 192 rfl) rfl
theorem q1031 : (Jvm.Cond.methodLink "java/util/TreeMap" (95 : Nat) ({ cls := "java/util/Objects", name := "requireNonNull", desc := "(Ljava/lang/Object;)Ljava/lang/Object;" } : Jvm.MethodName)) ∈ lw_all := lw_g (lw_at lw_m4 210 rfl) rfl
theorem q1036 : (Jvm.Cond.classLink "java/util/TreeMap" (99 : Nat) "java/lang/Comparable") ∈ lw_all := lw_g (lw_at lw_m4 215 rfl) rfl
theorem q1037 : (Jvm.Cond.interfaceEntry "java/util/TreeMap" (107 : Nat)) ∈ lw_tbl := lw_at lw_m4 216 rfl
theorem q1038 : (Jvm.Cond.methodLink "java/util/TreeMap" (107 : Nat) ({ cls := "java/lang/Comparable", name := "compareTo", desc := "(Ljava/lang/Object;)I" } : Jvm.MethodName)) ∈ lw_all := lw_g (lw_at lw_m4 217 rfl) rfl
theorem q1296 : (Jvm.Cond.instanceMethod ({ cls := "java/util/TreeMap", name := "put", desc := "(Ljava/lang/Object;Ljava/lang/Object;)Ljava/lang/Object;" } : Jvm.MethodName)) ∈ lw_all := lw_g (lw_at lw_m5 235 rfl) rfl
theorem q1297 : (Jvm.Cond.selects "java/util/TreeMap" ({ cls := "java/util/TreeMap", name := "put", desc := "(Ljava/lang/Object;Ljava/lang/Object;)Ljava/lang/Object;" } : Jvm.MethodName) ({ cls := "java/util/TreeMap", name := "put", desc := "(Ljava/lang/Object;Ljava/lang/Object;)Ljava/lang/Object;" } : Jvm.MethodName)) ∈ lw_all := lw_g (lw_at lw_m5 236 rfl) rfl
theorem q1298 : (Jvm.Cond.code ({ cls := "java/util/TreeMap", name := "put", desc := "(Ljava/lang/Object;Ljava/lang/Object;)Ljava/lang/Object;" } : Jvm.MethodName) prog_70_method_21_code (3 : Nat) (Option.some (Jvm.ClassFile.FieldType.object "java/lang/Object"))) ∈ lw_all := lw_g (lw_at lw_m5 237 rfl) rfl
theorem q1299 : (Jvm.Cond.methodLink "java/util/TreeMap" (127 : Nat) ({ cls := "java/util/TreeMap", name := "put", desc := "(Ljava/lang/Object;Ljava/lang/Object;Z)Ljava/lang/Object;" } : Jvm.MethodName)) ∈ lw_all := lw_g (lw_at lw_m5 238 rfl) rfl
theorem q1300 : (Jvm.Cond.privateMethod ({ cls := "java/util/TreeMap", name := "put", desc := "(Ljava/lang/Object;Ljava/lang/Object;Z)Ljava/lang/Object;" } : Jvm.MethodName)) ∈ lw_tbl := lw_at lw_m5 239 rfl
theorem q1301 : (Jvm.Cond.instanceMethod ({ cls := "java/util/TreeMap", name := "put", desc := "(Ljava/lang/Object;Ljava/lang/Object;Z)Ljava/lang/Object;" } : Jvm.MethodName)) ∈ lw_all := lw_g (lw_at lw_m6 0 rfl) rfl
theorem q1302 : (Jvm.Cond.code ({ cls := "java/util/TreeMap", name := "put", desc := "(Ljava/lang/Object;Ljava/lang/Object;Z)Ljava/lang/Object;" } : Jvm.MethodName) prog_70_method_31_code (10 : Nat) (Option.some (Jvm.ClassFile.FieldType.object "java/lang/Object"))) ∈ lw_all := lw_g (lw_at lw_m6 1 rfl) rfl
theorem q1303 : (Jvm.Cond.methodLink "java/util/TreeMap" (135 : Nat) ({ cls := "java/util/TreeMap", name := "addEntryToEmptyMap", desc := "(Ljava/lang/Object;Ljava/lang/Object;)V" } : Jvm.MethodName)) ∈ lw_all := lw_g (lw_at lw_m6 2 rfl) rfl
theorem q1304 : (Jvm.Cond.privateMethod ({ cls := "java/util/TreeMap", name := "addEntryToEmptyMap", desc := "(Ljava/lang/Object;Ljava/lang/Object;)V" } : Jvm.MethodName)) ∈ lw_tbl := lw_at lw_m6 3 rfl
theorem q1305 : (Jvm.Cond.instanceMethod ({ cls := "java/util/TreeMap", name := "addEntryToEmptyMap", desc := "(Ljava/lang/Object;Ljava/lang/Object;)V" } : Jvm.MethodName)) ∈ lw_all := lw_g (lw_at lw_m6 4 rfl) rfl
theorem q1306 : (Jvm.Cond.code ({ cls := "java/util/TreeMap", name := "addEntryToEmptyMap", desc := "(Ljava/lang/Object;Ljava/lang/Object;)V" } : Jvm.MethodName) prog_70_method_30_code (3 : Nat) (Option.none : Option Jvm.ClassFile.FieldType)) ∈ lw_all := lw_g (lw_at lw_m6 5 rfl) rfl
theorem q1307 : (Jvm.Cond.methodLink "java/util/TreeMap" (123 : Nat) ({ cls := "java/util/TreeMap", name := "compare", desc := "(Ljava/lang/Object;Ljava/lang/Object;)I" } : Jvm.MethodName)) ∈ lw_all := lw_g (lw_at lw_m6 6 rfl) rfl
theorem q1308 : (Jvm.Cond.instanceMethod ({ cls := "java/util/TreeMap", name := "compare", desc := "(Ljava/lang/Object;Ljava/lang/Object;)I" } : Jvm.MethodName)) ∈ lw_all := lw_g (lw_at lw_m6 7 rfl) rfl
theorem q1309 : (Jvm.Cond.selects "java/util/TreeMap" ({ cls := "java/util/TreeMap", name := "compare", desc := "(Ljava/lang/Object;Ljava/lang/Object;)I" } : Jvm.MethodName) ({ cls := "java/util/TreeMap", name := "compare", desc := "(Ljava/lang/Object;Ljava/lang/Object;)I" } : Jvm.MethodName)) ∈ lw_all := lw_g (lw_at lw_m6 8 rfl) rfl
theorem q1310 : (Jvm.Cond.code ({ cls := "java/util/TreeMap", name := "compare", desc := "(Ljava/lang/Object;Ljava/lang/Object;)I" } : Jvm.MethodName) prog_70_method_67_code (3 : Nat) (Option.some Jvm.ClassFile.FieldType.int)) ∈ lw_all := lw_g (lw_at lw_m6 9 rfl) rfl
theorem q1311 : (Jvm.Cond.classLink "java/util/TreeMap" (59 : Nat) "java/util/TreeMap$Entry") ∈ lw_all := lw_g (lw_at lw_m6 10 rfl) rfl
theorem q1313 : (Jvm.Cond.methodLink "java/util/TreeMap" (167 : Nat) ({ cls := "java/util/TreeMap$Entry", name := "<init>", desc := "(Ljava/lang/Object;Ljava/lang/Object;Ljava/util/TreeMap$Entry;)V" } : Jvm.MethodName)) ∈ lw_all := lw_g (lw_at lw_m6 12 rfl) rfl
theorem q1318 : (Jvm.Cond.fieldLink "java/util/TreeMap" (105 : Nat) "java/util/TreeMap$Entry" "key" "Ljava/lang/Object;") ∈ lw_all := lw_g (lw_at lw_m6 17 rfl) rfl
theorem q1320 : (Jvm.Cond.fieldLink "java/util/TreeMap" (58 : Nat) "java/util/TreeMap$Entry" "value" "Ljava/lang/Object;") ∈ lw_all := lw_g (lw_at lw_m6 19 rfl) rfl
theorem q1321 : (Jvm.Cond.fieldLink "java/util/TreeMap" (111 : Nat) "java/util/TreeMap$Entry" "left" "Ljava/util/TreeMap$Entry;") ∈ lw_all := lw_g (lw_at lw_m6 20 rfl) rfl
theorem q1322 : (Jvm.Cond.fieldLink "java/util/TreeMap" (114 : Nat) "java/util/TreeMap$Entry" "right" "Ljava/util/TreeMap$Entry;") ∈ lw_all := lw_g (lw_at lw_m6 21 rfl) rfl
theorem q1324 : (Jvm.Cond.fieldLink "java/util/TreeMap" (124 : Nat) "java/util/TreeMap$Entry" "parent" "Ljava/util/TreeMap$Entry;") ∈ lw_all := lw_g (lw_at lw_m6 23 rfl) rfl
theorem q1326 : (Jvm.Cond.fieldLink "java/util/TreeMap" (290 : Nat) "java/util/TreeMap$Entry" "color" "Z") ∈ lw_all := lw_g (lw_at lw_m6 25 rfl) rfl
theorem q1340 : (Jvm.Cond.methodLink "java/util/TreeMap" (139 : Nat) ({ cls := "java/util/TreeMap", name := "addEntry", desc := "(Ljava/lang/Object;Ljava/lang/Object;Ljava/util/TreeMap$Entry;Z)V" } : Jvm.MethodName)) ∈ lw_all := lw_g (lw_at lw_m6 39 rfl) rfl
theorem q1341 : (Jvm.Cond.privateMethod ({ cls := "java/util/TreeMap", name := "addEntry", desc := "(Ljava/lang/Object;Ljava/lang/Object;Ljava/util/TreeMap$Entry;Z)V" } : Jvm.MethodName)) ∈ lw_tbl := lw_at lw_m6 40 rfl
theorem q1342 : (Jvm.Cond.instanceMethod ({ cls := "java/util/TreeMap", name := "addEntry", desc := "(Ljava/lang/Object;Ljava/lang/Object;Ljava/util/TreeMap$Entry;Z)V" } : Jvm.MethodName)) ∈ lw_all := lw_g (lw_at lw_m6 41 rfl) rfl
theorem q1343 : (Jvm.Cond.code ({ cls := "java/util/TreeMap", name := "addEntry", desc := "(Ljava/lang/Object;Ljava/lang/Object;Ljava/util/TreeMap$Entry;Z)V" } : Jvm.MethodName) prog_70_method_29_code (6 : Nat) (Option.none : Option Jvm.ClassFile.FieldType)) ∈ lw_all := lw_g (lw_at lw_m6 42 rfl) rfl
theorem q1344 : (Jvm.Cond.methodLink "java/util/TreeMap" (170 : Nat) ({ cls := "java/util/TreeMap", name := "fixAfterInsertion", desc := "(Ljava/util/TreeMap$Entry;)V" } : Jvm.MethodName)) ∈ lw_all := lw_g (lw_at lw_m6 43 rfl) rfl
theorem q1345 : (Jvm.Cond.privateMethod ({ cls := "java/util/TreeMap", name := "fixAfterInsertion", desc := "(Ljava/util/TreeMap$Entry;)V" } : Jvm.MethodName)) ∈ lw_tbl := lw_at lw_m6 44 rfl
theorem q1346 : (Jvm.Cond.instanceMethod ({ cls := "java/util/TreeMap", name := "fixAfterInsertion", desc := "(Ljava/util/TreeMap$Entry;)V" } : Jvm.MethodName)) ∈ lw_all := lw_g (lw_at lw_m6 45 rfl) rfl
theorem q1347 : (Jvm.Cond.code ({ cls := "java/util/TreeMap", name := "fixAfterInsertion", desc := "(Ljava/util/TreeMap$Entry;)V" } : Jvm.MethodName) prog_70_method_83_code (3 : Nat) (Option.none : Option Jvm.ClassFile.FieldType)) ∈ lw_all := lw_g (lw_at lw_m6 46 rfl) rfl
theorem q1348 : (Jvm.Cond.methodLink "java/util/TreeMap" (294 : Nat) ({ cls := "java/util/TreeMap", name := "parentOf", desc := "(Ljava/util/TreeMap$Entry;)Ljava/util/TreeMap$Entry;" } : Jvm.MethodName)) ∈ lw_all := lw_g (lw_at lw_m6 47 rfl) rfl
theorem q1349 : (Jvm.Cond.static ({ cls := "java/util/TreeMap", name := "parentOf", desc := "(Ljava/util/TreeMap$Entry;)Ljava/util/TreeMap$Entry;" } : Jvm.MethodName)) ∈ lw_all := lw_g (lw_at lw_m6 48 rfl) rfl
theorem q1350 : (Jvm.Cond.code ({ cls := "java/util/TreeMap", name := "parentOf", desc := "(Ljava/util/TreeMap$Entry;)Ljava/util/TreeMap$Entry;" } : Jvm.MethodName) prog_70_method_77_code (1 : Nat) (Option.some (Jvm.ClassFile.FieldType.object "java/util/TreeMap$Entry"))) ∈ lw_all := lw_g (lw_at lw_m6 49 rfl) rfl
theorem q1351 : (Jvm.Cond.methodLink "java/util/TreeMap" (297 : Nat) ({ cls := "java/util/TreeMap", name := "leftOf", desc := "(Ljava/util/TreeMap$Entry;)Ljava/util/TreeMap$Entry;" } : Jvm.MethodName)) ∈ lw_all := lw_g (lw_at lw_m6 50 rfl) rfl
theorem q1352 : (Jvm.Cond.static ({ cls := "java/util/TreeMap", name := "leftOf", desc := "(Ljava/util/TreeMap$Entry;)Ljava/util/TreeMap$Entry;" } : Jvm.MethodName)) ∈ lw_all := lw_g (lw_at lw_m6 51 rfl) rfl
theorem q1353 : (Jvm.Cond.code ({ cls := "java/util/TreeMap", name := "leftOf", desc := "(Ljava/util/TreeMap$Entry;)Ljava/util/TreeMap$Entry;" } : Jvm.MethodName) prog_70_method_79_code (1 : Nat) (Option.some (Jvm.ClassFile.FieldType.object "java/util/TreeMap$Entry"))) ∈ lw_all := lw_g (lw_at lw_m6 52 rfl) rfl
theorem q1354 : (Jvm.Cond.methodLink "java/util/TreeMap" (300 : Nat) ({ cls := "java/util/TreeMap", name := "rightOf", desc := "(Ljava/util/TreeMap$Entry;)Ljava/util/TreeMap$Entry;" } : Jvm.MethodName)) ∈ lw_all := lw_g (lw_at lw_m6 53 rfl) rfl
theorem q1355 : (Jvm.Cond.static ({ cls := "java/util/TreeMap", name := "rightOf", desc := "(Ljava/util/TreeMap$Entry;)Ljava/util/TreeMap$Entry;" } : Jvm.MethodName)) ∈ lw_all := lw_g (lw_at lw_m6 54 rfl) rfl
theorem q1356 : (Jvm.Cond.code ({ cls := "java/util/TreeMap", name := "rightOf", desc := "(Ljava/util/TreeMap$Entry;)Ljava/util/TreeMap$Entry;" } : Jvm.MethodName) prog_70_method_80_code (1 : Nat) (Option.some (Jvm.ClassFile.FieldType.object "java/util/TreeMap$Entry"))) ∈ lw_all := lw_g (lw_at lw_m6 55 rfl) rfl
theorem q1357 : (Jvm.Cond.methodLink "java/util/TreeMap" (303 : Nat) ({ cls := "java/util/TreeMap", name := "colorOf", desc := "(Ljava/util/TreeMap$Entry;)Z" } : Jvm.MethodName)) ∈ lw_all := lw_g (lw_at lw_m6 56 rfl) rfl
theorem q1358 : (Jvm.Cond.static ({ cls := "java/util/TreeMap", name := "colorOf", desc := "(Ljava/util/TreeMap$Entry;)Z" } : Jvm.MethodName)) ∈ lw_all := lw_g (lw_at lw_m6 57 rfl) rfl
theorem q1359 : (Jvm.Cond.code ({ cls := "java/util/TreeMap", name := "colorOf", desc := "(Ljava/util/TreeMap$Entry;)Z" } : Jvm.MethodName) prog_70_method_76_code (1 : Nat) (Option.some Jvm.ClassFile.FieldType.boolean)) ∈ lw_all := lw_g (lw_at lw_m6 58 rfl) rfl
theorem q1360 : (Jvm.Cond.methodLink "java/util/TreeMap" (307 : Nat) ({ cls := "java/util/TreeMap", name := "setColor", desc := "(Ljava/util/TreeMap$Entry;Z)V" } : Jvm.MethodName)) ∈ lw_all := lw_g (lw_at lw_m6 59 rfl) rfl
theorem q1361 : (Jvm.Cond.static ({ cls := "java/util/TreeMap", name := "setColor", desc := "(Ljava/util/TreeMap$Entry;Z)V" } : Jvm.MethodName)) ∈ lw_all := lw_g (lw_at lw_m6 60 rfl) rfl
theorem q1362 : (Jvm.Cond.code ({ cls := "java/util/TreeMap", name := "setColor", desc := "(Ljava/util/TreeMap$Entry;Z)V" } : Jvm.MethodName) prog_70_method_78_code (2 : Nat) (Option.none : Option Jvm.ClassFile.FieldType)) ∈ lw_all := lw_g (lw_at lw_m6 61 rfl) rfl
theorem q1363 : (Jvm.Cond.methodLink "java/util/TreeMap" (311 : Nat) ({ cls := "java/util/TreeMap", name := "rotateLeft", desc := "(Ljava/util/TreeMap$Entry;)V" } : Jvm.MethodName)) ∈ lw_all := lw_g (lw_at lw_m6 62 rfl) rfl
theorem q1364 : (Jvm.Cond.privateMethod ({ cls := "java/util/TreeMap", name := "rotateLeft", desc := "(Ljava/util/TreeMap$Entry;)V" } : Jvm.MethodName)) ∈ lw_tbl := lw_at lw_m6 63 rfl
theorem q1365 : (Jvm.Cond.instanceMethod ({ cls := "java/util/TreeMap", name := "rotateLeft", desc := "(Ljava/util/TreeMap$Entry;)V" } : Jvm.MethodName)) ∈ lw_all := lw_g (lw_at lw_m6 64 rfl) rfl
theorem q1366 : (Jvm.Cond.code ({ cls := "java/util/TreeMap", name := "rotateLeft", desc := "(Ljava/util/TreeMap$Entry;)V" } : Jvm.MethodName) prog_70_method_81_code (3 : Nat) (Option.none : Option Jvm.ClassFile.FieldType)) ∈ lw_all := lw_g (lw_at lw_m6 65 rfl) rfl
theorem q1367 : (Jvm.Cond.methodLink "java/util/TreeMap" (314 : Nat) ({ cls := "java/util/TreeMap", name := "rotateRight", desc := "(Ljava/util/TreeMap$Entry;)V" } : Jvm.MethodName)) ∈ lw_all := lw_g (lw_at lw_m6 66 rfl) rfl
theorem q1368 : (Jvm.Cond.privateMethod ({ cls := "java/util/TreeMap", name := "rotateRight", desc := "(Ljava/util/TreeMap$Entry;)V" } : Jvm.MethodName)) ∈ lw_tbl := lw_at lw_m6 67 rfl
theorem q1369 : (Jvm.Cond.instanceMethod ({ cls := "java/util/TreeMap", name := "rotateRight", desc := "(Ljava/util/TreeMap$Entry;)V" } : Jvm.MethodName)) ∈ lw_all := lw_g (lw_at lw_m6 68 rfl) rfl
theorem q1370 : (Jvm.Cond.code ({ cls := "java/util/TreeMap", name := "rotateRight", desc := "(Ljava/util/TreeMap$Entry;)V" } : Jvm.MethodName) prog_70_method_82_code (3 : Nat) (Option.none : Option Jvm.ClassFile.FieldType)) ∈ lw_all := lw_g (lw_at lw_m6 69 rfl) rfl
theorem q2570 : (Jvm.Cond.castable "java/util/TreeMap" "java/lang/Object") ∈ lw_tbl := lw_at lw_m11 69 rfl

/-! java/util/TreeMap$Entry -/
set_option maxRecDepth 100000
abbrev cJ26_init : ByteArray := prog_71_method_1_code
def yJ26_init : MethodName := ⟨RJ26, "<init>", "(Ljava/lang/Object;Ljava/lang/Object;Ljava/util/TreeMap$Entry;)V"⟩
def dkwJ26_init_1 : List UInt8 := [177]
abbrev dktJ26_init_1 : List UInt8 := dkwJ26_init_1 ++ []
def dkwJ26_init_0 : List UInt8 := [42, 183, 0, 3, 42, 4, 181, 0, 9, 42, 43, 181, 0, 15, 42, 44, 181, 0, 19, 42, 45, 181, 0, 22]
abbrev dktJ26_init_0 : List UInt8 := dkwJ26_init_0 ++ dktJ26_init_1
theorem dksJ26_init_0 : cJ26_init.data.toList.drop 0 = dktJ26_init_0 := by decide +kernel
theorem dksJ26_init_1 : cJ26_init.data.toList.drop 24 = dktJ26_init_1 := dk_seg dksJ26_init_0 24 rfl rfl
theorem dJ26_init_0 : decode cJ26_init 0 = .ok (.aload_n 0, 1) := dk_42 (dk_at dksJ26_init_0 0 rfl rfl)
theorem dJ26_init_1 : decode cJ26_init 1 = .ok (.invokespecial 3, 3) := dk_183 0 3 (dk_at dksJ26_init_0 1 rfl rfl)
theorem dJ26_init_4 : decode cJ26_init 4 = .ok (.aload_n 0, 1) := dk_42 (dk_at dksJ26_init_0 4 rfl rfl)
theorem dJ26_init_5 : decode cJ26_init 5 = .ok (.iconst 1, 1) := dk_4 (dk_at dksJ26_init_0 5 rfl rfl)
theorem dJ26_init_6 : decode cJ26_init 6 = .ok (.putfield 9, 3) := dk_181 0 9 (dk_at dksJ26_init_0 6 rfl rfl)
theorem dJ26_init_9 : decode cJ26_init 9 = .ok (.aload_n 0, 1) := dk_42 (dk_at dksJ26_init_0 9 rfl rfl)
theorem dJ26_init_10 : decode cJ26_init 10 = .ok (.aload_n 1, 1) := dk_43 (dk_at dksJ26_init_0 10 rfl rfl)
theorem dJ26_init_11 : decode cJ26_init 11 = .ok (.putfield 15, 3) := dk_181 0 15 (dk_at dksJ26_init_0 11 rfl rfl)
theorem dJ26_init_14 : decode cJ26_init 14 = .ok (.aload_n 0, 1) := dk_42 (dk_at dksJ26_init_0 14 rfl rfl)
theorem dJ26_init_15 : decode cJ26_init 15 = .ok (.aload_n 2, 1) := dk_44 (dk_at dksJ26_init_0 15 rfl rfl)
theorem dJ26_init_16 : decode cJ26_init 16 = .ok (.putfield 19, 3) := dk_181 0 19 (dk_at dksJ26_init_0 16 rfl rfl)
theorem dJ26_init_19 : decode cJ26_init 19 = .ok (.aload_n 0, 1) := dk_42 (dk_at dksJ26_init_0 19 rfl rfl)
theorem dJ26_init_20 : decode cJ26_init 20 = .ok (.aload_n 3, 1) := dk_45 (dk_at dksJ26_init_0 20 rfl rfl)
theorem dJ26_init_21 : decode cJ26_init 21 = .ok (.putfield 22, 3) := dk_181 0 22 (dk_at dksJ26_init_0 21 rfl rfl)
theorem dJ26_init_24 : decode cJ26_init 24 = .ok (.return_, 1) := dk_177 (dk_at dksJ26_init_1 0 rfl rfl)
theorem q140 : (Jvm.Cond.initialized "java/util/TreeMap$Entry") ∈ lw_all := lw_g (lw_at lw_m1 39 rfl) rfl
theorem q823 : (Jvm.Cond.selects "java/util/TreeMap$Entry" ({ cls := "java/lang/Object", name := "getClass", desc := "()Ljava/lang/Class;" } : Jvm.MethodName) ({ cls := "java/lang/Object", name := "getClass", desc := "()Ljava/lang/Class;" } : Jvm.MethodName)) ∈ lw_all := lw_g (lw_at lw_m4 2 rfl) rfl
theorem q1312 : (Jvm.Cond.instantiable "java/util/TreeMap$Entry" (6 : Nat)) ∈ lw_all := lw_g (lw_at lw_m6 11 rfl) rfl
theorem q1314 : (Jvm.Cond.instanceMethod ({ cls := "java/util/TreeMap$Entry", name := "<init>", desc := "(Ljava/lang/Object;Ljava/lang/Object;Ljava/util/TreeMap$Entry;)V" } : Jvm.MethodName)) ∈ lw_all := lw_g (lw_at lw_m6 13 rfl) rfl
theorem q1315 : (Jvm.Cond.code ({ cls := "java/util/TreeMap$Entry", name := "<init>", desc := "(Ljava/lang/Object;Ljava/lang/Object;Ljava/util/TreeMap$Entry;)V" } : Jvm.MethodName) prog_71_method_1_code (4 : Nat) (Option.none : Option Jvm.ClassFile.FieldType)) ∈ lw_all := lw_g (lw_at lw_m6 14 rfl) rfl
theorem q1316 : (Jvm.Cond.methodLink "java/util/TreeMap$Entry" (3 : Nat) ({ cls := "java/lang/Object", name := "<init>", desc := "()V" } : Jvm.MethodName)) ∈ lw_all := lw_g (lw_at lw_m6 15 rfl) rfl
theorem q1317 : (Jvm.Cond.fieldLink "java/util/TreeMap$Entry" (15 : Nat) "java/util/TreeMap$Entry" "key" "Ljava/lang/Object;") ∈ lw_all := lw_g (lw_at lw_m6 16 rfl) rfl
theorem q1319 : (Jvm.Cond.fieldLink "java/util/TreeMap$Entry" (19 : Nat) "java/util/TreeMap$Entry" "value" "Ljava/lang/Object;") ∈ lw_all := lw_g (lw_at lw_m6 18 rfl) rfl
theorem q1323 : (Jvm.Cond.fieldLink "java/util/TreeMap$Entry" (22 : Nat) "java/util/TreeMap$Entry" "parent" "Ljava/util/TreeMap$Entry;") ∈ lw_all := lw_g (lw_at lw_m6 22 rfl) rfl
theorem q1325 : (Jvm.Cond.fieldLink "java/util/TreeMap$Entry" (9 : Nat) "java/util/TreeMap$Entry" "color" "Z") ∈ lw_all := lw_g (lw_at lw_m6 24 rfl) rfl
theorem q1327 : (Jvm.Cond.lays "java/util/TreeMap$Entry" "java/util/TreeMap$Entry" "key" "Ljava/lang/Object;") ∈ lw_all := lw_g (lw_at lw_m6 26 rfl) rfl
theorem q1328 : (Jvm.Cond.soleField "java/util/TreeMap$Entry" "key") ∈ lw_all := lw_g (lw_at lw_m6 27 rfl) rfl
theorem q1329 : (Jvm.Cond.lays "java/util/TreeMap$Entry" "java/util/TreeMap$Entry" "value" "Ljava/lang/Object;") ∈ lw_all := lw_g (lw_at lw_m6 28 rfl) rfl
theorem q1330 : (Jvm.Cond.soleField "java/util/TreeMap$Entry" "value") ∈ lw_all := lw_g (lw_at lw_m6 29 rfl) rfl
theorem q1331 : (Jvm.Cond.lays "java/util/TreeMap$Entry" "java/util/TreeMap$Entry" "left" "Ljava/util/TreeMap$Entry;") ∈ lw_all := lw_g (lw_at lw_m6 30 rfl) rfl
theorem q1332 : (Jvm.Cond.soleField "java/util/TreeMap$Entry" "left") ∈ lw_all := lw_g (lw_at lw_m6 31 rfl) rfl
theorem q1333 : (Jvm.Cond.lays "java/util/TreeMap$Entry" "java/util/TreeMap$Entry" "right" "Ljava/util/TreeMap$Entry;") ∈ lw_all := lw_g (lw_at lw_m6 32 rfl) rfl
theorem q1334 : (Jvm.Cond.soleField "java/util/TreeMap$Entry" "right") ∈ lw_all := lw_g (lw_at lw_m6 33 rfl) rfl
theorem q1335 : (Jvm.Cond.lays "java/util/TreeMap$Entry" "java/util/TreeMap$Entry" "parent" "Ljava/util/TreeMap$Entry;") ∈ lw_all := lw_g (lw_at lw_m6 34 rfl) rfl
theorem q1336 : (Jvm.Cond.soleField "java/util/TreeMap$Entry" "parent") ∈ lw_all := lw_g (lw_at lw_m6 35 rfl) rfl
theorem q1337 : (Jvm.Cond.lays "java/util/TreeMap$Entry" "java/util/TreeMap$Entry" "color" "Z") ∈ lw_all := lw_g (lw_at lw_m6 36 rfl) rfl
theorem q1338 : (Jvm.Cond.soleField "java/util/TreeMap$Entry" "color") ∈ lw_all := lw_g (lw_at lw_m6 37 rfl) rfl
theorem q1339 : (Jvm.Cond.superclass "java/util/TreeMap$Entry" "java/lang/Object") ∈ lw_all := lw_g (lw_at lw_m6 38 rfl) rfl
theorem q2574 : (Jvm.Cond.castable "java/util/TreeMap$Entry" "java/lang/Object") ∈ lw_tbl := lw_at lw_m11 73 rfl

/-! java/util/AbstractMap -/
set_option maxRecDepth 100000
def RJ20 : String := "java/util/AbstractMap"
abbrev cJ20_init : ByteArray := prog_53_method_1_code
def yJ20_init : MethodName := ⟨RJ20, "<init>", "()V"⟩
theorem dJ20_init_0 : decode cJ20_init 0 = .ok (.aload_n 0, 1) := by decide +kernel
theorem dJ20_init_1 : decode cJ20_init 1 = .ok (.invokespecial 1, 3) := by decide +kernel
theorem dJ20_init_4 : decode cJ20_init 4 = .ok (.return_, 1) := by decide +kernel
theorem q131 : (Jvm.Cond.initialized "java/util/AbstractMap") ∈ lw_all := lw_g (lw_at lw_m1 30 rfl) rfl
theorem q945 : (Jvm.Cond.instanceMethod ({ cls := "java/util/AbstractMap", name := "<init>", desc := "()V" } : Jvm.MethodName)) ∈ lw_all := lw_g (lw_at lw_m4 124 rfl) rfl
theorem q946 : (Jvm.Cond.code ({ cls := "java/util/AbstractMap", name := "<init>", desc := "()V" } : Jvm.MethodName) prog_53_method_1_code (1 : Nat) (Option.none : Option Jvm.ClassFile.FieldType)) ∈ lw_all := lw_g (lw_at lw_m4 125 rfl) rfl
theorem q947 : (Jvm.Cond.methodLink "java/util/AbstractMap" (1 : Nat) ({ cls := "java/lang/Object", name := "<init>", desc := "()V" } : Jvm.MethodName)) ∈ lw_all := lw_g (lw_at lw_m4 126 rfl) rfl
theorem q967 : (Jvm.Cond.soleField "java/util/AbstractMap" "keySet") ∈ lw_all := lw_g (lw_at lw_m4 146 rfl) rfl
theorem q969 : (Jvm.Cond.soleField "java/util/AbstractMap" "values") ∈ lw_all := lw_g (lw_at lw_m4 148 rfl) rfl

/-! java/lang/Number -/
set_option maxRecDepth 100000
def RJ22 : String := "java/lang/Number"
abbrev cJ22_init : ByteArray := prog_41_method_1_code
def yJ22_init : MethodName := ⟨RJ22, "<init>", "()V"⟩
theorem dJ22_init_0 : decode cJ22_init 0 = .ok (.aload_n 0, 1) := by decide +kernel
theorem dJ22_init_1 : decode cJ22_init 1 = .ok (.invokespecial 1, 3) := by decide +kernel
theorem dJ22_init_4 : decode cJ22_init 4 = .ok (.return_, 1) := by decide +kernel
theorem q134 : (Jvm.Cond.initialized "java/lang/Number") ∈ lw_all := lw_g (lw_at lw_m1 33 rfl) rfl
theorem q993 : (Jvm.Cond.instanceMethod ({ cls := "java/lang/Number", name := "<init>", desc := "()V" } : Jvm.MethodName)) ∈ lw_all := lw_g (lw_at lw_m4 172 rfl) rfl
theorem q994 : (Jvm.Cond.code ({ cls := "java/lang/Number", name := "<init>", desc := "()V" } : Jvm.MethodName) prog_41_method_1_code (1 : Nat) (Option.none : Option Jvm.ClassFile.FieldType)) ∈ lw_all := lw_g (lw_at lw_m4 173 rfl) rfl
theorem q995 : (Jvm.Cond.methodLink "java/lang/Number" (1 : Nat) ({ cls := "java/lang/Object", name := "<init>", desc := "()V" } : Jvm.MethodName)) ∈ lw_all := lw_g (lw_at lw_m4 174 rfl) rfl

/-! java/lang/Integer -/
set_option maxRecDepth 100000
abbrev cJ23_valueOf : ByteArray := prog_35_method_22_code
def yJ23_valueOf : MethodName := ⟨RJ23, "valueOf", "(I)Ljava/lang/Integer;"⟩
def dkwJ23_valueOf_1 : List UInt8 := [187, 0, 1, 89, 26, 183, 0, 199, 176]
abbrev dktJ23_valueOf_1 : List UInt8 := dkwJ23_valueOf_1 ++ []
def dkwJ23_valueOf_0 : List UInt8 := [26, 16, 128, 161, 0, 20, 26, 178, 0, 191, 163, 0, 13, 178, 0, 195, 26, 17, 0, 128, 96, 50, 176]
abbrev dktJ23_valueOf_0 : List UInt8 := dkwJ23_valueOf_0 ++ dktJ23_valueOf_1
theorem dksJ23_valueOf_0 : cJ23_valueOf.data.toList.drop 0 = dktJ23_valueOf_0 := by decide +kernel
theorem dksJ23_valueOf_1 : cJ23_valueOf.data.toList.drop 23 = dktJ23_valueOf_1 := dk_seg dksJ23_valueOf_0 23 rfl rfl
theorem dJ23_valueOf_0 : decode cJ23_valueOf 0 = .ok (.iload_n 0, 1) := dk_26 (dk_at dksJ23_valueOf_0 0 rfl rfl)
theorem dJ23_valueOf_1 : decode cJ23_valueOf 1 = .ok (.bipush (-128), 2) := dk_16 128 (dk_at dksJ23_valueOf_0 1 rfl rfl)
theorem dJ23_valueOf_3 : decode cJ23_valueOf 3 = .ok (.if_icmp .lt 20, 3) := dk_161 0 20 (dk_at dksJ23_valueOf_0 3 rfl rfl)
theorem dJ23_valueOf_6 : decode cJ23_valueOf 6 = .ok (.iload_n 0, 1) := dk_26 (dk_at dksJ23_valueOf_0 6 rfl rfl)
theorem dJ23_valueOf_7 : decode cJ23_valueOf 7 = .ok (.getstatic 191, 3) := dk_178 0 191 (dk_at dksJ23_valueOf_0 7 rfl rfl)
theorem dJ23_valueOf_10 : decode cJ23_valueOf 10 = .ok (.if_icmp .gt 13, 3) := dk_163 0 13 (dk_at dksJ23_valueOf_0 10 rfl rfl)
theorem dJ23_valueOf_13 : decode cJ23_valueOf 13 = .ok (.getstatic 195, 3) := dk_178 0 195 (dk_at dksJ23_valueOf_0 13 rfl rfl)
theorem dJ23_valueOf_16 : decode cJ23_valueOf 16 = .ok (.iload_n 0, 1) := dk_26 (dk_at dksJ23_valueOf_0 16 rfl rfl)
theorem dJ23_valueOf_17 : decode cJ23_valueOf 17 = .ok (.sipush 128, 3) := dk_17 0 128 (dk_at dksJ23_valueOf_0 17 rfl rfl)
theorem dJ23_valueOf_20 : decode cJ23_valueOf 20 = .ok (.iadd, 1) := dk_96 (dk_at dksJ23_valueOf_0 20 rfl rfl)
theorem dJ23_valueOf_21 : decode cJ23_valueOf 21 = .ok (.aaload, 1) := dk_50 (dk_at dksJ23_valueOf_0 21 rfl rfl)
theorem dJ23_valueOf_22 : decode cJ23_valueOf 22 = .ok (.areturn, 1) := dk_176 (dk_at dksJ23_valueOf_0 22 rfl rfl)
theorem dJ23_valueOf_23 : decode cJ23_valueOf 23 = .ok (.new 1, 3) := dk_187 0 1 (dk_at dksJ23_valueOf_1 0 rfl rfl)
theorem dJ23_valueOf_26 : decode cJ23_valueOf 26 = .ok (.dup, 1) := dk_89 (dk_at dksJ23_valueOf_1 3 rfl rfl)
theorem dJ23_valueOf_27 : decode cJ23_valueOf 27 = .ok (.iload_n 0, 1) := dk_26 (dk_at dksJ23_valueOf_1 4 rfl rfl)
theorem dJ23_valueOf_28 : decode cJ23_valueOf 28 = .ok (.invokespecial 199, 3) := dk_183 0 199 (dk_at dksJ23_valueOf_1 5 rfl rfl)
theorem dJ23_valueOf_31 : decode cJ23_valueOf 31 = .ok (.areturn, 1) := dk_176 (dk_at dksJ23_valueOf_1 8 rfl rfl)
abbrev cJ23_init : ByteArray := prog_35_method_23_code
def yJ23_init : MethodName := ⟨RJ23, "<init>", "(I)V"⟩
def dkwJ23_init_0 : List UInt8 := [42, 183, 0, 202, 42, 27, 181, 0, 205, 177]
abbrev dktJ23_init_0 : List UInt8 := dkwJ23_init_0 ++ []
theorem dksJ23_init_0 : cJ23_init.data.toList.drop 0 = dktJ23_init_0 := by decide +kernel
theorem dJ23_init_0 : decode cJ23_init 0 = .ok (.aload_n 0, 1) := dk_42 (dk_at dksJ23_init_0 0 rfl rfl)
theorem dJ23_init_1 : decode cJ23_init 1 = .ok (.invokespecial 202, 3) := dk_183 0 202 (dk_at dksJ23_init_0 1 rfl rfl)
theorem dJ23_init_4 : decode cJ23_init 4 = .ok (.aload_n 0, 1) := dk_42 (dk_at dksJ23_init_0 4 rfl rfl)
theorem dJ23_init_5 : decode cJ23_init 5 = .ok (.iload_n 1, 1) := dk_27 (dk_at dksJ23_init_0 5 rfl rfl)
theorem dJ23_init_6 : decode cJ23_init 6 = .ok (.putfield 205, 3) := dk_181 0 205 (dk_at dksJ23_init_0 6 rfl rfl)
theorem dJ23_init_9 : decode cJ23_init 9 = .ok (.return_, 1) := dk_177 (dk_at dksJ23_init_0 9 rfl rfl)
abbrev cJ23_intValue : ByteArray := prog_35_method_27_code
def yJ23_intValue : MethodName := ⟨RJ23, "intValue", "()I"⟩
theorem dJ23_intValue_0 : decode cJ23_intValue 0 = .ok (.aload_n 0, 1) := by decide +kernel
theorem dJ23_intValue_1 : decode cJ23_intValue 1 = .ok (.getfield 205, 3) := by decide +kernel
theorem dJ23_intValue_4 : decode cJ23_intValue 4 = .ok (.ireturn, 1) := by decide +kernel
abbrev cJ23_compareTo : ByteArray := prog_35_method_63_code
def yJ23_compareTo : MethodName := ⟨RJ23, "compareTo", "(Ljava/lang/Object;)I"⟩
def dkwJ23_compareTo_0 : List UInt8 := [42, 43, 192, 0, 1, 182, 1, 28, 172]
abbrev dktJ23_compareTo_0 : List UInt8 := dkwJ23_compareTo_0 ++ []
theorem dksJ23_compareTo_0 : cJ23_compareTo.data.toList.drop 0 = dktJ23_compareTo_0 := by decide +kernel
theorem dJ23_compareTo_0 : decode cJ23_compareTo 0 = .ok (.aload_n 0, 1) := dk_42 (dk_at dksJ23_compareTo_0 0 rfl rfl)
theorem dJ23_compareTo_1 : decode cJ23_compareTo 1 = .ok (.aload_n 1, 1) := dk_43 (dk_at dksJ23_compareTo_0 1 rfl rfl)
theorem dJ23_compareTo_2 : decode cJ23_compareTo 2 = .ok (.checkcast 1, 3) := dk_192 0 1 (dk_at dksJ23_compareTo_0 2 rfl rfl)
theorem dJ23_compareTo_5 : decode cJ23_compareTo 5 = .ok (.invokevirtual 284, 3) := dk_182 1 28 (dk_at dksJ23_compareTo_0 5 rfl rfl)
theorem dJ23_compareTo_8 : decode cJ23_compareTo 8 = .ok (.ireturn, 1) := dk_172 (dk_at dksJ23_compareTo_0 8 rfl rfl)
abbrev cJ23_compareTo_2 : ByteArray := prog_35_method_39_code
def yJ23_compareTo_2 : MethodName := ⟨RJ23, "compareTo", "(Ljava/lang/Integer;)I"⟩
def dkwJ23_compareTo_2_0 : List UInt8 := [42, 180, 0, 205, 43, 180, 0, 205, 184, 1, 3, 172]
abbrev dktJ23_compareTo_2_0 : List UInt8 := dkwJ23_compareTo_2_0 ++ []
theorem dksJ23_compareTo_2_0 : cJ23_compareTo_2.data.toList.drop 0 = dktJ23_compareTo_2_0 := by decide +kernel
theorem dJ23_compareTo_2_0 : decode cJ23_compareTo_2 0 = .ok (.aload_n 0, 1) := dk_42 (dk_at dksJ23_compareTo_2_0 0 rfl rfl)
theorem dJ23_compareTo_2_1 : decode cJ23_compareTo_2 1 = .ok (.getfield 205, 3) := dk_180 0 205 (dk_at dksJ23_compareTo_2_0 1 rfl rfl)
theorem dJ23_compareTo_2_4 : decode cJ23_compareTo_2 4 = .ok (.aload_n 1, 1) := dk_43 (dk_at dksJ23_compareTo_2_0 4 rfl rfl)
theorem dJ23_compareTo_2_5 : decode cJ23_compareTo_2 5 = .ok (.getfield 205, 3) := dk_180 0 205 (dk_at dksJ23_compareTo_2_0 5 rfl rfl)
theorem dJ23_compareTo_2_8 : decode cJ23_compareTo_2 8 = .ok (.invokestatic 259, 3) := dk_184 1 3 (dk_at dksJ23_compareTo_2_0 8 rfl rfl)
theorem dJ23_compareTo_2_11 : decode cJ23_compareTo_2 11 = .ok (.ireturn, 1) := dk_172 (dk_at dksJ23_compareTo_2_0 11 rfl rfl)
abbrev cJ23_compare : ByteArray := prog_35_method_40_code
def yJ23_compare : MethodName := ⟨RJ23, "compare", "(II)I"⟩
def dkwJ23_compare_0 : List UInt8 := [26, 27, 162, 0, 7, 2, 167, 0, 13, 26, 27, 160, 0, 7, 3, 167, 0, 4, 4, 172]
abbrev dktJ23_compare_0 : List UInt8 := dkwJ23_compare_0 ++ []
theorem dksJ23_compare_0 : cJ23_compare.data.toList.drop 0 = dktJ23_compare_0 := by decide +kernel
theorem dJ23_compare_0 : decode cJ23_compare 0 = .ok (.iload_n 0, 1) := dk_26 (dk_at dksJ23_compare_0 0 rfl rfl)
theorem dJ23_compare_1 : decode cJ23_compare 1 = .ok (.iload_n 1, 1) := dk_27 (dk_at dksJ23_compare_0 1 rfl rfl)
theorem dJ23_compare_2 : decode cJ23_compare 2 = .ok (.if_icmp .ge 7, 3) := dk_162 0 7 (dk_at dksJ23_compare_0 2 rfl rfl)
theorem dJ23_compare_5 : decode cJ23_compare 5 = .ok (.iconst (-1), 1) := dk_2 (dk_at dksJ23_compare_0 5 rfl rfl)
theorem dJ23_compare_6 : decode cJ23_compare 6 = .ok (.goto 13, 3) := dk_167 0 13 (dk_at dksJ23_compare_0 6 rfl rfl)
theorem dJ23_compare_9 : decode cJ23_compare 9 = .ok (.iload_n 0, 1) := dk_26 (dk_at dksJ23_compare_0 9 rfl rfl)
theorem dJ23_compare_10 : decode cJ23_compare 10 = .ok (.iload_n 1, 1) := dk_27 (dk_at dksJ23_compare_0 10 rfl rfl)
theorem dJ23_compare_11 : decode cJ23_compare 11 = .ok (.if_icmp .ne 7, 3) := dk_160 0 7 (dk_at dksJ23_compare_0 11 rfl rfl)
theorem dJ23_compare_14 : decode cJ23_compare 14 = .ok (.iconst 0, 1) := dk_3 (dk_at dksJ23_compare_0 14 rfl rfl)
theorem dJ23_compare_15 : decode cJ23_compare 15 = .ok (.goto 4, 3) := dk_167 0 4 (dk_at dksJ23_compare_0 15 rfl rfl)
theorem dJ23_compare_18 : decode cJ23_compare 18 = .ok (.iconst 1, 1) := dk_4 (dk_at dksJ23_compare_0 18 rfl rfl)
theorem dJ23_compare_19 : decode cJ23_compare 19 = .ok (.ireturn, 1) := dk_172 (dk_at dksJ23_compare_0 19 rfl rfl)
abbrev cJ23_numberOfLeadingZeros : ByteArray := prog_35_method_47_code
def yJ23_numberOfLeadingZeros : MethodName := ⟨RJ23, "numberOfLeadingZeros", "(I)I"⟩
def dkwJ23_numberOfLeadingZeros_3 : List UInt8 := [5, 124, 59, 27, 26, 4, 124, 100, 172]
abbrev dktJ23_numberOfLeadingZeros_3 : List UInt8 := dkwJ23_numberOfLeadingZeros_3 ++ []
def dkwJ23_numberOfLeadingZeros_2 : List UInt8 := [124, 59, 26, 16, 16, 161, 0, 10, 132, 1, 252, 26, 7, 124, 59, 26, 7, 161, 0, 10, 132, 1, 254, 26]
abbrev dktJ23_numberOfLeadingZeros_2 : List UInt8 := dkwJ23_numberOfLeadingZeros_2 ++ dktJ23_numberOfLeadingZeros_3
def dkwJ23_numberOfLeadingZeros_1 : List UInt8 := [161, 0, 11, 132, 1, 240, 26, 16, 16, 124, 59, 26, 17, 1, 0, 161, 0, 11, 132, 1, 248, 26, 16, 8]
abbrev dktJ23_numberOfLeadingZeros_1 : List UInt8 := dkwJ23_numberOfLeadingZeros_1 ++ dktJ23_numberOfLeadingZeros_2
def dkwJ23_numberOfLeadingZeros_0 : List UInt8 := [26, 157, 0, 14, 26, 154, 0, 8, 16, 32, 167, 0, 4, 3, 172, 16, 31, 60, 26, 19, 1, 8]
abbrev dktJ23_numberOfLeadingZeros_0 : List UInt8 := dkwJ23_numberOfLeadingZeros_0 ++ dktJ23_numberOfLeadingZeros_1
theorem dksJ23_numberOfLeadingZeros_0 : cJ23_numberOfLeadingZeros.data.toList.drop 0 = dktJ23_numberOfLeadingZeros_0 := by decide +kernel
theorem dksJ23_numberOfLeadingZeros_1 : cJ23_numberOfLeadingZeros.data.toList.drop 22 = dktJ23_numberOfLeadingZeros_1 := dk_seg dksJ23_numberOfLeadingZeros_0 22 rfl rfl
theorem dksJ23_numberOfLeadingZeros_2 : cJ23_numberOfLeadingZeros.data.toList.drop 46 = dktJ23_numberOfLeadingZeros_2 := dk_seg dksJ23_numberOfLeadingZeros_1 24 rfl rfl
theorem dksJ23_numberOfLeadingZeros_3 : cJ23_numberOfLeadingZeros.data.toList.drop 70 = dktJ23_numberOfLeadingZeros_3 := dk_seg dksJ23_numberOfLeadingZeros_2 24 rfl rfl
theorem dJ23_numberOfLeadingZeros_0 : decode cJ23_numberOfLeadingZeros 0 = .ok (.iload_n 0, 1) := dk_26 (dk_at dksJ23_numberOfLeadingZeros_0 0 rfl rfl)
theorem dJ23_numberOfLeadingZeros_1 : decode cJ23_numberOfLeadingZeros 1 = .ok (.ifCond .gt 14, 3) := dk_157 0 14 (dk_at dksJ23_numberOfLeadingZeros_0 1 rfl rfl)
theorem dJ23_numberOfLeadingZeros_4 : decode cJ23_numberOfLeadingZeros 4 = .ok (.iload_n 0, 1) := dk_26 (dk_at dksJ23_numberOfLeadingZeros_0 4 rfl rfl)
theorem dJ23_numberOfLeadingZeros_5 : decode cJ23_numberOfLeadingZeros 5 = .ok (.ifCond .ne 8, 3) := dk_154 0 8 (dk_at dksJ23_numberOfLeadingZeros_0 5 rfl rfl)
theorem dJ23_numberOfLeadingZeros_8 : decode cJ23_numberOfLeadingZeros 8 = .ok (.bipush 32, 2) := dk_16 32 (dk_at dksJ23_numberOfLeadingZeros_0 8 rfl rfl)
theorem dJ23_numberOfLeadingZeros_10 : decode cJ23_numberOfLeadingZeros 10 = .ok (.goto 4, 3) := dk_167 0 4 (dk_at dksJ23_numberOfLeadingZeros_0 10 rfl rfl)
theorem dJ23_numberOfLeadingZeros_13 : decode cJ23_numberOfLeadingZeros 13 = .ok (.iconst 0, 1) := dk_3 (dk_at dksJ23_numberOfLeadingZeros_0 13 rfl rfl)
theorem dJ23_numberOfLeadingZeros_14 : decode cJ23_numberOfLeadingZeros 14 = .ok (.ireturn, 1) := dk_172 (dk_at dksJ23_numberOfLeadingZeros_0 14 rfl rfl)
theorem dJ23_numberOfLeadingZeros_15 : decode cJ23_numberOfLeadingZeros 15 = .ok (.bipush 31, 2) := dk_16 31 (dk_at dksJ23_numberOfLeadingZeros_0 15 rfl rfl)
theorem dJ23_numberOfLeadingZeros_17 : decode cJ23_numberOfLeadingZeros 17 = .ok (.istore_n 1, 1) := dk_60 (dk_at dksJ23_numberOfLeadingZeros_0 17 rfl rfl)
theorem dJ23_numberOfLeadingZeros_18 : decode cJ23_numberOfLeadingZeros 18 = .ok (.iload_n 0, 1) := dk_26 (dk_at dksJ23_numberOfLeadingZeros_0 18 rfl rfl)
theorem dJ23_numberOfLeadingZeros_19 : decode cJ23_numberOfLeadingZeros 19 = .ok (.ldc_w 264, 3) := dk_19 1 8 (dk_at dksJ23_numberOfLeadingZeros_0 19 rfl rfl)
theorem dJ23_numberOfLeadingZeros_22 : decode cJ23_numberOfLeadingZeros 22 = .ok (.if_icmp .lt 11, 3) := dk_161 0 11 (dk_at dksJ23_numberOfLeadingZeros_1 0 rfl rfl)
theorem dJ23_numberOfLeadingZeros_25 : decode cJ23_numberOfLeadingZeros 25 = .ok (.iinc 1 (-16), 3) := dk_132 1 240 (dk_at dksJ23_numberOfLeadingZeros_1 3 rfl rfl)
theorem dJ23_numberOfLeadingZeros_28 : decode cJ23_numberOfLeadingZeros 28 = .ok (.iload_n 0, 1) := dk_26 (dk_at dksJ23_numberOfLeadingZeros_1 6 rfl rfl)
theorem dJ23_numberOfLeadingZeros_29 : decode cJ23_numberOfLeadingZeros 29 = .ok (.bipush 16, 2) := dk_16 16 (dk_at dksJ23_numberOfLeadingZeros_1 7 rfl rfl)
theorem dJ23_numberOfLeadingZeros_31 : decode cJ23_numberOfLeadingZeros 31 = .ok (.iushr, 1) := dk_124 (dk_at dksJ23_numberOfLeadingZeros_1 9 rfl rfl)
theorem dJ23_numberOfLeadingZeros_32 : decode cJ23_numberOfLeadingZeros 32 = .ok (.istore_n 0, 1) := dk_59 (dk_at dksJ23_numberOfLeadingZeros_1 10 rfl rfl)
theorem dJ23_numberOfLeadingZeros_33 : decode cJ23_numberOfLeadingZeros 33 = .ok (.iload_n 0, 1) := dk_26 (dk_at dksJ23_numberOfLeadingZeros_1 11 rfl rfl)
theorem dJ23_numberOfLeadingZeros_34 : decode cJ23_numberOfLeadingZeros 34 = .ok (.sipush 256, 3) := dk_17 1 0 (dk_at dksJ23_numberOfLeadingZeros_1 12 rfl rfl)
theorem dJ23_numberOfLeadingZeros_37 : decode cJ23_numberOfLeadingZeros 37 = .ok (.if_icmp .lt 11, 3) := dk_161 0 11 (dk_at dksJ23_numberOfLeadingZeros_1 15 rfl rfl)
theorem dJ23_numberOfLeadingZeros_40 : decode cJ23_numberOfLeadingZeros 40 = .ok (.iinc 1 (-8), 3) := dk_132 1 248 (dk_at dksJ23_numberOfLeadingZeros_1 18 rfl rfl)
theorem dJ23_numberOfLeadingZeros_43 : decode cJ23_numberOfLeadingZeros 43 = .ok (.iload_n 0, 1) := dk_26 (dk_at dksJ23_numberOfLeadingZeros_1 21 rfl rfl)
theorem dJ23_numberOfLeadingZeros_44 : decode cJ23_numberOfLeadingZeros 44 = .ok (.bipush 8, 2) := dk_16 8 (dk_at dksJ23_numberOfLeadingZeros_1 22 rfl rfl)
theorem dJ23_numberOfLeadingZeros_46 : decode cJ23_numberOfLeadingZeros 46 = .ok (.iushr, 1) := dk_124 (dk_at dksJ23_numberOfLeadingZeros_2 0 rfl rfl)
theorem dJ23_numberOfLeadingZeros_47 : decode cJ23_numberOfLeadingZeros 47 = .ok (.istore_n 0, 1) := dk_59 (dk_at dksJ23_numberOfLeadingZeros_2 1 rfl rfl)
theorem dJ23_numberOfLeadingZeros_48 : decode cJ23_numberOfLeadingZeros 48 = .ok (.iload_n 0, 1) := dk_26 (dk_at dksJ23_numberOfLeadingZeros_2 2 rfl rfl)
theorem dJ23_numberOfLeadingZeros_49 : decode cJ23_numberOfLeadingZeros 49 = .ok (.bipush 16, 2) := dk_16 16 (dk_at dksJ23_numberOfLeadingZeros_2 3 rfl rfl)
theorem dJ23_numberOfLeadingZeros_51 : decode cJ23_numberOfLeadingZeros 51 = .ok (.if_icmp .lt 10, 3) := dk_161 0 10 (dk_at dksJ23_numberOfLeadingZeros_2 5 rfl rfl)
theorem dJ23_numberOfLeadingZeros_54 : decode cJ23_numberOfLeadingZeros 54 = .ok (.iinc 1 (-4), 3) := dk_132 1 252 (dk_at dksJ23_numberOfLeadingZeros_2 8 rfl rfl)
theorem dJ23_numberOfLeadingZeros_57 : decode cJ23_numberOfLeadingZeros 57 = .ok (.iload_n 0, 1) := dk_26 (dk_at dksJ23_numberOfLeadingZeros_2 11 rfl rfl)
theorem dJ23_numberOfLeadingZeros_58 : decode cJ23_numberOfLeadingZeros 58 = .ok (.iconst 4, 1) := dk_7 (dk_at dksJ23_numberOfLeadingZeros_2 12 rfl rfl)
theorem dJ23_numberOfLeadingZeros_59 : decode cJ23_numberOfLeadingZeros 59 = .ok (.iushr, 1) := dk_124 (dk_at dksJ23_numberOfLeadingZeros_2 13 rfl rfl)
theorem dJ23_numberOfLeadingZeros_60 : decode cJ23_numberOfLeadingZeros 60 = .ok (.istore_n 0, 1) := dk_59 (dk_at dksJ23_numberOfLeadingZeros_2 14 rfl rfl)
theorem dJ23_numberOfLeadingZeros_61 : decode cJ23_numberOfLeadingZeros 61 = .ok (.iload_n 0, 1) := dk_26 (dk_at dksJ23_numberOfLeadingZeros_2 15 rfl rfl)
theorem dJ23_numberOfLeadingZeros_62 : decode cJ23_numberOfLeadingZeros 62 = .ok (.iconst 4, 1) := dk_7 (dk_at dksJ23_numberOfLeadingZeros_2 16 rfl rfl)
theorem dJ23_numberOfLeadingZeros_63 : decode cJ23_numberOfLeadingZeros 63 = .ok (.if_icmp .lt 10, 3) := dk_161 0 10 (dk_at dksJ23_numberOfLeadingZeros_2 17 rfl rfl)
theorem dJ23_numberOfLeadingZeros_66 : decode cJ23_numberOfLeadingZeros 66 = .ok (.iinc 1 (-2), 3) := dk_132 1 254 (dk_at dksJ23_numberOfLeadingZeros_2 20 rfl rfl)
theorem dJ23_numberOfLeadingZeros_69 : decode cJ23_numberOfLeadingZeros 69 = .ok (.iload_n 0, 1) := dk_26 (dk_at dksJ23_numberOfLeadingZeros_2 23 rfl rfl)
theorem dJ23_numberOfLeadingZeros_70 : decode cJ23_numberOfLeadingZeros 70 = .ok (.iconst 2, 1) := dk_5 (dk_at dksJ23_numberOfLeadingZeros_3 0 rfl rfl)
theorem dJ23_numberOfLeadingZeros_71 : decode cJ23_numberOfLeadingZeros 71 = .ok (.iushr, 1) := dk_124 (dk_at dksJ23_numberOfLeadingZeros_3 1 rfl rfl)
theorem dJ23_numberOfLeadingZeros_72 : decode cJ23_numberOfLeadingZeros 72 = .ok (.istore_n 0, 1) := dk_59 (dk_at dksJ23_numberOfLeadingZeros_3 2 rfl rfl)
theorem dJ23_numberOfLeadingZeros_73 : decode cJ23_numberOfLeadingZeros 73 = .ok (.iload_n 1, 1) := dk_27 (dk_at dksJ23_numberOfLeadingZeros_3 3 rfl rfl)
theorem dJ23_numberOfLeadingZeros_74 : decode cJ23_numberOfLeadingZeros 74 = .ok (.iload_n 0, 1) := dk_26 (dk_at dksJ23_numberOfLeadingZeros_3 4 rfl rfl)
theorem dJ23_numberOfLeadingZeros_75 : decode cJ23_numberOfLeadingZeros 75 = .ok (.iconst 1, 1) := dk_4 (dk_at dksJ23_numberOfLeadingZeros_3 5 rfl rfl)
theorem dJ23_numberOfLeadingZeros_76 : decode cJ23_numberOfLeadingZeros 76 = .ok (.iushr, 1) := dk_124 (dk_at dksJ23_numberOfLeadingZeros_3 6 rfl rfl)
theorem dJ23_numberOfLeadingZeros_77 : decode cJ23_numberOfLeadingZeros 77 = .ok (.isub, 1) := dk_100 (dk_at dksJ23_numberOfLeadingZeros_3 7 rfl rfl)
theorem dJ23_numberOfLeadingZeros_78 : decode cJ23_numberOfLeadingZeros 78 = .ok (.ireturn, 1) := dk_172 (dk_at dksJ23_numberOfLeadingZeros_3 8 rfl rfl)
abbrev cJ23_numberOfTrailingZeros : ByteArray := prog_35_method_48_code
def yJ23_numberOfTrailingZeros : MethodName := ⟨RJ23, "numberOfTrailingZeros", "(I)I"⟩
def dkwJ23_numberOfTrailingZeros_3 : List UInt8 := [5, 124, 59, 27, 26, 4, 124, 96, 172]
abbrev dktJ23_numberOfTrailingZeros_3 : List UInt8 := dkwJ23_numberOfTrailingZeros_3 ++ []
def dkwJ23_numberOfTrailingZeros_2 : List UInt8 := [124, 59, 26, 16, 16, 164, 0, 10, 132, 1, 4, 26, 7, 124, 59, 26, 7, 164, 0, 10, 132, 1, 2, 26]
abbrev dktJ23_numberOfTrailingZeros_2 : List UInt8 := dkwJ23_numberOfTrailingZeros_2 ++ dktJ23_numberOfTrailingZeros_3
def dkwJ23_numberOfTrailingZeros_1 : List UInt8 := [164, 0, 11, 132, 1, 16, 26, 16, 16, 124, 59, 26, 17, 1, 0, 164, 0, 11, 132, 1, 8, 26, 16, 8]
abbrev dktJ23_numberOfTrailingZeros_1 : List UInt8 := dkwJ23_numberOfTrailingZeros_1 ++ dktJ23_numberOfTrailingZeros_2
def dkwJ23_numberOfTrailingZeros_0 : List UInt8 := [26, 2, 130, 26, 4, 100, 126, 59, 26, 157, 0, 8, 26, 16, 32, 126, 172, 4, 60, 26, 19, 1, 8]
abbrev dktJ23_numberOfTrailingZeros_0 : List UInt8 := dkwJ23_numberOfTrailingZeros_0 ++ dktJ23_numberOfTrailingZeros_1
theorem dksJ23_numberOfTrailingZeros_0 : cJ23_numberOfTrailingZeros.data.toList.drop 0 = dktJ23_numberOfTrailingZeros_0 := by decide +kernel
theorem dksJ23_numberOfTrailingZeros_1 : cJ23_numberOfTrailingZeros.data.toList.drop 23 = dktJ23_numberOfTrailingZeros_1 := dk_seg dksJ23_numberOfTrailingZeros_0 23 rfl rfl
theorem dksJ23_numberOfTrailingZeros_2 : cJ23_numberOfTrailingZeros.data.toList.drop 47 = dktJ23_numberOfTrailingZeros_2 := dk_seg dksJ23_numberOfTrailingZeros_1 24 rfl rfl
theorem dksJ23_numberOfTrailingZeros_3 : cJ23_numberOfTrailingZeros.data.toList.drop 71 = dktJ23_numberOfTrailingZeros_3 := dk_seg dksJ23_numberOfTrailingZeros_2 24 rfl rfl
theorem dJ23_numberOfTrailingZeros_0 : decode cJ23_numberOfTrailingZeros 0 = .ok (.iload_n 0, 1) := dk_26 (dk_at dksJ23_numberOfTrailingZeros_0 0 rfl rfl)
theorem dJ23_numberOfTrailingZeros_1 : decode cJ23_numberOfTrailingZeros 1 = .ok (.iconst (-1), 1) := dk_2 (dk_at dksJ23_numberOfTrailingZeros_0 1 rfl rfl)
theorem dJ23_numberOfTrailingZeros_2 : decode cJ23_numberOfTrailingZeros 2 = .ok (.ixor, 1) := dk_130 (dk_at dksJ23_numberOfTrailingZeros_0 2 rfl rfl)
theorem dJ23_numberOfTrailingZeros_3 : decode cJ23_numberOfTrailingZeros 3 = .ok (.iload_n 0, 1) := dk_26 (dk_at dksJ23_numberOfTrailingZeros_0 3 rfl rfl)
theorem dJ23_numberOfTrailingZeros_4 : decode cJ23_numberOfTrailingZeros 4 = .ok (.iconst 1, 1) := dk_4 (dk_at dksJ23_numberOfTrailingZeros_0 4 rfl rfl)
theorem dJ23_numberOfTrailingZeros_5 : decode cJ23_numberOfTrailingZeros 5 = .ok (.isub, 1) := dk_100 (dk_at dksJ23_numberOfTrailingZeros_0 5 rfl rfl)
theorem dJ23_numberOfTrailingZeros_6 : decode cJ23_numberOfTrailingZeros 6 = .ok (.iand, 1) := dk_126 (dk_at dksJ23_numberOfTrailingZeros_0 6 rfl rfl)
theorem dJ23_numberOfTrailingZeros_7 : decode cJ23_numberOfTrailingZeros 7 = .ok (.istore_n 0, 1) := dk_59 (dk_at dksJ23_numberOfTrailingZeros_0 7 rfl rfl)
theorem dJ23_numberOfTrailingZeros_8 : decode cJ23_numberOfTrailingZeros 8 = .ok (.iload_n 0, 1) := dk_26 (dk_at dksJ23_numberOfTrailingZeros_0 8 rfl rfl)
theorem dJ23_numberOfTrailingZeros_9 : decode cJ23_numberOfTrailingZeros 9 = .ok (.ifCond .gt 8, 3) := dk_157 0 8 (dk_at dksJ23_numberOfTrailingZeros_0 9 rfl rfl)
theorem dJ23_numberOfTrailingZeros_12 : decode cJ23_numberOfTrailingZeros 12 = .ok (.iload_n 0, 1) := dk_26 (dk_at dksJ23_numberOfTrailingZeros_0 12 rfl rfl)
theorem dJ23_numberOfTrailingZeros_13 : decode cJ23_numberOfTrailingZeros 13 = .ok (.bipush 32, 2) := dk_16 32 (dk_at dksJ23_numberOfTrailingZeros_0 13 rfl rfl)
theorem dJ23_numberOfTrailingZeros_15 : decode cJ23_numberOfTrailingZeros 15 = .ok (.iand, 1) := dk_126 (dk_at dksJ23_numberOfTrailingZeros_0 15 rfl rfl)
theorem dJ23_numberOfTrailingZeros_16 : decode cJ23_numberOfTrailingZeros 16 = .ok (.ireturn, 1) := dk_172 (dk_at dksJ23_numberOfTrailingZeros_0 16 rfl rfl)
theorem dJ23_numberOfTrailingZeros_17 : decode cJ23_numberOfTrailingZeros 17 = .ok (.iconst 1, 1) := dk_4 (dk_at dksJ23_numberOfTrailingZeros_0 17 rfl rfl)
theorem dJ23_numberOfTrailingZeros_18 : decode cJ23_numberOfTrailingZeros 18 = .ok (.istore_n 1, 1) := dk_60 (dk_at dksJ23_numberOfTrailingZeros_0 18 rfl rfl)
theorem dJ23_numberOfTrailingZeros_19 : decode cJ23_numberOfTrailingZeros 19 = .ok (.iload_n 0, 1) := dk_26 (dk_at dksJ23_numberOfTrailingZeros_0 19 rfl rfl)
theorem dJ23_numberOfTrailingZeros_20 : decode cJ23_numberOfTrailingZeros 20 = .ok (.ldc_w 264, 3) := dk_19 1 8 (dk_at dksJ23_numberOfTrailingZeros_0 20 rfl rfl)
theorem dJ23_numberOfTrailingZeros_23 : decode cJ23_numberOfTrailingZeros 23 = .ok (.if_icmp .le 11, 3) := dk_164 0 11 (dk_at dksJ23_numberOfTrailingZeros_1 0 rfl rfl)
theorem dJ23_numberOfTrailingZeros_26 : decode cJ23_numberOfTrailingZeros 26 = .ok (.iinc 1 16, 3) := dk_132 1 16 (dk_at dksJ23_numberOfTrailingZeros_1 3 rfl rfl)
theorem dJ23_numberOfTrailingZeros_29 : decode cJ23_numberOfTrailingZeros 29 = .ok (.iload_n 0, 1) := dk_26 (dk_at dksJ23_numberOfTrailingZeros_1 6 rfl rfl)
theorem dJ23_numberOfTrailingZeros_30 : decode cJ23_numberOfTrailingZeros 30 = .ok (.bipush 16, 2) := dk_16 16 (dk_at dksJ23_numberOfTrailingZeros_1 7 rfl rfl)
theorem dJ23_numberOfTrailingZeros_32 : decode cJ23_numberOfTrailingZeros 32 = .ok (.iushr, 1) := dk_124 (dk_at dksJ23_numberOfTrailingZeros_1 9 rfl rfl)
theorem dJ23_numberOfTrailingZeros_33 : decode cJ23_numberOfTrailingZeros 33 = .ok (.istore_n 0, 1) := dk_59 (dk_at dksJ23_numberOfTrailingZeros_1 10 rfl rfl)
theorem dJ23_numberOfTrailingZeros_34 : decode cJ23_numberOfTrailingZeros 34 = .ok (.iload_n 0, 1) := dk_26 (dk_at dksJ23_numberOfTrailingZeros_1 11 rfl rfl)
theorem dJ23_numberOfTrailingZeros_35 : decode cJ23_numberOfTrailingZeros 35 = .ok (.sipush 256, 3) := dk_17 1 0 (dk_at dksJ23_numberOfTrailingZeros_1 12 rfl rfl)
theorem dJ23_numberOfTrailingZeros_38 : decode cJ23_numberOfTrailingZeros 38 = .ok (.if_icmp .le 11, 3) := dk_164 0 11 (dk_at dksJ23_numberOfTrailingZeros_1 15 rfl rfl)
theorem dJ23_numberOfTrailingZeros_41 : decode cJ23_numberOfTrailingZeros 41 = .ok (.iinc 1 8, 3) := dk_132 1 8 (dk_at dksJ23_numberOfTrailingZeros_1 18 rfl rfl)
theorem dJ23_numberOfTrailingZeros_44 : decode cJ23_numberOfTrailingZeros 44 = .ok (.iload_n 0, 1) := dk_26 (dk_at dksJ23_numberOfTrailingZeros_1 21 rfl rfl)
theorem dJ23_numberOfTrailingZeros_45 : decode cJ23_numberOfTrailingZeros 45 = .ok (.bipush 8, 2) := dk_16 8 (dk_at dksJ23_numberOfTrailingZeros_1 22 rfl rfl)
theorem dJ23_numberOfTrailingZeros_47 : decode cJ23_numberOfTrailingZeros 47 = .ok (.iushr, 1) := dk_124 (dk_at dksJ23_numberOfTrailingZeros_2 0 rfl rfl)
theorem dJ23_numberOfTrailingZeros_48 : decode cJ23_numberOfTrailingZeros 48 = .ok (.istore_n 0, 1) := dk_59 (dk_at dksJ23_numberOfTrailingZeros_2 1 rfl rfl)
theorem dJ23_numberOfTrailingZeros_49 : decode cJ23_numberOfTrailingZeros 49 = .ok (.iload_n 0, 1) := dk_26 (dk_at dksJ23_numberOfTrailingZeros_2 2 rfl rfl)
theorem dJ23_numberOfTrailingZeros_50 : decode cJ23_numberOfTrailingZeros 50 = .ok (.bipush 16, 2) := dk_16 16 (dk_at dksJ23_numberOfTrailingZeros_2 3 rfl rfl)
theorem dJ23_numberOfTrailingZeros_52 : decode cJ23_numberOfTrailingZeros 52 = .ok (.if_icmp .le 10, 3) := dk_164 0 10 (dk_at dksJ23_numberOfTrailingZeros_2 5 rfl rfl)
theorem dJ23_numberOfTrailingZeros_55 : decode cJ23_numberOfTrailingZeros 55 = .ok (.iinc 1 4, 3) := dk_132 1 4 (dk_at dksJ23_numberOfTrailingZeros_2 8 rfl rfl)
theorem dJ23_numberOfTrailingZeros_58 : decode cJ23_numberOfTrailingZeros 58 = .ok (.iload_n 0, 1) := dk_26 (dk_at dksJ23_numberOfTrailingZeros_2 11 rfl rfl)
theorem dJ23_numberOfTrailingZeros_59 : decode cJ23_numberOfTrailingZeros 59 = .ok (.iconst 4, 1) := dk_7 (dk_at dksJ23_numberOfTrailingZeros_2 12 rfl rfl)
theorem dJ23_numberOfTrailingZeros_60 : decode cJ23_numberOfTrailingZeros 60 = .ok (.iushr, 1) := dk_124 (dk_at dksJ23_numberOfTrailingZeros_2 13 rfl rfl)
theorem dJ23_numberOfTrailingZeros_61 : decode cJ23_numberOfTrailingZeros 61 = .ok (.istore_n 0, 1) := dk_59 (dk_at dksJ23_numberOfTrailingZeros_2 14 rfl rfl)
theorem dJ23_numberOfTrailingZeros_62 : decode cJ23_numberOfTrailingZeros 62 = .ok (.iload_n 0, 1) := dk_26 (dk_at dksJ23_numberOfTrailingZeros_2 15 rfl rfl)
theorem dJ23_numberOfTrailingZeros_63 : decode cJ23_numberOfTrailingZeros 63 = .ok (.iconst 4, 1) := dk_7 (dk_at dksJ23_numberOfTrailingZeros_2 16 rfl rfl)
theorem dJ23_numberOfTrailingZeros_64 : decode cJ23_numberOfTrailingZeros 64 = .ok (.if_icmp .le 10, 3) := dk_164 0 10 (dk_at dksJ23_numberOfTrailingZeros_2 17 rfl rfl)
theorem dJ23_numberOfTrailingZeros_67 : decode cJ23_numberOfTrailingZeros 67 = .ok (.iinc 1 2, 3) := dk_132 1 2 (dk_at dksJ23_numberOfTrailingZeros_2 20 rfl rfl)
theorem dJ23_numberOfTrailingZeros_70 : decode cJ23_numberOfTrailingZeros 70 = .ok (.iload_n 0, 1) := dk_26 (dk_at dksJ23_numberOfTrailingZeros_2 23 rfl rfl)
theorem dJ23_numberOfTrailingZeros_71 : decode cJ23_numberOfTrailingZeros 71 = .ok (.iconst 2, 1) := dk_5 (dk_at dksJ23_numberOfTrailingZeros_3 0 rfl rfl)
theorem dJ23_numberOfTrailingZeros_72 : decode cJ23_numberOfTrailingZeros 72 = .ok (.iushr, 1) := dk_124 (dk_at dksJ23_numberOfTrailingZeros_3 1 rfl rfl)
theorem dJ23_numberOfTrailingZeros_73 : decode cJ23_numberOfTrailingZeros 73 = .ok (.istore_n 0, 1) := dk_59 (dk_at dksJ23_numberOfTrailingZeros_3 2 rfl rfl)
theorem dJ23_numberOfTrailingZeros_74 : decode cJ23_numberOfTrailingZeros 74 = .ok (.iload_n 1, 1) := dk_27 (dk_at dksJ23_numberOfTrailingZeros_3 3 rfl rfl)
theorem dJ23_numberOfTrailingZeros_75 : decode cJ23_numberOfTrailingZeros 75 = .ok (.iload_n 0, 1) := dk_26 (dk_at dksJ23_numberOfTrailingZeros_3 4 rfl rfl)
theorem dJ23_numberOfTrailingZeros_76 : decode cJ23_numberOfTrailingZeros 76 = .ok (.iconst 1, 1) := dk_4 (dk_at dksJ23_numberOfTrailingZeros_3 5 rfl rfl)
theorem dJ23_numberOfTrailingZeros_77 : decode cJ23_numberOfTrailingZeros 77 = .ok (.iushr, 1) := dk_124 (dk_at dksJ23_numberOfTrailingZeros_3 6 rfl rfl)
theorem dJ23_numberOfTrailingZeros_78 : decode cJ23_numberOfTrailingZeros 78 = .ok (.iadd, 1) := dk_96 (dk_at dksJ23_numberOfTrailingZeros_3 7 rfl rfl)
theorem dJ23_numberOfTrailingZeros_79 : decode cJ23_numberOfTrailingZeros 79 = .ok (.ireturn, 1) := dk_172 (dk_at dksJ23_numberOfTrailingZeros_3 8 rfl rfl)
abbrev cJ23_bitCount : ByteArray := prog_35_method_49_code
def yJ23_bitCount : MethodName := ⟨RJ23, "bitCount", "(I)I"⟩
def dkwJ23_bitCount_2 : List UInt8 := [26, 16, 63, 126, 172]
abbrev dktJ23_bitCount_2 : List UInt8 := dkwJ23_bitCount_2 ++ []
def dkwJ23_bitCount_1 : List UInt8 := [26, 26, 7, 124, 96, 19, 1, 11, 126, 59, 26, 26, 16, 8, 124, 96, 59, 26, 26, 16, 16, 124, 96, 59]
abbrev dktJ23_bitCount_1 : List UInt8 := dkwJ23_bitCount_1 ++ dktJ23_bitCount_2
def dkwJ23_bitCount_0 : List UInt8 := [26, 26, 4, 124, 19, 1, 9, 126, 100, 59, 26, 19, 1, 10, 126, 26, 5, 124, 19, 1, 10, 126, 96, 59]
abbrev dktJ23_bitCount_0 : List UInt8 := dkwJ23_bitCount_0 ++ dktJ23_bitCount_1
theorem dksJ23_bitCount_0 : cJ23_bitCount.data.toList.drop 0 = dktJ23_bitCount_0 := by decide +kernel
theorem dksJ23_bitCount_1 : cJ23_bitCount.data.toList.drop 24 = dktJ23_bitCount_1 := dk_seg dksJ23_bitCount_0 24 rfl rfl
theorem dksJ23_bitCount_2 : cJ23_bitCount.data.toList.drop 48 = dktJ23_bitCount_2 := dk_seg dksJ23_bitCount_1 24 rfl rfl
theorem dJ23_bitCount_0 : decode cJ23_bitCount 0 = .ok (.iload_n 0, 1) := dk_26 (dk_at dksJ23_bitCount_0 0 rfl rfl)
theorem dJ23_bitCount_1 : decode cJ23_bitCount 1 = .ok (.iload_n 0, 1) := dk_26 (dk_at dksJ23_bitCount_0 1 rfl rfl)
theorem dJ23_bitCount_2 : decode cJ23_bitCount 2 = .ok (.iconst 1, 1) := dk_4 (dk_at dksJ23_bitCount_0 2 rfl rfl)
theorem dJ23_bitCount_3 : decode cJ23_bitCount 3 = .ok (.iushr, 1) := dk_124 (dk_at dksJ23_bitCount_0 3 rfl rfl)
theorem dJ23_bitCount_4 : decode cJ23_bitCount 4 = .ok (.ldc_w 265, 3) := dk_19 1 9 (dk_at dksJ23_bitCount_0 4 rfl rfl)
theorem dJ23_bitCount_7 : decode cJ23_bitCount 7 = .ok (.iand, 1) := dk_126 (dk_at dksJ23_bitCount_0 7 rfl rfl)
theorem dJ23_bitCount_8 : decode cJ23_bitCount 8 = .ok (.isub, 1) := dk_100 (dk_at dksJ23_bitCount_0 8 rfl rfl)
theorem dJ23_bitCount_9 : decode cJ23_bitCount 9 = .ok (.istore_n 0, 1) := dk_59 (dk_at dksJ23_bitCount_0 9 rfl rfl)
theorem dJ23_bitCount_10 : decode cJ23_bitCount 10 = .ok (.iload_n 0, 1) := dk_26 (dk_at dksJ23_bitCount_0 10 rfl rfl)
theorem dJ23_bitCount_11 : decode cJ23_bitCount 11 = .ok (.ldc_w 266, 3) := dk_19 1 10 (dk_at dksJ23_bitCount_0 11 rfl rfl)
theorem dJ23_bitCount_14 : decode cJ23_bitCount 14 = .ok (.iand, 1) := dk_126 (dk_at dksJ23_bitCount_0 14 rfl rfl)
theorem dJ23_bitCount_15 : decode cJ23_bitCount 15 = .ok (.iload_n 0, 1) := dk_26 (dk_at dksJ23_bitCount_0 15 rfl rfl)
theorem dJ23_bitCount_16 : decode cJ23_bitCount 16 = .ok (.iconst 2, 1) := dk_5 (dk_at dksJ23_bitCount_0 16 rfl rfl)
theorem dJ23_bitCount_17 : decode cJ23_bitCount 17 = .ok (.iushr, 1) := dk_124 (dk_at dksJ23_bitCount_0 17 rfl rfl)
theorem dJ23_bitCount_18 : decode cJ23_bitCount 18 = .ok (.ldc_w 266, 3) := dk_19 1 10 (dk_at dksJ23_bitCount_0 18 rfl rfl)
theorem dJ23_bitCount_21 : decode cJ23_bitCount 21 = .ok (.iand, 1) := dk_126 (dk_at dksJ23_bitCount_0 21 rfl rfl)
theorem dJ23_bitCount_22 : decode cJ23_bitCount 22 = .ok (.iadd, 1) := dk_96 (dk_at dksJ23_bitCount_0 22 rfl rfl)
theorem dJ23_bitCount_23 : decode cJ23_bitCount 23 = .ok (.istore_n 0, 1) := dk_59 (dk_at dksJ23_bitCount_0 23 rfl rfl)
theorem dJ23_bitCount_24 : decode cJ23_bitCount 24 = .ok (.iload_n 0, 1) := dk_26 (dk_at dksJ23_bitCount_1 0 rfl rfl)
theorem dJ23_bitCount_25 : decode cJ23_bitCount 25 = .ok (.iload_n 0, 1) := dk_26 (dk_at dksJ23_bitCount_1 1 rfl rfl)
theorem dJ23_bitCount_26 : decode cJ23_bitCount 26 = .ok (.iconst 4, 1) := dk_7 (dk_at dksJ23_bitCount_1 2 rfl rfl)
theorem dJ23_bitCount_27 : decode cJ23_bitCount 27 = .ok (.iushr, 1) := dk_124 (dk_at dksJ23_bitCount_1 3 rfl rfl)
theorem dJ23_bitCount_28 : decode cJ23_bitCount 28 = .ok (.iadd, 1) := dk_96 (dk_at dksJ23_bitCount_1 4 rfl rfl)
theorem dJ23_bitCount_29 : decode cJ23_bitCount 29 = .ok (.ldc_w 267, 3) := dk_19 1 11 (dk_at dksJ23_bitCount_1 5 rfl rfl)
theorem dJ23_bitCount_32 : decode cJ23_bitCount 32 = .ok (.iand, 1) := dk_126 (dk_at dksJ23_bitCount_1 8 rfl rfl)
theorem dJ23_bitCount_33 : decode cJ23_bitCount 33 = .ok (.istore_n 0, 1) := dk_59 (dk_at dksJ23_bitCount_1 9 rfl rfl)
theorem dJ23_bitCount_34 : decode cJ23_bitCount 34 = .ok (.iload_n 0, 1) := dk_26 (dk_at dksJ23_bitCount_1 10 rfl rfl)
theorem dJ23_bitCount_35 : decode cJ23_bitCount 35 = .ok (.iload_n 0, 1) := dk_26 (dk_at dksJ23_bitCount_1 11 rfl rfl)
theorem dJ23_bitCount_36 : decode cJ23_bitCount 36 = .ok (.bipush 8, 2) := dk_16 8 (dk_at dksJ23_bitCount_1 12 rfl rfl)
theorem dJ23_bitCount_38 : decode cJ23_bitCount 38 = .ok (.iushr, 1) := dk_124 (dk_at dksJ23_bitCount_1 14 rfl rfl)
theorem dJ23_bitCount_39 : decode cJ23_bitCount 39 = .ok (.iadd, 1) := dk_96 (dk_at dksJ23_bitCount_1 15 rfl rfl)
theorem dJ23_bitCount_40 : decode cJ23_bitCount 40 = .ok (.istore_n 0, 1) := dk_59 (dk_at dksJ23_bitCount_1 16 rfl rfl)
theorem dJ23_bitCount_41 : decode cJ23_bitCount 41 = .ok (.iload_n 0, 1) := dk_26 (dk_at dksJ23_bitCount_1 17 rfl rfl)
theorem dJ23_bitCount_42 : decode cJ23_bitCount 42 = .ok (.iload_n 0, 1) := dk_26 (dk_at dksJ23_bitCount_1 18 rfl rfl)
theorem dJ23_bitCount_43 : decode cJ23_bitCount 43 = .ok (.bipush 16, 2) := dk_16 16 (dk_at dksJ23_bitCount_1 19 rfl rfl)
theorem dJ23_bitCount_45 : decode cJ23_bitCount 45 = .ok (.iushr, 1) := dk_124 (dk_at dksJ23_bitCount_1 21 rfl rfl)
theorem dJ23_bitCount_46 : decode cJ23_bitCount 46 = .ok (.iadd, 1) := dk_96 (dk_at dksJ23_bitCount_1 22 rfl rfl)
theorem dJ23_bitCount_47 : decode cJ23_bitCount 47 = .ok (.istore_n 0, 1) := dk_59 (dk_at dksJ23_bitCount_1 23 rfl rfl)
theorem dJ23_bitCount_48 : decode cJ23_bitCount 48 = .ok (.iload_n 0, 1) := dk_26 (dk_at dksJ23_bitCount_2 0 rfl rfl)
theorem dJ23_bitCount_49 : decode cJ23_bitCount 49 = .ok (.bipush 63, 2) := dk_16 63 (dk_at dksJ23_bitCount_2 1 rfl rfl)
theorem dJ23_bitCount_51 : decode cJ23_bitCount 51 = .ok (.iand, 1) := dk_126 (dk_at dksJ23_bitCount_2 3 rfl rfl)
theorem dJ23_bitCount_52 : decode cJ23_bitCount 52 = .ok (.ireturn, 1) := dk_172 (dk_at dksJ23_bitCount_2 4 rfl rfl)
abbrev cJ23_stringSize : ByteArray := prog_35_method_13_code
def yJ23_stringSize : MethodName := ⟨RJ23, "stringSize", "(I)I"⟩
def dkwJ23_stringSize_1 : List UInt8 := [164, 0, 7, 29, 27, 96, 172, 16, 10, 28, 104, 61, 132, 3, 1, 167, 255, 233, 16, 10, 27, 96, 172]
abbrev dktJ23_stringSize_1 : List UInt8 := dkwJ23_stringSize_1 ++ []
def dkwJ23_stringSize_0 : List UInt8 := [4, 60, 26, 155, 0, 8, 3, 60, 26, 116, 59, 16, 246, 61, 4, 62, 29, 16, 10, 162, 0, 23, 26, 28]
abbrev dktJ23_stringSize_0 : List UInt8 := dkwJ23_stringSize_0 ++ dktJ23_stringSize_1
theorem dksJ23_stringSize_0 : cJ23_stringSize.data.toList.drop 0 = dktJ23_stringSize_0 := by decide +kernel
theorem dksJ23_stringSize_1 : cJ23_stringSize.data.toList.drop 24 = dktJ23_stringSize_1 := dk_seg dksJ23_stringSize_0 24 rfl rfl
theorem dJ23_stringSize_0 : decode cJ23_stringSize 0 = .ok (.iconst 1, 1) := dk_4 (dk_at dksJ23_stringSize_0 0 rfl rfl)
theorem dJ23_stringSize_1 : decode cJ23_stringSize 1 = .ok (.istore_n 1, 1) := dk_60 (dk_at dksJ23_stringSize_0 1 rfl rfl)
theorem dJ23_stringSize_2 : decode cJ23_stringSize 2 = .ok (.iload_n 0, 1) := dk_26 (dk_at dksJ23_stringSize_0 2 rfl rfl)
theorem dJ23_stringSize_3 : decode cJ23_stringSize 3 = .ok (.ifCond .lt 8, 3) := dk_155 0 8 (dk_at dksJ23_stringSize_0 3 rfl rfl)
theorem dJ23_stringSize_6 : decode cJ23_stringSize 6 = .ok (.iconst 0, 1) := dk_3 (dk_at dksJ23_stringSize_0 6 rfl rfl)
theorem dJ23_stringSize_7 : decode cJ23_stringSize 7 = .ok (.istore_n 1, 1) := dk_60 (dk_at dksJ23_stringSize_0 7 rfl rfl)
theorem dJ23_stringSize_8 : decode cJ23_stringSize 8 = .ok (.iload_n 0, 1) := dk_26 (dk_at dksJ23_stringSize_0 8 rfl rfl)
theorem dJ23_stringSize_9 : decode cJ23_stringSize 9 = .ok (.ineg, 1) := dk_116 (dk_at dksJ23_stringSize_0 9 rfl rfl)
theorem dJ23_stringSize_10 : decode cJ23_stringSize 10 = .ok (.istore_n 0, 1) := dk_59 (dk_at dksJ23_stringSize_0 10 rfl rfl)
theorem dJ23_stringSize_11 : decode cJ23_stringSize 11 = .ok (.bipush (-10), 2) := dk_16 246 (dk_at dksJ23_stringSize_0 11 rfl rfl)
theorem dJ23_stringSize_13 : decode cJ23_stringSize 13 = .ok (.istore_n 2, 1) := dk_61 (dk_at dksJ23_stringSize_0 13 rfl rfl)
theorem dJ23_stringSize_14 : decode cJ23_stringSize 14 = .ok (.iconst 1, 1) := dk_4 (dk_at dksJ23_stringSize_0 14 rfl rfl)
theorem dJ23_stringSize_15 : decode cJ23_stringSize 15 = .ok (.istore_n 3, 1) := dk_62 (dk_at dksJ23_stringSize_0 15 rfl rfl)
theorem dJ23_stringSize_16 : decode cJ23_stringSize 16 = .ok (.iload_n 3, 1) := dk_29 (dk_at dksJ23_stringSize_0 16 rfl rfl)
theorem dJ23_stringSize_17 : decode cJ23_stringSize 17 = .ok (.bipush 10, 2) := dk_16 10 (dk_at dksJ23_stringSize_0 17 rfl rfl)
theorem dJ23_stringSize_19 : decode cJ23_stringSize 19 = .ok (.if_icmp .ge 23, 3) := dk_162 0 23 (dk_at dksJ23_stringSize_0 19 rfl rfl)
theorem dJ23_stringSize_22 : decode cJ23_stringSize 22 = .ok (.iload_n 0, 1) := dk_26 (dk_at dksJ23_stringSize_0 22 rfl rfl)
theorem dJ23_stringSize_23 : decode cJ23_stringSize 23 = .ok (.iload_n 2, 1) := dk_28 (dk_at dksJ23_stringSize_0 23 rfl rfl)
theorem dJ23_stringSize_24 : decode cJ23_stringSize 24 = .ok (.if_icmp .le 7, 3) := dk_164 0 7 (dk_at dksJ23_stringSize_1 0 rfl rfl)
theorem dJ23_stringSize_27 : decode cJ23_stringSize 27 = .ok (.iload_n 3, 1) := dk_29 (dk_at dksJ23_stringSize_1 3 rfl rfl)
theorem dJ23_stringSize_28 : decode cJ23_stringSize 28 = .ok (.iload_n 1, 1) := dk_27 (dk_at dksJ23_stringSize_1 4 rfl rfl)
theorem dJ23_stringSize_29 : decode cJ23_stringSize 29 = .ok (.iadd, 1) := dk_96 (dk_at dksJ23_stringSize_1 5 rfl rfl)
theorem dJ23_stringSize_30 : decode cJ23_stringSize 30 = .ok (.ireturn, 1) := dk_172 (dk_at dksJ23_stringSize_1 6 rfl rfl)
theorem dJ23_stringSize_31 : decode cJ23_stringSize 31 = .ok (.bipush 10, 2) := dk_16 10 (dk_at dksJ23_stringSize_1 7 rfl rfl)
theorem dJ23_stringSize_33 : decode cJ23_stringSize 33 = .ok (.iload_n 2, 1) := dk_28 (dk_at dksJ23_stringSize_1 9 rfl rfl)
theorem dJ23_stringSize_34 : decode cJ23_stringSize 34 = .ok (.imul, 1) := dk_104 (dk_at dksJ23_stringSize_1 10 rfl rfl)
theorem dJ23_stringSize_35 : decode cJ23_stringSize 35 = .ok (.istore_n 2, 1) := dk_61 (dk_at dksJ23_stringSize_1 11 rfl rfl)
theorem dJ23_stringSize_36 : decode cJ23_stringSize 36 = .ok (.iinc 3 1, 3) := dk_132 3 1 (dk_at dksJ23_stringSize_1 12 rfl rfl)
theorem dJ23_stringSize_39 : decode cJ23_stringSize 39 = .ok (.goto (-23), 3) := dk_167 255 233 (dk_at dksJ23_stringSize_1 15 rfl rfl)
theorem dJ23_stringSize_42 : decode cJ23_stringSize 42 = .ok (.bipush 10, 2) := dk_16 10 (dk_at dksJ23_stringSize_1 18 rfl rfl)
theorem dJ23_stringSize_44 : decode cJ23_stringSize 44 = .ok (.iload_n 1, 1) := dk_27 (dk_at dksJ23_stringSize_1 20 rfl rfl)
theorem dJ23_stringSize_45 : decode cJ23_stringSize 45 = .ok (.iadd, 1) := dk_96 (dk_at dksJ23_stringSize_1 21 rfl rfl)
theorem dJ23_stringSize_46 : decode cJ23_stringSize 46 = .ok (.ireturn, 1) := dk_172 (dk_at dksJ23_stringSize_1 22 rfl rfl)
abbrev cJ23_getChars : ByteArray := prog_35_method_12_code
def yJ23_getChars : MethodName := ⟨RJ23, "getChars", "(II[B)I"⟩
def dkwJ23_getChars_5 : List UInt8 := [16, 45, 84, 21, 5, 172]
abbrev dktJ23_getChars_5 : List UInt8 := dkwJ23_getChars_5 ++ []
def dkwJ23_getChars_4 : List UInt8 := [132, 5, 255, 21, 5, 178, 0, 87, 26, 116, 51, 84, 21, 6, 153, 0, 12, 44, 132, 5, 255, 21, 5]
abbrev dktJ23_getChars_4 : List UInt8 := dkwJ23_getChars_4 ++ dktJ23_getChars_5
def dkwJ23_getChars_3 : List UInt8 := [167, 255, 209, 44, 132, 5, 255, 21, 5, 178, 0, 83, 26, 116, 51, 84, 26, 16, 247, 162, 0, 16, 44]
abbrev dktJ23_getChars_3 : List UInt8 := dkwJ23_getChars_3 ++ dktJ23_getChars_4
def dkwJ23_getChars_2 : List UInt8 := [21, 5, 178, 0, 83, 21, 4, 51, 84, 44, 132, 5, 255, 21, 5, 178, 0, 87, 21, 4, 51, 84]
abbrev dktJ23_getChars_2 : List UInt8 := dkwJ23_getChars_2 ++ dktJ23_getChars_3
def dkwJ23_getChars_1 : List UInt8 := [16, 156, 163, 0, 47, 26, 16, 100, 108, 62, 29, 16, 100, 104, 26, 100, 54, 4, 29, 59, 44, 132, 5, 255]
abbrev dktJ23_getChars_1 : List UInt8 := dkwJ23_getChars_1 ++ dktJ23_getChars_2
def dkwJ23_getChars_0 : List UInt8 := [27, 54, 5, 26, 156, 0, 7, 4, 167, 0, 4, 3, 54, 6, 21, 6, 154, 0, 6, 26, 116, 59, 26]
abbrev dktJ23_getChars_0 : List UInt8 := dkwJ23_getChars_0 ++ dktJ23_getChars_1
theorem dksJ23_getChars_0 : cJ23_getChars.data.toList.drop 0 = dktJ23_getChars_0 := by decide +kernel
theorem dksJ23_getChars_1 : cJ23_getChars.data.toList.drop 23 = dktJ23_getChars_1 := dk_seg dksJ23_getChars_0 23 rfl rfl
theorem dksJ23_getChars_2 : cJ23_getChars.data.toList.drop 47 = dktJ23_getChars_2 := dk_seg dksJ23_getChars_1 24 rfl rfl
theorem dksJ23_getChars_3 : cJ23_getChars.data.toList.drop 69 = dktJ23_getChars_3 := dk_seg dksJ23_getChars_2 22 rfl rfl
theorem dksJ23_getChars_4 : cJ23_getChars.data.toList.drop 92 = dktJ23_getChars_4 := dk_seg dksJ23_getChars_3 23 rfl rfl
theorem dksJ23_getChars_5 : cJ23_getChars.data.toList.drop 115 = dktJ23_getChars_5 := dk_seg dksJ23_getChars_4 23 rfl rfl
theorem dJ23_getChars_0 : decode cJ23_getChars 0 = .ok (.iload_n 1, 1) := dk_27 (dk_at dksJ23_getChars_0 0 rfl rfl)
theorem dJ23_getChars_1 : decode cJ23_getChars 1 = .ok (.istore 5, 2) := dk_54 5 (dk_at dksJ23_getChars_0 1 rfl rfl)
theorem dJ23_getChars_3 : decode cJ23_getChars 3 = .ok (.iload_n 0, 1) := dk_26 (dk_at dksJ23_getChars_0 3 rfl rfl)
theorem dJ23_getChars_4 : decode cJ23_getChars 4 = .ok (.ifCond .ge 7, 3) := dk_156 0 7 (dk_at dksJ23_getChars_0 4 rfl rfl)
theorem dJ23_getChars_7 : decode cJ23_getChars 7 = .ok (.iconst 1, 1) := dk_4 (dk_at dksJ23_getChars_0 7 rfl rfl)
theorem dJ23_getChars_8 : decode cJ23_getChars 8 = .ok (.goto 4, 3) := dk_167 0 4 (dk_at dksJ23_getChars_0 8 rfl rfl)
theorem dJ23_getChars_11 : decode cJ23_getChars 11 = .ok (.iconst 0, 1) := dk_3 (dk_at dksJ23_getChars_0 11 rfl rfl)
theorem dJ23_getChars_12 : decode cJ23_getChars 12 = .ok (.istore 6, 2) := dk_54 6 (dk_at dksJ23_getChars_0 12 rfl rfl)
theorem dJ23_getChars_14 : decode cJ23_getChars 14 = .ok (.iload 6, 2) := dk_21 6 (dk_at dksJ23_getChars_0 14 rfl rfl)
theorem dJ23_getChars_16 : decode cJ23_getChars 16 = .ok (.ifCond .ne 6, 3) := dk_154 0 6 (dk_at dksJ23_getChars_0 16 rfl rfl)
theorem dJ23_getChars_19 : decode cJ23_getChars 19 = .ok (.iload_n 0, 1) := dk_26 (dk_at dksJ23_getChars_0 19 rfl rfl)
theorem dJ23_getChars_20 : decode cJ23_getChars 20 = .ok (.ineg, 1) := dk_116 (dk_at dksJ23_getChars_0 20 rfl rfl)
theorem dJ23_getChars_21 : decode cJ23_getChars 21 = .ok (.istore_n 0, 1) := dk_59 (dk_at dksJ23_getChars_0 21 rfl rfl)
theorem dJ23_getChars_22 : decode cJ23_getChars 22 = .ok (.iload_n 0, 1) := dk_26 (dk_at dksJ23_getChars_0 22 rfl rfl)
theorem dJ23_getChars_23 : decode cJ23_getChars 23 = .ok (.bipush (-100), 2) := dk_16 156 (dk_at dksJ23_getChars_1 0 rfl rfl)
theorem dJ23_getChars_25 : decode cJ23_getChars 25 = .ok (.if_icmp .gt 47, 3) := dk_163 0 47 (dk_at dksJ23_getChars_1 2 rfl rfl)
theorem dJ23_getChars_28 : decode cJ23_getChars 28 = .ok (.iload_n 0, 1) := dk_26 (dk_at dksJ23_getChars_1 5 rfl rfl)
theorem dJ23_getChars_29 : decode cJ23_getChars 29 = .ok (.bipush 100, 2) := dk_16 100 (dk_at dksJ23_getChars_1 6 rfl rfl)
theorem dJ23_getChars_31 : decode cJ23_getChars 31 = .ok (.idiv, 1) := dk_108 (dk_at dksJ23_getChars_1 8 rfl rfl)
theorem dJ23_getChars_32 : decode cJ23_getChars 32 = .ok (.istore_n 3, 1) := dk_62 (dk_at dksJ23_getChars_1 9 rfl rfl)
theorem dJ23_getChars_33 : decode cJ23_getChars 33 = .ok (.iload_n 3, 1) := dk_29 (dk_at dksJ23_getChars_1 10 rfl rfl)
theorem dJ23_getChars_34 : decode cJ23_getChars 34 = .ok (.bipush 100, 2) := dk_16 100 (dk_at dksJ23_getChars_1 11 rfl rfl)
theorem dJ23_getChars_36 : decode cJ23_getChars 36 = .ok (.imul, 1) := dk_104 (dk_at dksJ23_getChars_1 13 rfl rfl)
theorem dJ23_getChars_37 : decode cJ23_getChars 37 = .ok (.iload_n 0, 1) := dk_26 (dk_at dksJ23_getChars_1 14 rfl rfl)
theorem dJ23_getChars_38 : decode cJ23_getChars 38 = .ok (.isub, 1) := dk_100 (dk_at dksJ23_getChars_1 15 rfl rfl)
theorem dJ23_getChars_39 : decode cJ23_getChars 39 = .ok (.istore 4, 2) := dk_54 4 (dk_at dksJ23_getChars_1 16 rfl rfl)
theorem dJ23_getChars_41 : decode cJ23_getChars 41 = .ok (.iload_n 3, 1) := dk_29 (dk_at dksJ23_getChars_1 18 rfl rfl)
theorem dJ23_getChars_42 : decode cJ23_getChars 42 = .ok (.istore_n 0, 1) := dk_59 (dk_at dksJ23_getChars_1 19 rfl rfl)
theorem dJ23_getChars_43 : decode cJ23_getChars 43 = .ok (.aload_n 2, 1) := dk_44 (dk_at dksJ23_getChars_1 20 rfl rfl)
theorem dJ23_getChars_44 : decode cJ23_getChars 44 = .ok (.iinc 5 (-1), 3) := dk_132 5 255 (dk_at dksJ23_getChars_1 21 rfl rfl)
theorem dJ23_getChars_47 : decode cJ23_getChars 47 = .ok (.iload 5, 2) := dk_21 5 (dk_at dksJ23_getChars_2 0 rfl rfl)
theorem dJ23_getChars_49 : decode cJ23_getChars 49 = .ok (.getstatic 83, 3) := dk_178 0 83 (dk_at dksJ23_getChars_2 2 rfl rfl)
theorem dJ23_getChars_52 : decode cJ23_getChars 52 = .ok (.iload 4, 2) := dk_21 4 (dk_at dksJ23_getChars_2 5 rfl rfl)
theorem dJ23_getChars_54 : decode cJ23_getChars 54 = .ok (.baload, 1) := dk_51 (dk_at dksJ23_getChars_2 7 rfl rfl)
theorem dJ23_getChars_55 : decode cJ23_getChars 55 = .ok (.bastore, 1) := dk_84 (dk_at dksJ23_getChars_2 8 rfl rfl)
theorem dJ23_getChars_56 : decode cJ23_getChars 56 = .ok (.aload_n 2, 1) := dk_44 (dk_at dksJ23_getChars_2 9 rfl rfl)
theorem dJ23_getChars_57 : decode cJ23_getChars 57 = .ok (.iinc 5 (-1), 3) := dk_132 5 255 (dk_at dksJ23_getChars_2 10 rfl rfl)
theorem dJ23_getChars_60 : decode cJ23_getChars 60 = .ok (.iload 5, 2) := dk_21 5 (dk_at dksJ23_getChars_2 13 rfl rfl)
theorem dJ23_getChars_62 : decode cJ23_getChars 62 = .ok (.getstatic 87, 3) := dk_178 0 87 (dk_at dksJ23_getChars_2 15 rfl rfl)
theorem dJ23_getChars_65 : decode cJ23_getChars 65 = .ok (.iload 4, 2) := dk_21 4 (dk_at dksJ23_getChars_2 18 rfl rfl)
theorem dJ23_getChars_67 : decode cJ23_getChars 67 = .ok (.baload, 1) := dk_51 (dk_at dksJ23_getChars_2 20 rfl rfl)
theorem dJ23_getChars_68 : decode cJ23_getChars 68 = .ok (.bastore, 1) := dk_84 (dk_at dksJ23_getChars_2 21 rfl rfl)
theorem dJ23_getChars_69 : decode cJ23_getChars 69 = .ok (.goto (-47), 3) := dk_167 255 209 (dk_at dksJ23_getChars_3 0 rfl rfl)
theorem dJ23_getChars_72 : decode cJ23_getChars 72 = .ok (.aload_n 2, 1) := dk_44 (dk_at dksJ23_getChars_3 3 rfl rfl)
theorem dJ23_getChars_73 : decode cJ23_getChars 73 = .ok (.iinc 5 (-1), 3) := dk_132 5 255 (dk_at dksJ23_getChars_3 4 rfl rfl)
theorem dJ23_getChars_76 : decode cJ23_getChars 76 = .ok (.iload 5, 2) := dk_21 5 (dk_at dksJ23_getChars_3 7 rfl rfl)
theorem dJ23_getChars_78 : decode cJ23_getChars 78 = .ok (.getstatic 83, 3) := dk_178 0 83 (dk_at dksJ23_getChars_3 9 rfl rfl)
theorem dJ23_getChars_81 : decode cJ23_getChars 81 = .ok (.iload_n 0, 1) := dk_26 (dk_at dksJ23_getChars_3 12 rfl rfl)
theorem dJ23_getChars_82 : decode cJ23_getChars 82 = .ok (.ineg, 1) := dk_116 (dk_at dksJ23_getChars_3 13 rfl rfl)
theorem dJ23_getChars_83 : decode cJ23_getChars 83 = .ok (.baload, 1) := dk_51 (dk_at dksJ23_getChars_3 14 rfl rfl)
theorem dJ23_getChars_84 : decode cJ23_getChars 84 = .ok (.bastore, 1) := dk_84 (dk_at dksJ23_getChars_3 15 rfl rfl)
theorem dJ23_getChars_85 : decode cJ23_getChars 85 = .ok (.iload_n 0, 1) := dk_26 (dk_at dksJ23_getChars_3 16 rfl rfl)
theorem dJ23_getChars_86 : decode cJ23_getChars 86 = .ok (.bipush (-9), 2) := dk_16 247 (dk_at dksJ23_getChars_3 17 rfl rfl)
theorem dJ23_getChars_88 : decode cJ23_getChars 88 = .ok (.if_icmp .ge 16, 3) := dk_162 0 16 (dk_at dksJ23_getChars_3 19 rfl rfl)
theorem dJ23_getChars_91 : decode cJ23_getChars 91 = .ok (.aload_n 2, 1) := dk_44 (dk_at dksJ23_getChars_3 22 rfl rfl)
theorem dJ23_getChars_92 : decode cJ23_getChars 92 = .ok (.iinc 5 (-1), 3) := dk_132 5 255 (dk_at dksJ23_getChars_4 0 rfl rfl)
theorem dJ23_getChars_95 : decode cJ23_getChars 95 = .ok (.iload 5, 2) := dk_21 5 (dk_at dksJ23_getChars_4 3 rfl rfl)
theorem dJ23_getChars_97 : decode cJ23_getChars 97 = .ok (.getstatic 87, 3) := dk_178 0 87 (dk_at dksJ23_getChars_4 5 rfl rfl)
theorem dJ23_getChars_100 : decode cJ23_getChars 100 = .ok (.iload_n 0, 1) := dk_26 (dk_at dksJ23_getChars_4 8 rfl rfl)
theorem dJ23_getChars_101 : decode cJ23_getChars 101 = .ok (.ineg, 1) := dk_116 (dk_at dksJ23_getChars_4 9 rfl rfl)
theorem dJ23_getChars_102 : decode cJ23_getChars 102 = .ok (.baload, 1) := dk_51 (dk_at dksJ23_getChars_4 10 rfl rfl)
theorem dJ23_getChars_103 : decode cJ23_getChars 103 = .ok (.bastore, 1) := dk_84 (dk_at dksJ23_getChars_4 11 rfl rfl)
theorem dJ23_getChars_104 : decode cJ23_getChars 104 = .ok (.iload 6, 2) := dk_21 6 (dk_at dksJ23_getChars_4 12 rfl rfl)
theorem dJ23_getChars_106 : decode cJ23_getChars 106 = .ok (.ifCond .eq 12, 3) := dk_153 0 12 (dk_at dksJ23_getChars_4 14 rfl rfl)
theorem dJ23_getChars_109 : decode cJ23_getChars 109 = .ok (.aload_n 2, 1) := dk_44 (dk_at dksJ23_getChars_4 17 rfl rfl)
theorem dJ23_getChars_110 : decode cJ23_getChars 110 = .ok (.iinc 5 (-1), 3) := dk_132 5 255 (dk_at dksJ23_getChars_4 18 rfl rfl)
theorem dJ23_getChars_113 : decode cJ23_getChars 113 = .ok (.iload 5, 2) := dk_21 5 (dk_at dksJ23_getChars_4 21 rfl rfl)
theorem dJ23_getChars_115 : decode cJ23_getChars 115 = .ok (.bipush 45, 2) := dk_16 45 (dk_at dksJ23_getChars_5 0 rfl rfl)
theorem dJ23_getChars_117 : decode cJ23_getChars 117 = .ok (.bastore, 1) := dk_84 (dk_at dksJ23_getChars_5 2 rfl rfl)
theorem dJ23_getChars_118 : decode cJ23_getChars 118 = .ok (.iload 5, 2) := dk_21 5 (dk_at dksJ23_getChars_5 3 rfl rfl)
theorem dJ23_getChars_120 : decode cJ23_getChars 120 = .ok (.ireturn, 1) := dk_172 (dk_at dksJ23_getChars_5 5 rfl rfl)
theorem q135 : (Jvm.Cond.initialized "java/lang/Integer") ∈ lw_all := lw_g (lw_at lw_m1 34 rfl) rfl
theorem q816 : (Jvm.Cond.selects "java/lang/Integer" ({ cls := "java/lang/Object", name := "getClass", desc := "()Ljava/lang/Class;" } : Jvm.MethodName) ({ cls := "java/lang/Object", name := "getClass", desc := "()Ljava/lang/Class;" } : Jvm.MethodName)) ∈ lw_all := lw_g (lw_at lw_m3 235 rfl) rfl
theorem q981 : (Jvm.Cond.static ({ cls := "java/lang/Integer", name := "valueOf", desc := "(I)Ljava/lang/Integer;" } : Jvm.MethodName)) ∈ lw_all := lw_g (lw_at lw_m4 160 rfl) rfl
theorem q982 : (Jvm.Cond.code ({ cls := "java/lang/Integer", name := "valueOf", desc := "(I)Ljava/lang/Integer;" } : Jvm.MethodName) prog_35_method_22_code (1 : Nat) (Option.some (Jvm.ClassFile.FieldType.object "java/lang/Integer"))) ∈ lw_all := lw_g (lw_at lw_m4 161 rfl) rfl
theorem q983 : (Jvm.Cond.fieldLink "java/lang/Integer" (191 : Nat) "java/lang/Integer$IntegerCache" "high" "I") ∈ lw_all := lw_g (lw_at lw_m4 162 rfl) rfl
theorem q985 : (Jvm.Cond.fieldLink "java/lang/Integer" (195 : Nat) "java/lang/Integer$IntegerCache" "cache" "[Ljava/lang/Integer;") ∈ lw_all := lw_g (lw_at lw_m4 164 rfl) rfl
theorem q987 : (Jvm.Cond.classLink "java/lang/Integer" (1 : Nat) "java/lang/Integer") ∈ lw_all := lw_g (lw_at lw_m4 166 rfl) rfl
theorem q988 : (Jvm.Cond.instantiable "java/lang/Integer" (1 : Nat)) ∈ lw_all := lw_g (lw_at lw_m4 167 rfl) rfl
theorem q989 : (Jvm.Cond.methodLink "java/lang/Integer" (199 : Nat) ({ cls := "java/lang/Integer", name := "<init>", desc := "(I)V" } : Jvm.MethodName)) ∈ lw_all := lw_g (lw_at lw_m4 168 rfl) rfl
theorem q990 : (Jvm.Cond.instanceMethod ({ cls := "java/lang/Integer", name := "<init>", desc := "(I)V" } : Jvm.MethodName)) ∈ lw_all := lw_g (lw_at lw_m4 169 rfl) rfl
theorem q991 : (Jvm.Cond.code ({ cls := "java/lang/Integer", name := "<init>", desc := "(I)V" } : Jvm.MethodName) prog_35_method_23_code (2 : Nat) (Option.none : Option Jvm.ClassFile.FieldType)) ∈ lw_all := lw_g (lw_at lw_m4 170 rfl) rfl
theorem q992 : (Jvm.Cond.methodLink "java/lang/Integer" (202 : Nat) ({ cls := "java/lang/Number", name := "<init>", desc := "()V" } : Jvm.MethodName)) ∈ lw_all := lw_g (lw_at lw_m4 171 rfl) rfl
theorem q996 : (Jvm.Cond.fieldLink "java/lang/Integer" (205 : Nat) "java/lang/Integer" "value" "I") ∈ lw_all := lw_g (lw_at lw_m4 175 rfl) rfl
theorem q997 : (Jvm.Cond.laysFinal "java/lang/Integer" "java/lang/Integer" "value" "I") ∈ lw_all := lw_g (lw_at lw_m4 176 rfl) rfl
theorem q998 : (Jvm.Cond.soleField "java/lang/Integer" "value") ∈ lw_all := lw_g (lw_at lw_m4 177 rfl) rfl
theorem q999 : (Jvm.Cond.superclass "java/lang/Integer" "java/lang/Number") ∈ lw_all := lw_g (lw_at lw_m4 178 rfl) rfl
theorem q1028 : (Jvm.Cond.instanceMethod ({ cls := "java/lang/Integer", name := "intValue", desc := "()I" } : Jvm.MethodName)) ∈ lw_all := lw_g (lw_at lw_m4 207 rfl) rfl
theorem q1029 : (Jvm.Cond.selects "java/lang/Integer" ({ cls := "java/lang/Integer", name := "intValue", desc := "()I" } : Jvm.MethodName) ({ cls := "java/lang/Integer", name := "intValue", desc := "()I" } : Jvm.MethodName)) ∈ lw_all := lw_g (lw_at lw_m4 208 rfl) rfl
theorem q1030 : (Jvm.Cond.code ({ cls := "java/lang/Integer", name := "intValue", desc := "()I" } : Jvm.MethodName) prog_35_method_27_code (1 : Nat) (Option.some Jvm.ClassFile.FieldType.int)) ∈ lw_all := lw_g (lw_at lw_m4 209 rfl) rfl
theorem q1101 : (Jvm.Cond.castable "java/lang/Integer" "java/lang/Comparable") ∈ lw_tbl := lw_at lw_m5 40 rfl
theorem q1102 : (Jvm.Cond.selects "java/lang/Integer" ({ cls := "java/lang/Comparable", name := "compareTo", desc := "(Ljava/lang/Object;)I" } : Jvm.MethodName) ({ cls := "java/lang/Integer", name := "compareTo", desc := "(Ljava/lang/Object;)I" } : Jvm.MethodName)) ∈ lw_all := lw_g (lw_at lw_m5 41 rfl) rfl
theorem q1103 : (Jvm.Cond.unhidden "java/lang/Integer" "compareTo" "(Ljava/lang/Object;)I") ∈ lw_tbl := lw_at lw_m5 42 rfl
theorem q1104 : (Jvm.Cond.instanceMethod ({ cls := "java/lang/Integer", name := "compareTo", desc := "(Ljava/lang/Object;)I" } : Jvm.MethodName)) ∈ lw_all := lw_g (lw_at lw_m5 43 rfl) rfl
theorem q1105 : (Jvm.Cond.publicMethod ({ cls := "java/lang/Integer", name := "compareTo", desc := "(Ljava/lang/Object;)I" } : Jvm.MethodName)) ∈ lw_tbl := lw_at lw_m5 44 rfl
theorem q1106 : (Jvm.Cond.code ({ cls := "java/lang/Integer", name := "compareTo", desc := "(Ljava/lang/Object;)I" } : Jvm.MethodName) prog_35_method_63_code (2 : Nat) (Option.some Jvm.ClassFile.FieldType.int)) ∈ lw_all := lw_g (lw_at lw_m5 45 rfl) rfl
theorem q1107 : (Jvm.Cond.methodLink "java/lang/Integer" (284 : Nat) ({ cls := "java/lang/Integer", name := "compareTo", desc := "(Ljava/lang/Integer;)I" } : Jvm.MethodName)) ∈ lw_all := lw_g (lw_at lw_m5 46 rfl) rfl
theorem q1108 : (Jvm.Cond.instanceMethod ({ cls := "java/lang/Integer", name := "compareTo", desc := "(Ljava/lang/Integer;)I" } : Jvm.MethodName)) ∈ lw_all := lw_g (lw_at lw_m5 47 rfl) rfl
theorem q1109 : (Jvm.Cond.selects "java/lang/Integer" ({ cls := "java/lang/Integer", name := "compareTo", desc := "(Ljava/lang/Integer;)I" } : Jvm.MethodName) ({ cls := "java/lang/Integer", name := "compareTo", desc := "(Ljava/lang/Integer;)I" } : Jvm.MethodName)) ∈ lw_all := lw_g (lw_at lw_m5 48 rfl) rfl
theorem q1110 : (Jvm.Cond.code ({ cls := "java/lang/Integer", name := "compareTo", desc := "(Ljava/lang/Integer;)I" } : Jvm.MethodName) prog_35_method_39_code (2 : Nat) (Option.some Jvm.ClassFile.FieldType.int)) ∈ lw_all := lw_g (lw_at lw_m5 49 rfl) rfl
theorem q1111 : (Jvm.Cond.methodLink "java/lang/Integer" (259 : Nat) ({ cls := "java/lang/Integer", name := "compare", desc := "(II)I" } : Jvm.MethodName)) ∈ lw_all := lw_g (lw_at lw_m5 50 rfl) rfl
theorem q1112 : (Jvm.Cond.static ({ cls := "java/lang/Integer", name := "compare", desc := "(II)I" } : Jvm.MethodName)) ∈ lw_all := lw_g (lw_at lw_m5 51 rfl) rfl
theorem q1113 : (Jvm.Cond.code ({ cls := "java/lang/Integer", name := "compare", desc := "(II)I" } : Jvm.MethodName) prog_35_method_40_code (2 : Nat) (Option.some Jvm.ClassFile.FieldType.int)) ∈ lw_all := lw_g (lw_at lw_m5 52 rfl) rfl
theorem q1203 : (Jvm.Cond.static ({ cls := "java/lang/Integer", name := "numberOfLeadingZeros", desc := "(I)I" } : Jvm.MethodName)) ∈ lw_all := lw_g (lw_at lw_m5 142 rfl) rfl
theorem q1204 : (Jvm.Cond.code ({ cls := "java/lang/Integer", name := "numberOfLeadingZeros", desc := "(I)I" } : Jvm.MethodName) prog_35_method_47_code (2 : Nat) (Option.some Jvm.ClassFile.FieldType.int)) ∈ lw_all := lw_g (lw_at lw_m5 143 rfl) rfl
theorem q1205 : (Jvm.Cond.constant "java/lang/Integer" (264 : Nat) (65536 : Int32)) ∈ lw_all := lw_g (lw_at lw_m5 144 rfl) rfl
theorem q1212 : (Jvm.Cond.static ({ cls := "java/lang/Integer", name := "numberOfTrailingZeros", desc := "(I)I" } : Jvm.MethodName)) ∈ lw_all := lw_g (lw_at lw_m5 151 rfl) rfl
theorem q1213 : (Jvm.Cond.code ({ cls := "java/lang/Integer", name := "numberOfTrailingZeros", desc := "(I)I" } : Jvm.MethodName) prog_35_method_48_code (2 : Nat) (Option.some Jvm.ClassFile.FieldType.int)) ∈ lw_all := lw_g (lw_at lw_m5 152 rfl) rfl
theorem q1531 : (Jvm.Cond.static ({ cls := "java/lang/Integer", name := "bitCount", desc := "(I)I" } : Jvm.MethodName)) ∈ lw_all := lw_g (lw_at lw_m6 230 rfl) rfl
theorem q1532 : (Jvm.Cond.code ({ cls := "java/lang/Integer", name := "bitCount", desc := "(I)I" } : Jvm.MethodName) prog_35_method_49_code (1 : Nat) (Option.some Jvm.ClassFile.FieldType.int)) ∈ lw_all := lw_g (lw_at lw_m6 231 rfl) rfl
theorem q1533 : (Jvm.Cond.constant "java/lang/Integer" (265 : Nat) (1431655765 : Int32)) ∈ lw_all := lw_g (lw_at lw_m6 232 rfl) rfl
theorem q1534 : (Jvm.Cond.constant "java/lang/Integer" (266 : Nat) (858993459 : Int32)) ∈ lw_all := lw_g (lw_at lw_m6 233 rfl) rfl
theorem q1535 : (Jvm.Cond.constant "java/lang/Integer" (267 : Nat) (252645135 : Int32)) ∈ lw_all := lw_g (lw_at lw_m6 234 rfl) rfl
theorem q1796 : (Jvm.Cond.static ({ cls := "java/lang/Integer", name := "stringSize", desc := "(I)I" } : Jvm.MethodName)) ∈ lw_all := lw_g (lw_at lw_m8 15 rfl) rfl
theorem q1797 : (Jvm.Cond.code ({ cls := "java/lang/Integer", name := "stringSize", desc := "(I)I" } : Jvm.MethodName) prog_35_method_13_code (4 : Nat) (Option.some Jvm.ClassFile.FieldType.int)) ∈ lw_all := lw_g (lw_at lw_m8 16 rfl) rfl
theorem q1799 : (Jvm.Cond.static ({ cls := "java/lang/Integer", name := "getChars", desc := "(II[B)I" } : Jvm.MethodName)) ∈ lw_all := lw_g (lw_at lw_m8 18 rfl) rfl
theorem q1800 : (Jvm.Cond.code ({ cls := "java/lang/Integer", name := "getChars", desc := "(II[B)I" } : Jvm.MethodName) prog_35_method_12_code (7 : Nat) (Option.some Jvm.ClassFile.FieldType.int)) ∈ lw_all := lw_g (lw_at lw_m8 19 rfl) rfl
theorem q1801 : (Jvm.Cond.fieldLink "java/lang/Integer" (83 : Nat) "java/lang/Integer" "DigitOnes" "[B") ∈ lw_all := lw_g (lw_at lw_m8 20 rfl) rfl
theorem q1802 : (Jvm.Cond.laysStatic "java/lang/Integer" "DigitOnes" "[B") ∈ lw_tbl := lw_at lw_m8 21 rfl
theorem q1803 : (Jvm.Cond.fieldLink "java/lang/Integer" (87 : Nat) "java/lang/Integer" "DigitTens" "[B") ∈ lw_all := lw_g (lw_at lw_m8 22 rfl) rfl
theorem q1804 : (Jvm.Cond.laysStatic "java/lang/Integer" "DigitTens" "[B") ∈ lw_tbl := lw_at lw_m8 23 rfl
theorem q2572 : (Jvm.Cond.castable "java/lang/Integer" "java/lang/Object") ∈ lw_tbl := lw_at lw_m11 71 rfl

/-! ToldPowers$Falling -/
set_option maxRecDepth 100000
abbrev cX7_init : ByteArray := prog_6_method_1_code
def yX7_init : MethodName := ⟨RX7, "<init>", "()V"⟩
theorem dX7_init_0 : decode cX7_init 0 = .ok (.aload_n 0, 1) := by decide +kernel
theorem dX7_init_1 : decode cX7_init 1 = .ok (.invokespecial 1, 3) := by decide +kernel
theorem dX7_init_4 : decode cX7_init 4 = .ok (.return_, 1) := by decide +kernel
abbrev cX7_compare : ByteArray := prog_6_method_3_code
def yX7_compare : MethodName := ⟨RX7, "compare", "(Ljava/lang/Object;Ljava/lang/Object;)I"⟩
def dkwX7_compare_0 : List UInt8 := [42, 43, 192, 0, 8, 44, 192, 0, 8, 182, 0, 13, 172]
abbrev dktX7_compare_0 : List UInt8 := dkwX7_compare_0 ++ []
theorem dksX7_compare_0 : cX7_compare.data.toList.drop 0 = dktX7_compare_0 := by decide +kernel
theorem dX7_compare_0 : decode cX7_compare 0 = .ok (.aload_n 0, 1) := dk_42 (dk_at dksX7_compare_0 0 rfl rfl)
theorem dX7_compare_1 : decode cX7_compare 1 = .ok (.aload_n 1, 1) := dk_43 (dk_at dksX7_compare_0 1 rfl rfl)
theorem dX7_compare_2 : decode cX7_compare 2 = .ok (.checkcast 8, 3) := dk_192 0 8 (dk_at dksX7_compare_0 2 rfl rfl)
theorem dX7_compare_5 : decode cX7_compare 5 = .ok (.aload_n 2, 1) := dk_44 (dk_at dksX7_compare_0 5 rfl rfl)
theorem dX7_compare_6 : decode cX7_compare 6 = .ok (.checkcast 8, 3) := dk_192 0 8 (dk_at dksX7_compare_0 6 rfl rfl)
theorem dX7_compare_9 : decode cX7_compare 9 = .ok (.invokevirtual 13, 3) := dk_182 0 13 (dk_at dksX7_compare_0 9 rfl rfl)
theorem dX7_compare_12 : decode cX7_compare 12 = .ok (.ireturn, 1) := dk_172 (dk_at dksX7_compare_0 12 rfl rfl)
abbrev cX7_compare_2 : ByteArray := prog_6_method_2_code
def yX7_compare_2 : MethodName := ⟨RX7, "compare", "(Ljava/lang/Integer;Ljava/lang/Integer;)I"⟩
def dkwX7_compare_2_1 : List UInt8 := [164, 0, 7, 2, 167, 0, 4, 3, 172]
abbrev dktX7_compare_2_1 : List UInt8 := dkwX7_compare_2_1 ++ []
def dkwX7_compare_2_0 : List UInt8 := [43, 182, 0, 7, 44, 182, 0, 7, 162, 0, 7, 4, 167, 0, 19, 43, 182, 0, 7, 44, 182, 0, 7]
abbrev dktX7_compare_2_0 : List UInt8 := dkwX7_compare_2_0 ++ dktX7_compare_2_1
theorem dksX7_compare_2_0 : cX7_compare_2.data.toList.drop 0 = dktX7_compare_2_0 := by decide +kernel
theorem dksX7_compare_2_1 : cX7_compare_2.data.toList.drop 23 = dktX7_compare_2_1 := dk_seg dksX7_compare_2_0 23 rfl rfl
theorem dX7_compare_2_0 : decode cX7_compare_2 0 = .ok (.aload_n 1, 1) := dk_43 (dk_at dksX7_compare_2_0 0 rfl rfl)
theorem dX7_compare_2_1 : decode cX7_compare_2 1 = .ok (.invokevirtual 7, 3) := dk_182 0 7 (dk_at dksX7_compare_2_0 1 rfl rfl)
theorem dX7_compare_2_4 : decode cX7_compare_2 4 = .ok (.aload_n 2, 1) := dk_44 (dk_at dksX7_compare_2_0 4 rfl rfl)
theorem dX7_compare_2_5 : decode cX7_compare_2 5 = .ok (.invokevirtual 7, 3) := dk_182 0 7 (dk_at dksX7_compare_2_0 5 rfl rfl)
theorem dX7_compare_2_8 : decode cX7_compare_2 8 = .ok (.if_icmp .ge 7, 3) := dk_162 0 7 (dk_at dksX7_compare_2_0 8 rfl rfl)
theorem dX7_compare_2_11 : decode cX7_compare_2 11 = .ok (.iconst 1, 1) := dk_4 (dk_at dksX7_compare_2_0 11 rfl rfl)
theorem dX7_compare_2_12 : decode cX7_compare_2 12 = .ok (.goto 19, 3) := dk_167 0 19 (dk_at dksX7_compare_2_0 12 rfl rfl)
theorem dX7_compare_2_15 : decode cX7_compare_2 15 = .ok (.aload_n 1, 1) := dk_43 (dk_at dksX7_compare_2_0 15 rfl rfl)
theorem dX7_compare_2_16 : decode cX7_compare_2 16 = .ok (.invokevirtual 7, 3) := dk_182 0 7 (dk_at dksX7_compare_2_0 16 rfl rfl)
theorem dX7_compare_2_19 : decode cX7_compare_2 19 = .ok (.aload_n 2, 1) := dk_44 (dk_at dksX7_compare_2_0 19 rfl rfl)
theorem dX7_compare_2_20 : decode cX7_compare_2 20 = .ok (.invokevirtual 7, 3) := dk_182 0 7 (dk_at dksX7_compare_2_0 20 rfl rfl)
theorem dX7_compare_2_23 : decode cX7_compare_2 23 = .ok (.if_icmp .le 7, 3) := dk_164 0 7 (dk_at dksX7_compare_2_1 0 rfl rfl)
theorem dX7_compare_2_26 : decode cX7_compare_2 26 = .ok (.iconst (-1), 1) := dk_2 (dk_at dksX7_compare_2_1 3 rfl rfl)
theorem dX7_compare_2_27 : decode cX7_compare_2 27 = .ok (.goto 4, 3) := dk_167 0 4 (dk_at dksX7_compare_2_1 4 rfl rfl)
theorem dX7_compare_2_30 : decode cX7_compare_2 30 = .ok (.iconst 0, 1) := dk_3 (dk_at dksX7_compare_2_1 7 rfl rfl)
theorem dX7_compare_2_31 : decode cX7_compare_2 31 = .ok (.ireturn, 1) := dk_172 (dk_at dksX7_compare_2_1 8 rfl rfl)
theorem q133 : (Jvm.Cond.initialized "ToldPowers$Falling") ∈ lw_all := lw_g (lw_at lw_m1 32 rfl) rfl
theorem q799 : (Jvm.Cond.selects "ToldPowers$Falling" ({ cls := "java/lang/Object", name := "getClass", desc := "()Ljava/lang/Class;" } : Jvm.MethodName) ({ cls := "java/lang/Object", name := "getClass", desc := "()Ljava/lang/Class;" } : Jvm.MethodName)) ∈ lw_all := lw_g (lw_at lw_m3 218 rfl) rfl
theorem q935 : (Jvm.Cond.instantiable "ToldPowers$Falling" (0 : Nat)) ∈ lw_all := lw_g (lw_at lw_m4 114 rfl) rfl
theorem q937 : (Jvm.Cond.instanceMethod ({ cls := "ToldPowers$Falling", name := "<init>", desc := "()V" } : Jvm.MethodName)) ∈ lw_all := lw_g (lw_at lw_m4 116 rfl) rfl
theorem q938 : (Jvm.Cond.code ({ cls := "ToldPowers$Falling", name := "<init>", desc := "()V" } : Jvm.MethodName) prog_6_method_1_code (1 : Nat) (Option.none : Option Jvm.ClassFile.FieldType)) ∈ lw_all := lw_g (lw_at lw_m4 117 rfl) rfl
theorem q939 : (Jvm.Cond.methodLink "ToldPowers$Falling" (1 : Nat) ({ cls := "java/lang/Object", name := "<init>", desc := "()V" } : Jvm.MethodName)) ∈ lw_all := lw_g (lw_at lw_m4 118 rfl) rfl
theorem q940 : (Jvm.Cond.superclass "ToldPowers$Falling" "java/lang/Object") ∈ lw_all := lw_g (lw_at lw_m4 119 rfl) rfl
theorem q1016 : (Jvm.Cond.castable "ToldPowers$Falling" "java/util/Comparator") ∈ lw_tbl := lw_at lw_m4 195 rfl
theorem q1017 : (Jvm.Cond.selects "ToldPowers$Falling" ({ cls := "java/util/Comparator", name := "compare", desc := "(Ljava/lang/Object;Ljava/lang/Object;)I" } : Jvm.MethodName) ({ cls := "ToldPowers$Falling", name := "compare", desc := "(Ljava/lang/Object;Ljava/lang/Object;)I" } : Jvm.MethodName)) ∈ lw_all := lw_g (lw_at lw_m4 196 rfl) rfl
theorem q1018 : (Jvm.Cond.unhidden "ToldPowers$Falling" "compare" "(Ljava/lang/Object;Ljava/lang/Object;)I") ∈ lw_tbl := lw_at lw_m4 197 rfl
theorem q1019 : (Jvm.Cond.instanceMethod ({ cls := "ToldPowers$Falling", name := "compare", desc := "(Ljava/lang/Object;Ljava/lang/Object;)I" } : Jvm.MethodName)) ∈ lw_all := lw_g (lw_at lw_m4 198 rfl) rfl
theorem q1020 : (Jvm.Cond.publicMethod ({ cls := "ToldPowers$Falling", name := "compare", desc := "(Ljava/lang/Object;Ljava/lang/Object;)I" } : Jvm.MethodName)) ∈ lw_tbl := lw_at lw_m4 199 rfl
theorem q1021 : (Jvm.Cond.code ({ cls := "ToldPowers$Falling", name := "compare", desc := "(Ljava/lang/Object;Ljava/lang/Object;)I" } : Jvm.MethodName) prog_6_method_3_code (3 : Nat) (Option.some Jvm.ClassFile.FieldType.int)) ∈ lw_all := lw_g (lw_at lw_m4 200 rfl) rfl
theorem q1022 : (Jvm.Cond.classLink "ToldPowers$Falling" (8 : Nat) "java/lang/Integer") ∈ lw_all := lw_g (lw_at lw_m4 201 rfl) rfl
theorem q1023 : (Jvm.Cond.methodLink "ToldPowers$Falling" (13 : Nat) ({ cls := "ToldPowers$Falling", name := "compare", desc := "(Ljava/lang/Integer;Ljava/lang/Integer;)I" } : Jvm.MethodName)) ∈ lw_all := lw_g (lw_at lw_m4 202 rfl) rfl
theorem q1024 : (Jvm.Cond.instanceMethod ({ cls := "ToldPowers$Falling", name := "compare", desc := "(Ljava/lang/Integer;Ljava/lang/Integer;)I" } : Jvm.MethodName)) ∈ lw_all := lw_g (lw_at lw_m4 203 rfl) rfl
theorem q1025 : (Jvm.Cond.selects "ToldPowers$Falling" ({ cls := "ToldPowers$Falling", name := "compare", desc := "(Ljava/lang/Integer;Ljava/lang/Integer;)I" } : Jvm.MethodName) ({ cls := "ToldPowers$Falling", name := "compare", desc := "(Ljava/lang/Integer;Ljava/lang/Integer;)I" } : Jvm.MethodName)) ∈ lw_all := lw_g (lw_at lw_m4 204 rfl) rfl
theorem q1026 : (Jvm.Cond.code ({ cls := "ToldPowers$Falling", name := "compare", desc := "(Ljava/lang/Integer;Ljava/lang/Integer;)I" } : Jvm.MethodName) prog_6_method_2_code (3 : Nat) (Option.some Jvm.ClassFile.FieldType.int)) ∈ lw_all := lw_g (lw_at lw_m4 205 rfl) rfl
theorem q1027 : (Jvm.Cond.methodLink "ToldPowers$Falling" (7 : Nat) ({ cls := "java/lang/Integer", name := "intValue", desc := "()I" } : Jvm.MethodName)) ∈ lw_all := lw_g (lw_at lw_m4 206 rfl) rfl
theorem q2571 : (Jvm.Cond.castable "ToldPowers$Falling" "java/lang/Object") ∈ lw_tbl := lw_at lw_m11 70 rfl

/-! java/lang/AbstractStringBuilder -/
set_option maxRecDepth 100000
def RJ10 : String := "java/lang/AbstractStringBuilder"
abbrev cJ10_init : ByteArray := prog_26_method_2_code
def yJ10_init : MethodName := ⟨RJ10, "<init>", "(I)V"⟩
def dkwJ10_init_1 : List UInt8 := [167, 0, 16, 42, 27, 184, 0, 26, 181, 0, 15, 42, 4, 181, 0, 22, 177]
abbrev dktJ10_init_1 : List UInt8 := dkwJ10_init_1 ++ []
def dkwJ10_init_0 : List UInt8 := [42, 183, 0, 3, 178, 0, 18, 153, 0, 18, 42, 27, 188, 8, 181, 0, 15, 42, 3, 181, 0, 22]
abbrev dktJ10_init_0 : List UInt8 := dkwJ10_init_0 ++ dktJ10_init_1
theorem dksJ10_init_0 : cJ10_init.data.toList.drop 0 = dktJ10_init_0 := by decide +kernel
theorem dksJ10_init_1 : cJ10_init.data.toList.drop 22 = dktJ10_init_1 := dk_seg dksJ10_init_0 22 rfl rfl
theorem dJ10_init_0 : decode cJ10_init 0 = .ok (.aload_n 0, 1) := dk_42 (dk_at dksJ10_init_0 0 rfl rfl)
theorem dJ10_init_1 : decode cJ10_init 1 = .ok (.invokespecial 3, 3) := dk_183 0 3 (dk_at dksJ10_init_0 1 rfl rfl)
theorem dJ10_init_4 : decode cJ10_init 4 = .ok (.getstatic 18, 3) := dk_178 0 18 (dk_at dksJ10_init_0 4 rfl rfl)
theorem dJ10_init_7 : decode cJ10_init 7 = .ok (.ifCond .eq 18, 3) := dk_153 0 18 (dk_at dksJ10_init_0 7 rfl rfl)
theorem dJ10_init_10 : decode cJ10_init 10 = .ok (.aload_n 0, 1) := dk_42 (dk_at dksJ10_init_0 10 rfl rfl)
theorem dJ10_init_11 : decode cJ10_init 11 = .ok (.iload_n 1, 1) := dk_27 (dk_at dksJ10_init_0 11 rfl rfl)
theorem dJ10_init_12 : decode cJ10_init 12 = .ok (.newarray .byte, 2) := dk_188_8 (dk_at dksJ10_init_0 12 rfl rfl)
theorem dJ10_init_14 : decode cJ10_init 14 = .ok (.putfield 15, 3) := dk_181 0 15 (dk_at dksJ10_init_0 14 rfl rfl)
theorem dJ10_init_17 : decode cJ10_init 17 = .ok (.aload_n 0, 1) := dk_42 (dk_at dksJ10_init_0 17 rfl rfl)
theorem dJ10_init_18 : decode cJ10_init 18 = .ok (.iconst 0, 1) := dk_3 (dk_at dksJ10_init_0 18 rfl rfl)
theorem dJ10_init_19 : decode cJ10_init 19 = .ok (.putfield 22, 3) := dk_181 0 22 (dk_at dksJ10_init_0 19 rfl rfl)
theorem dJ10_init_22 : decode cJ10_init 22 = .ok (.goto 16, 3) := dk_167 0 16 (dk_at dksJ10_init_1 0 rfl rfl)
theorem dJ10_init_25 : decode cJ10_init 25 = .ok (.aload_n 0, 1) := dk_42 (dk_at dksJ10_init_1 3 rfl rfl)
theorem dJ10_init_26 : decode cJ10_init 26 = .ok (.iload_n 1, 1) := dk_27 (dk_at dksJ10_init_1 4 rfl rfl)
theorem dJ10_init_27 : decode cJ10_init 27 = .ok (.invokestatic 26, 3) := dk_184 0 26 (dk_at dksJ10_init_1 5 rfl rfl)
theorem dJ10_init_30 : decode cJ10_init 30 = .ok (.putfield 15, 3) := dk_181 0 15 (dk_at dksJ10_init_1 8 rfl rfl)
theorem dJ10_init_33 : decode cJ10_init 33 = .ok (.aload_n 0, 1) := dk_42 (dk_at dksJ10_init_1 11 rfl rfl)
theorem dJ10_init_34 : decode cJ10_init 34 = .ok (.iconst 1, 1) := dk_4 (dk_at dksJ10_init_1 12 rfl rfl)
theorem dJ10_init_35 : decode cJ10_init 35 = .ok (.putfield 22, 3) := dk_181 0 22 (dk_at dksJ10_init_1 13 rfl rfl)
theorem dJ10_init_38 : decode cJ10_init 38 = .ok (.return_, 1) := dk_177 (dk_at dksJ10_init_1 16 rfl rfl)
abbrev cJ10_length : ByteArray := prog_26_method_6_code
def yJ10_length : MethodName := ⟨RJ10, "length", "()I"⟩
theorem dJ10_length_0 : decode cJ10_length 0 = .ok (.aload_n 0, 1) := by decide +kernel
theorem dJ10_length_1 : decode cJ10_length 1 = .ok (.getfield 79, 3) := by decide +kernel
theorem dJ10_length_4 : decode cJ10_length 4 = .ok (.ireturn, 1) := by decide +kernel
abbrev cJ10_append : ByteArray := prog_26_method_31_code
def yJ10_append : MethodName := ⟨RJ10, "append", "(C)Ljava/lang/AbstractStringBuilder;"⟩
def dkwJ10_append_3 : List UInt8 := [181, 0, 79, 27, 184, 0, 197, 42, 176]
abbrev dktJ10_append_3 : List UInt8 := dkwJ10_append_3 ++ []
def dkwJ10_append_2 : List UInt8 := [182, 0, 83, 153, 0, 7, 42, 182, 0, 195, 42, 180, 0, 15, 42, 89, 180, 0, 79, 90, 4, 96]
abbrev dktJ10_append_2 : List UInt8 := dkwJ10_append_2 ++ dktJ10_append_3
def dkwJ10_append_1 : List UInt8 := [42, 180, 0, 15, 42, 89, 180, 0, 79, 90, 4, 96, 181, 0, 79, 27, 145, 84, 167, 0, 33, 42]
abbrev dktJ10_append_1 : List UInt8 := dkwJ10_append_1 ++ dktJ10_append_2
def dkwJ10_append_0 : List UInt8 := [42, 42, 180, 0, 79, 4, 96, 182, 0, 100, 42, 182, 0, 83, 153, 0, 31, 27, 184, 0, 191, 153, 0, 24]
abbrev dktJ10_append_0 : List UInt8 := dkwJ10_append_0 ++ dktJ10_append_1
theorem dksJ10_append_0 : cJ10_append.data.toList.drop 0 = dktJ10_append_0 := by decide +kernel
theorem dksJ10_append_1 : cJ10_append.data.toList.drop 24 = dktJ10_append_1 := dk_seg dksJ10_append_0 24 rfl rfl
theorem dksJ10_append_2 : cJ10_append.data.toList.drop 46 = dktJ10_append_2 := dk_seg dksJ10_append_1 22 rfl rfl
theorem dksJ10_append_3 : cJ10_append.data.toList.drop 68 = dktJ10_append_3 := dk_seg dksJ10_append_2 22 rfl rfl
theorem dJ10_append_0 : decode cJ10_append 0 = .ok (.aload_n 0, 1) := dk_42 (dk_at dksJ10_append_0 0 rfl rfl)
theorem dJ10_append_1 : decode cJ10_append 1 = .ok (.aload_n 0, 1) := dk_42 (dk_at dksJ10_append_0 1 rfl rfl)
theorem dJ10_append_2 : decode cJ10_append 2 = .ok (.getfield 79, 3) := dk_180 0 79 (dk_at dksJ10_append_0 2 rfl rfl)
theorem dJ10_append_5 : decode cJ10_append 5 = .ok (.iconst 1, 1) := dk_4 (dk_at dksJ10_append_0 5 rfl rfl)
theorem dJ10_append_6 : decode cJ10_append 6 = .ok (.iadd, 1) := dk_96 (dk_at dksJ10_append_0 6 rfl rfl)
theorem dJ10_append_7 : decode cJ10_append 7 = .ok (.invokevirtual 100, 3) := dk_182 0 100 (dk_at dksJ10_append_0 7 rfl rfl)
theorem dJ10_append_10 : decode cJ10_append 10 = .ok (.aload_n 0, 1) := dk_42 (dk_at dksJ10_append_0 10 rfl rfl)
theorem dJ10_append_11 : decode cJ10_append 11 = .ok (.invokevirtual 83, 3) := dk_182 0 83 (dk_at dksJ10_append_0 11 rfl rfl)
theorem dJ10_append_14 : decode cJ10_append 14 = .ok (.ifCond .eq 31, 3) := dk_153 0 31 (dk_at dksJ10_append_0 14 rfl rfl)
theorem dJ10_append_17 : decode cJ10_append 17 = .ok (.iload_n 1, 1) := dk_27 (dk_at dksJ10_append_0 17 rfl rfl)
theorem dJ10_append_18 : decode cJ10_append 18 = .ok (.invokestatic 191, 3) := dk_184 0 191 (dk_at dksJ10_append_0 18 rfl rfl)
theorem dJ10_append_21 : decode cJ10_append 21 = .ok (.ifCond .eq 24, 3) := dk_153 0 24 (dk_at dksJ10_append_0 21 rfl rfl)
theorem dJ10_append_24 : decode cJ10_append 24 = .ok (.aload_n 0, 1) := dk_42 (dk_at dksJ10_append_1 0 rfl rfl)
theorem dJ10_append_25 : decode cJ10_append 25 = .ok (.getfield 15, 3) := dk_180 0 15 (dk_at dksJ10_append_1 1 rfl rfl)
theorem dJ10_append_28 : decode cJ10_append 28 = .ok (.aload_n 0, 1) := dk_42 (dk_at dksJ10_append_1 4 rfl rfl)
theorem dJ10_append_29 : decode cJ10_append 29 = .ok (.dup, 1) := dk_89 (dk_at dksJ10_append_1 5 rfl rfl)
theorem dJ10_append_30 : decode cJ10_append 30 = .ok (.getfield 79, 3) := dk_180 0 79 (dk_at dksJ10_append_1 6 rfl rfl)
theorem dJ10_append_33 : decode cJ10_append 33 = .ok (.dup_x1, 1) := dk_90 (dk_at dksJ10_append_1 9 rfl rfl)
theorem dJ10_append_34 : decode cJ10_append 34 = .ok (.iconst 1, 1) := dk_4 (dk_at dksJ10_append_1 10 rfl rfl)
theorem dJ10_append_35 : decode cJ10_append 35 = .ok (.iadd, 1) := dk_96 (dk_at dksJ10_append_1 11 rfl rfl)
theorem dJ10_append_36 : decode cJ10_append 36 = .ok (.putfield 79, 3) := dk_181 0 79 (dk_at dksJ10_append_1 12 rfl rfl)
theorem dJ10_append_39 : decode cJ10_append 39 = .ok (.iload_n 1, 1) := dk_27 (dk_at dksJ10_append_1 15 rfl rfl)
theorem dJ10_append_40 : decode cJ10_append 40 = .ok (.i2b, 1) := dk_145 (dk_at dksJ10_append_1 16 rfl rfl)
theorem dJ10_append_41 : decode cJ10_append 41 = .ok (.bastore, 1) := dk_84 (dk_at dksJ10_append_1 17 rfl rfl)
theorem dJ10_append_42 : decode cJ10_append 42 = .ok (.goto 33, 3) := dk_167 0 33 (dk_at dksJ10_append_1 18 rfl rfl)
theorem dJ10_append_45 : decode cJ10_append 45 = .ok (.aload_n 0, 1) := dk_42 (dk_at dksJ10_append_1 21 rfl rfl)
theorem dJ10_append_46 : decode cJ10_append 46 = .ok (.invokevirtual 83, 3) := dk_182 0 83 (dk_at dksJ10_append_2 0 rfl rfl)
theorem dJ10_append_49 : decode cJ10_append 49 = .ok (.ifCond .eq 7, 3) := dk_153 0 7 (dk_at dksJ10_append_2 3 rfl rfl)
theorem dJ10_append_52 : decode cJ10_append 52 = .ok (.aload_n 0, 1) := dk_42 (dk_at dksJ10_append_2 6 rfl rfl)
theorem dJ10_append_53 : decode cJ10_append 53 = .ok (.invokevirtual 195, 3) := dk_182 0 195 (dk_at dksJ10_append_2 7 rfl rfl)
theorem dJ10_append_56 : decode cJ10_append 56 = .ok (.aload_n 0, 1) := dk_42 (dk_at dksJ10_append_2 10 rfl rfl)
theorem dJ10_append_57 : decode cJ10_append 57 = .ok (.getfield 15, 3) := dk_180 0 15 (dk_at dksJ10_append_2 11 rfl rfl)
theorem dJ10_append_60 : decode cJ10_append 60 = .ok (.aload_n 0, 1) := dk_42 (dk_at dksJ10_append_2 14 rfl rfl)
theorem dJ10_append_61 : decode cJ10_append 61 = .ok (.dup, 1) := dk_89 (dk_at dksJ10_append_2 15 rfl rfl)
theorem dJ10_append_62 : decode cJ10_append 62 = .ok (.getfield 79, 3) := dk_180 0 79 (dk_at dksJ10_append_2 16 rfl rfl)
theorem dJ10_append_65 : decode cJ10_append 65 = .ok (.dup_x1, 1) := dk_90 (dk_at dksJ10_append_2 19 rfl rfl)
theorem dJ10_append_66 : decode cJ10_append 66 = .ok (.iconst 1, 1) := dk_4 (dk_at dksJ10_append_2 20 rfl rfl)
theorem dJ10_append_67 : decode cJ10_append 67 = .ok (.iadd, 1) := dk_96 (dk_at dksJ10_append_2 21 rfl rfl)
theorem dJ10_append_68 : decode cJ10_append 68 = .ok (.putfield 79, 3) := dk_181 0 79 (dk_at dksJ10_append_3 0 rfl rfl)
theorem dJ10_append_71 : decode cJ10_append 71 = .ok (.iload_n 1, 1) := dk_27 (dk_at dksJ10_append_3 3 rfl rfl)
theorem dJ10_append_72 : decode cJ10_append 72 = .ok (.invokestatic 197, 3) := dk_184 0 197 (dk_at dksJ10_append_3 4 rfl rfl)
theorem dJ10_append_75 : decode cJ10_append 75 = .ok (.aload_n 0, 1) := dk_42 (dk_at dksJ10_append_3 7 rfl rfl)
theorem dJ10_append_76 : decode cJ10_append 76 = .ok (.areturn, 1) := dk_176 (dk_at dksJ10_append_3 8 rfl rfl)
abbrev cJ10_ensureCapacityInternal : ByteArray := prog_26_method_9_code
def yJ10_ensureCapacityInternal : MethodName := ⟨RJ10, "ensureCapacityInternal", "(I)V"⟩
def dkwJ10_ensureCapacityInternal_1 : List UInt8 := [182, 0, 104, 42, 180, 0, 22, 120, 184, 0, 108, 181, 0, 15, 177]
abbrev dktJ10_ensureCapacityInternal_1 : List UInt8 := dkwJ10_ensureCapacityInternal_1 ++ []
def dkwJ10_ensureCapacityInternal_0 : List UInt8 := [42, 180, 0, 15, 190, 42, 180, 0, 22, 122, 61, 27, 28, 100, 158, 0, 24, 42, 42, 180, 0, 15, 42, 27]
abbrev dktJ10_ensureCapacityInternal_0 : List UInt8 := dkwJ10_ensureCapacityInternal_0 ++ dktJ10_ensureCapacityInternal_1
theorem dksJ10_ensureCapacityInternal_0 : cJ10_ensureCapacityInternal.data.toList.drop 0 = dktJ10_ensureCapacityInternal_0 := by decide +kernel
theorem dksJ10_ensureCapacityInternal_1 : cJ10_ensureCapacityInternal.data.toList.drop 24 = dktJ10_ensureCapacityInternal_1 := dk_seg dksJ10_ensureCapacityInternal_0 24 rfl rfl
theorem dJ10_ensureCapacityInternal_0 : decode cJ10_ensureCapacityInternal 0 = .ok (.aload_n 0, 1) := dk_42 (dk_at dksJ10_ensureCapacityInternal_0 0 rfl rfl)
theorem dJ10_ensureCapacityInternal_1 : decode cJ10_ensureCapacityInternal 1 = .ok (.getfield 15, 3) := dk_180 0 15 (dk_at dksJ10_ensureCapacityInternal_0 1 rfl rfl)
theorem dJ10_ensureCapacityInternal_4 : decode cJ10_ensureCapacityInternal 4 = .ok (.arraylength, 1) := dk_190 (dk_at dksJ10_ensureCapacityInternal_0 4 rfl rfl)
theorem dJ10_ensureCapacityInternal_5 : decode cJ10_ensureCapacityInternal 5 = .ok (.aload_n 0, 1) := dk_42 (dk_at dksJ10_ensureCapacityInternal_0 5 rfl rfl)
theorem dJ10_ensureCapacityInternal_6 : decode cJ10_ensureCapacityInternal 6 = .ok (.getfield 22, 3) := dk_180 0 22 (dk_at dksJ10_ensureCapacityInternal_0 6 rfl rfl)
theorem dJ10_ensureCapacityInternal_9 : decode cJ10_ensureCapacityInternal 9 = .ok (.ishr, 1) := dk_122 (dk_at dksJ10_ensureCapacityInternal_0 9 rfl rfl)
theorem dJ10_ensureCapacityInternal_10 : decode cJ10_ensureCapacityInternal 10 = .ok (.istore_n 2, 1) := dk_61 (dk_at dksJ10_ensureCapacityInternal_0 10 rfl rfl)
theorem dJ10_ensureCapacityInternal_11 : decode cJ10_ensureCapacityInternal 11 = .ok (.iload_n 1, 1) := dk_27 (dk_at dksJ10_ensureCapacityInternal_0 11 rfl rfl)
theorem dJ10_ensureCapacityInternal_12 : decode cJ10_ensureCapacityInternal 12 = .ok (.iload_n 2, 1) := dk_28 (dk_at dksJ10_ensureCapacityInternal_0 12 rfl rfl)
theorem dJ10_ensureCapacityInternal_13 : decode cJ10_ensureCapacityInternal 13 = .ok (.isub, 1) := dk_100 (dk_at dksJ10_ensureCapacityInternal_0 13 rfl rfl)
theorem dJ10_ensureCapacityInternal_14 : decode cJ10_ensureCapacityInternal 14 = .ok (.ifCond .le 24, 3) := dk_158 0 24 (dk_at dksJ10_ensureCapacityInternal_0 14 rfl rfl)
theorem dJ10_ensureCapacityInternal_17 : decode cJ10_ensureCapacityInternal 17 = .ok (.aload_n 0, 1) := dk_42 (dk_at dksJ10_ensureCapacityInternal_0 17 rfl rfl)
theorem dJ10_ensureCapacityInternal_18 : decode cJ10_ensureCapacityInternal 18 = .ok (.aload_n 0, 1) := dk_42 (dk_at dksJ10_ensureCapacityInternal_0 18 rfl rfl)
theorem dJ10_ensureCapacityInternal_19 : decode cJ10_ensureCapacityInternal 19 = .ok (.getfield 15, 3) := dk_180 0 15 (dk_at dksJ10_ensureCapacityInternal_0 19 rfl rfl)
theorem dJ10_ensureCapacityInternal_22 : decode cJ10_ensureCapacityInternal 22 = .ok (.aload_n 0, 1) := dk_42 (dk_at dksJ10_ensureCapacityInternal_0 22 rfl rfl)
theorem dJ10_ensureCapacityInternal_23 : decode cJ10_ensureCapacityInternal 23 = .ok (.iload_n 1, 1) := dk_27 (dk_at dksJ10_ensureCapacityInternal_0 23 rfl rfl)
theorem dJ10_ensureCapacityInternal_24 : decode cJ10_ensureCapacityInternal 24 = .ok (.invokevirtual 104, 3) := dk_182 0 104 (dk_at dksJ10_ensureCapacityInternal_1 0 rfl rfl)
theorem dJ10_ensureCapacityInternal_27 : decode cJ10_ensureCapacityInternal 27 = .ok (.aload_n 0, 1) := dk_42 (dk_at dksJ10_ensureCapacityInternal_1 3 rfl rfl)
theorem dJ10_ensureCapacityInternal_28 : decode cJ10_ensureCapacityInternal 28 = .ok (.getfield 22, 3) := dk_180 0 22 (dk_at dksJ10_ensureCapacityInternal_1 4 rfl rfl)
theorem dJ10_ensureCapacityInternal_31 : decode cJ10_ensureCapacityInternal 31 = .ok (.ishl, 1) := dk_120 (dk_at dksJ10_ensureCapacityInternal_1 7 rfl rfl)
theorem dJ10_ensureCapacityInternal_32 : decode cJ10_ensureCapacityInternal 32 = .ok (.invokestatic 108, 3) := dk_184 0 108 (dk_at dksJ10_ensureCapacityInternal_1 8 rfl rfl)
theorem dJ10_ensureCapacityInternal_35 : decode cJ10_ensureCapacityInternal 35 = .ok (.putfield 15, 3) := dk_181 0 15 (dk_at dksJ10_ensureCapacityInternal_1 11 rfl rfl)
theorem dJ10_ensureCapacityInternal_38 : decode cJ10_ensureCapacityInternal 38 = .ok (.return_, 1) := dk_177 (dk_at dksJ10_ensureCapacityInternal_1 14 rfl rfl)
abbrev cJ10_newCapacity : ByteArray := prog_26_method_10_code
def yJ10_newCapacity : MethodName := ⟨RJ10, "newCapacity", "(I)I"⟩
def dkwJ10_newCapacity_2 : List UInt8 := [183, 0, 124, 191, 21, 5, 42, 180, 0, 22, 122, 172]
abbrev dktJ10_newCapacity_2 : List UInt8 := dkwJ10_newCapacity_2 ++ []
def dkwJ10_newCapacity_1 : List UInt8 := [180, 0, 22, 120, 96, 184, 0, 114, 54, 5, 21, 5, 18, 39, 160, 0, 13, 187, 0, 120, 89, 18, 122]
abbrev dktJ10_newCapacity_1 : List UInt8 := dkwJ10_newCapacity_1 ++ dktJ10_newCapacity_2
def dkwJ10_newCapacity_0 : List UInt8 := [42, 180, 0, 15, 190, 61, 27, 42, 180, 0, 22, 120, 62, 29, 28, 100, 54, 4, 28, 21, 4, 28, 5, 42]
abbrev dktJ10_newCapacity_0 : List UInt8 := dkwJ10_newCapacity_0 ++ dktJ10_newCapacity_1
theorem dksJ10_newCapacity_0 : cJ10_newCapacity.data.toList.drop 0 = dktJ10_newCapacity_0 := by decide +kernel
theorem dksJ10_newCapacity_1 : cJ10_newCapacity.data.toList.drop 24 = dktJ10_newCapacity_1 := dk_seg dksJ10_newCapacity_0 24 rfl rfl
theorem dksJ10_newCapacity_2 : cJ10_newCapacity.data.toList.drop 47 = dktJ10_newCapacity_2 := dk_seg dksJ10_newCapacity_1 23 rfl rfl
theorem dJ10_newCapacity_0 : decode cJ10_newCapacity 0 = .ok (.aload_n 0, 1) := dk_42 (dk_at dksJ10_newCapacity_0 0 rfl rfl)
theorem dJ10_newCapacity_1 : decode cJ10_newCapacity 1 = .ok (.getfield 15, 3) := dk_180 0 15 (dk_at dksJ10_newCapacity_0 1 rfl rfl)
theorem dJ10_newCapacity_4 : decode cJ10_newCapacity 4 = .ok (.arraylength, 1) := dk_190 (dk_at dksJ10_newCapacity_0 4 rfl rfl)
theorem dJ10_newCapacity_5 : decode cJ10_newCapacity 5 = .ok (.istore_n 2, 1) := dk_61 (dk_at dksJ10_newCapacity_0 5 rfl rfl)
theorem dJ10_newCapacity_6 : decode cJ10_newCapacity 6 = .ok (.iload_n 1, 1) := dk_27 (dk_at dksJ10_newCapacity_0 6 rfl rfl)
theorem dJ10_newCapacity_7 : decode cJ10_newCapacity 7 = .ok (.aload_n 0, 1) := dk_42 (dk_at dksJ10_newCapacity_0 7 rfl rfl)
theorem dJ10_newCapacity_8 : decode cJ10_newCapacity 8 = .ok (.getfield 22, 3) := dk_180 0 22 (dk_at dksJ10_newCapacity_0 8 rfl rfl)
theorem dJ10_newCapacity_11 : decode cJ10_newCapacity 11 = .ok (.ishl, 1) := dk_120 (dk_at dksJ10_newCapacity_0 11 rfl rfl)
theorem dJ10_newCapacity_12 : decode cJ10_newCapacity 12 = .ok (.istore_n 3, 1) := dk_62 (dk_at dksJ10_newCapacity_0 12 rfl rfl)
theorem dJ10_newCapacity_13 : decode cJ10_newCapacity 13 = .ok (.iload_n 3, 1) := dk_29 (dk_at dksJ10_newCapacity_0 13 rfl rfl)
theorem dJ10_newCapacity_14 : decode cJ10_newCapacity 14 = .ok (.iload_n 2, 1) := dk_28 (dk_at dksJ10_newCapacity_0 14 rfl rfl)
theorem dJ10_newCapacity_15 : decode cJ10_newCapacity 15 = .ok (.isub, 1) := dk_100 (dk_at dksJ10_newCapacity_0 15 rfl rfl)
theorem dJ10_newCapacity_16 : decode cJ10_newCapacity 16 = .ok (.istore 4, 2) := dk_54 4 (dk_at dksJ10_newCapacity_0 16 rfl rfl)
theorem dJ10_newCapacity_18 : decode cJ10_newCapacity 18 = .ok (.iload_n 2, 1) := dk_28 (dk_at dksJ10_newCapacity_0 18 rfl rfl)
theorem dJ10_newCapacity_19 : decode cJ10_newCapacity 19 = .ok (.iload 4, 2) := dk_21 4 (dk_at dksJ10_newCapacity_0 19 rfl rfl)
theorem dJ10_newCapacity_21 : decode cJ10_newCapacity 21 = .ok (.iload_n 2, 1) := dk_28 (dk_at dksJ10_newCapacity_0 21 rfl rfl)
theorem dJ10_newCapacity_22 : decode cJ10_newCapacity 22 = .ok (.iconst 2, 1) := dk_5 (dk_at dksJ10_newCapacity_0 22 rfl rfl)
theorem dJ10_newCapacity_23 : decode cJ10_newCapacity 23 = .ok (.aload_n 0, 1) := dk_42 (dk_at dksJ10_newCapacity_0 23 rfl rfl)
theorem dJ10_newCapacity_24 : decode cJ10_newCapacity 24 = .ok (.getfield 22, 3) := dk_180 0 22 (dk_at dksJ10_newCapacity_1 0 rfl rfl)
theorem dJ10_newCapacity_27 : decode cJ10_newCapacity 27 = .ok (.ishl, 1) := dk_120 (dk_at dksJ10_newCapacity_1 3 rfl rfl)
theorem dJ10_newCapacity_28 : decode cJ10_newCapacity 28 = .ok (.iadd, 1) := dk_96 (dk_at dksJ10_newCapacity_1 4 rfl rfl)
theorem dJ10_newCapacity_29 : decode cJ10_newCapacity 29 = .ok (.invokestatic 114, 3) := dk_184 0 114 (dk_at dksJ10_newCapacity_1 5 rfl rfl)
theorem dJ10_newCapacity_32 : decode cJ10_newCapacity 32 = .ok (.istore 5, 2) := dk_54 5 (dk_at dksJ10_newCapacity_1 8 rfl rfl)
theorem dJ10_newCapacity_34 : decode cJ10_newCapacity 34 = .ok (.iload 5, 2) := dk_21 5 (dk_at dksJ10_newCapacity_1 10 rfl rfl)
theorem dJ10_newCapacity_36 : decode cJ10_newCapacity 36 = .ok (.ldc 39, 2) := dk_18 39 (dk_at dksJ10_newCapacity_1 12 rfl rfl)
theorem dJ10_newCapacity_38 : decode cJ10_newCapacity 38 = .ok (.if_icmp .ne 13, 3) := dk_160 0 13 (dk_at dksJ10_newCapacity_1 14 rfl rfl)
theorem dJ10_newCapacity_41 : decode cJ10_newCapacity 41 = .ok (.new 120, 3) := dk_187 0 120 (dk_at dksJ10_newCapacity_1 17 rfl rfl)
theorem dJ10_newCapacity_44 : decode cJ10_newCapacity 44 = .ok (.dup, 1) := dk_89 (dk_at dksJ10_newCapacity_1 20 rfl rfl)
theorem dJ10_newCapacity_45 : decode cJ10_newCapacity 45 = .ok (.ldc 122, 2) := dk_18 122 (dk_at dksJ10_newCapacity_1 21 rfl rfl)
theorem dJ10_newCapacity_47 : decode cJ10_newCapacity 47 = .ok (.invokespecial 124, 3) := dk_183 0 124 (dk_at dksJ10_newCapacity_2 0 rfl rfl)
theorem dJ10_newCapacity_50 : decode cJ10_newCapacity 50 = .ok (.athrow, 1) := dk_191 (dk_at dksJ10_newCapacity_2 3 rfl rfl)
theorem dJ10_newCapacity_51 : decode cJ10_newCapacity 51 = .ok (.iload 5, 2) := dk_21 5 (dk_at dksJ10_newCapacity_2 4 rfl rfl)
theorem dJ10_newCapacity_53 : decode cJ10_newCapacity 53 = .ok (.aload_n 0, 1) := dk_42 (dk_at dksJ10_newCapacity_2 6 rfl rfl)
theorem dJ10_newCapacity_54 : decode cJ10_newCapacity 54 = .ok (.getfield 22, 3) := dk_180 0 22 (dk_at dksJ10_newCapacity_2 7 rfl rfl)
theorem dJ10_newCapacity_57 : decode cJ10_newCapacity 57 = .ok (.ishr, 1) := dk_122 (dk_at dksJ10_newCapacity_2 10 rfl rfl)
theorem dJ10_newCapacity_58 : decode cJ10_newCapacity 58 = .ok (.ireturn, 1) := dk_172 (dk_at dksJ10_newCapacity_2 11 rfl rfl)
abbrev cJ10_isLatin1 : ByteArray := prog_26_method_68_code
def yJ10_isLatin1 : MethodName := ⟨RJ10, "isLatin1", "()Z"⟩
def dkwJ10_isLatin1_0 : List UInt8 := [178, 0, 18, 153, 0, 14, 42, 180, 0, 22, 154, 0, 7, 4, 167, 0, 4, 3, 172]
abbrev dktJ10_isLatin1_0 : List UInt8 := dkwJ10_isLatin1_0 ++ []
theorem dksJ10_isLatin1_0 : cJ10_isLatin1.data.toList.drop 0 = dktJ10_isLatin1_0 := by decide +kernel
theorem dJ10_isLatin1_0 : decode cJ10_isLatin1 0 = .ok (.getstatic 18, 3) := dk_178 0 18 (dk_at dksJ10_isLatin1_0 0 rfl rfl)
theorem dJ10_isLatin1_3 : decode cJ10_isLatin1 3 = .ok (.ifCond .eq 14, 3) := dk_153 0 14 (dk_at dksJ10_isLatin1_0 3 rfl rfl)
theorem dJ10_isLatin1_6 : decode cJ10_isLatin1 6 = .ok (.aload_n 0, 1) := dk_42 (dk_at dksJ10_isLatin1_0 6 rfl rfl)
theorem dJ10_isLatin1_7 : decode cJ10_isLatin1 7 = .ok (.getfield 22, 3) := dk_180 0 22 (dk_at dksJ10_isLatin1_0 7 rfl rfl)
theorem dJ10_isLatin1_10 : decode cJ10_isLatin1 10 = .ok (.ifCond .ne 7, 3) := dk_154 0 7 (dk_at dksJ10_isLatin1_0 10 rfl rfl)
theorem dJ10_isLatin1_13 : decode cJ10_isLatin1 13 = .ok (.iconst 1, 1) := dk_4 (dk_at dksJ10_isLatin1_0 13 rfl rfl)
theorem dJ10_isLatin1_14 : decode cJ10_isLatin1 14 = .ok (.goto 4, 3) := dk_167 0 4 (dk_at dksJ10_isLatin1_0 14 rfl rfl)
theorem dJ10_isLatin1_17 : decode cJ10_isLatin1 17 = .ok (.iconst 0, 1) := dk_3 (dk_at dksJ10_isLatin1_0 17 rfl rfl)
theorem dJ10_isLatin1_18 : decode cJ10_isLatin1 18 = .ok (.ireturn, 1) := dk_172 (dk_at dksJ10_isLatin1_0 18 rfl rfl)
abbrev cJ10_inflate : ByteArray := prog_26_method_11_code
def yJ10_inflate : MethodName := ⟨RJ10, "inflate", "()V"⟩
def dkwJ10_inflate_1 : List UInt8 := [42, 180, 0, 79, 184, 0, 125, 42, 43, 181, 0, 15, 42, 4, 181, 0, 22, 177]
abbrev dktJ10_inflate_1 : List UInt8 := dkwJ10_inflate_1 ++ []
def dkwJ10_inflate_0 : List UInt8 := [42, 182, 0, 83, 154, 0, 4, 177, 42, 180, 0, 15, 190, 184, 0, 26, 76, 42, 180, 0, 15, 3, 43, 3]
abbrev dktJ10_inflate_0 : List UInt8 := dkwJ10_inflate_0 ++ dktJ10_inflate_1
theorem dksJ10_inflate_0 : cJ10_inflate.data.toList.drop 0 = dktJ10_inflate_0 := by decide +kernel
theorem dksJ10_inflate_1 : cJ10_inflate.data.toList.drop 24 = dktJ10_inflate_1 := dk_seg dksJ10_inflate_0 24 rfl rfl
theorem dJ10_inflate_0 : decode cJ10_inflate 0 = .ok (.aload_n 0, 1) := dk_42 (dk_at dksJ10_inflate_0 0 rfl rfl)
theorem dJ10_inflate_1 : decode cJ10_inflate 1 = .ok (.invokevirtual 83, 3) := dk_182 0 83 (dk_at dksJ10_inflate_0 1 rfl rfl)
theorem dJ10_inflate_4 : decode cJ10_inflate 4 = .ok (.ifCond .ne 4, 3) := dk_154 0 4 (dk_at dksJ10_inflate_0 4 rfl rfl)
theorem dJ10_inflate_7 : decode cJ10_inflate 7 = .ok (.return_, 1) := dk_177 (dk_at dksJ10_inflate_0 7 rfl rfl)
theorem dJ10_inflate_8 : decode cJ10_inflate 8 = .ok (.aload_n 0, 1) := dk_42 (dk_at dksJ10_inflate_0 8 rfl rfl)
theorem dJ10_inflate_9 : decode cJ10_inflate 9 = .ok (.getfield 15, 3) := dk_180 0 15 (dk_at dksJ10_inflate_0 9 rfl rfl)
theorem dJ10_inflate_12 : decode cJ10_inflate 12 = .ok (.arraylength, 1) := dk_190 (dk_at dksJ10_inflate_0 12 rfl rfl)
theorem dJ10_inflate_13 : decode cJ10_inflate 13 = .ok (.invokestatic 26, 3) := dk_184 0 26 (dk_at dksJ10_inflate_0 13 rfl rfl)
theorem dJ10_inflate_16 : decode cJ10_inflate 16 = .ok (.astore_n 1, 1) := dk_76 (dk_at dksJ10_inflate_0 16 rfl rfl)
theorem dJ10_inflate_17 : decode cJ10_inflate 17 = .ok (.aload_n 0, 1) := dk_42 (dk_at dksJ10_inflate_0 17 rfl rfl)
theorem dJ10_inflate_18 : decode cJ10_inflate 18 = .ok (.getfield 15, 3) := dk_180 0 15 (dk_at dksJ10_inflate_0 18 rfl rfl)
theorem dJ10_inflate_21 : decode cJ10_inflate 21 = .ok (.iconst 0, 1) := dk_3 (dk_at dksJ10_inflate_0 21 rfl rfl)
theorem dJ10_inflate_22 : decode cJ10_inflate 22 = .ok (.aload_n 1, 1) := dk_43 (dk_at dksJ10_inflate_0 22 rfl rfl)
theorem dJ10_inflate_23 : decode cJ10_inflate 23 = .ok (.iconst 0, 1) := dk_3 (dk_at dksJ10_inflate_0 23 rfl rfl)
theorem dJ10_inflate_24 : decode cJ10_inflate 24 = .ok (.aload_n 0, 1) := dk_42 (dk_at dksJ10_inflate_1 0 rfl rfl)
theorem dJ10_inflate_25 : decode cJ10_inflate 25 = .ok (.getfield 79, 3) := dk_180 0 79 (dk_at dksJ10_inflate_1 1 rfl rfl)
theorem dJ10_inflate_28 : decode cJ10_inflate 28 = .ok (.invokestatic 125, 3) := dk_184 0 125 (dk_at dksJ10_inflate_1 4 rfl rfl)
theorem dJ10_inflate_31 : decode cJ10_inflate 31 = .ok (.aload_n 0, 1) := dk_42 (dk_at dksJ10_inflate_1 7 rfl rfl)
theorem dJ10_inflate_32 : decode cJ10_inflate 32 = .ok (.aload_n 1, 1) := dk_43 (dk_at dksJ10_inflate_1 8 rfl rfl)
theorem dJ10_inflate_33 : decode cJ10_inflate 33 = .ok (.putfield 15, 3) := dk_181 0 15 (dk_at dksJ10_inflate_1 9 rfl rfl)
theorem dJ10_inflate_36 : decode cJ10_inflate 36 = .ok (.aload_n 0, 1) := dk_42 (dk_at dksJ10_inflate_1 12 rfl rfl)
theorem dJ10_inflate_37 : decode cJ10_inflate 37 = .ok (.iconst 1, 1) := dk_4 (dk_at dksJ10_inflate_1 13 rfl rfl)
theorem dJ10_inflate_38 : decode cJ10_inflate 38 = .ok (.putfield 22, 3) := dk_181 0 22 (dk_at dksJ10_inflate_1 14 rfl rfl)
theorem dJ10_inflate_41 : decode cJ10_inflate 41 = .ok (.return_, 1) := dk_177 (dk_at dksJ10_inflate_1 17 rfl rfl)
abbrev cJ10_getValue : ByteArray := prog_26_method_64_code
def yJ10_getValue : MethodName := ⟨RJ10, "getValue", "()[B"⟩
theorem dJ10_getValue_0 : decode cJ10_getValue 0 = .ok (.aload_n 0, 1) := by decide +kernel
theorem dJ10_getValue_1 : decode cJ10_getValue 1 = .ok (.getfield 15, 3) := by decide +kernel
theorem dJ10_getValue_4 : decode cJ10_getValue 4 = .ok (.areturn, 1) := by decide +kernel
abbrev cJ10_compareTo : ByteArray := prog_26_method_5_code
def yJ10_compareTo : MethodName := ⟨RJ10, "compareTo", "(Ljava/lang/AbstractStringBuilder;)I"⟩
def dkwJ10_compareTo_4 : List UInt8 := [184, 0, 97, 172]
abbrev dktJ10_compareTo_4 : List UInt8 := dkwJ10_compareTo_4 ++ []
def dkwJ10_compareTo_3 : List UInt8 := [182, 0, 83, 153, 0, 15, 44, 45, 21, 4, 21, 5, 184, 0, 94, 167, 0, 12, 44, 45, 21, 4, 21, 5]
abbrev dktJ10_compareTo_3 : List UInt8 := dkwJ10_compareTo_3 ++ dktJ10_compareTo_4
def dkwJ10_compareTo_2 : List UInt8 := [45, 21, 4, 21, 5, 184, 0, 87, 167, 0, 12, 44, 45, 21, 4, 21, 5, 184, 0, 93, 172, 42]
abbrev dktJ10_compareTo_2 : List UInt8 := dkwJ10_compareTo_2 ++ dktJ10_compareTo_3
def dkwJ10_compareTo_1 : List UInt8 := [180, 0, 79, 54, 5, 42, 180, 0, 22, 43, 180, 0, 22, 160, 0, 32, 42, 182, 0, 83, 153, 0, 15, 44]
abbrev dktJ10_compareTo_1 : List UInt8 := dkwJ10_compareTo_1 ++ dktJ10_compareTo_2
def dkwJ10_compareTo_0 : List UInt8 := [42, 43, 166, 0, 5, 3, 172, 42, 180, 0, 15, 77, 43, 180, 0, 15, 78, 42, 180, 0, 79, 54, 4, 43]
abbrev dktJ10_compareTo_0 : List UInt8 := dkwJ10_compareTo_0 ++ dktJ10_compareTo_1
theorem dksJ10_compareTo_0 : cJ10_compareTo.data.toList.drop 0 = dktJ10_compareTo_0 := by decide +kernel
theorem dksJ10_compareTo_1 : cJ10_compareTo.data.toList.drop 24 = dktJ10_compareTo_1 := dk_seg dksJ10_compareTo_0 24 rfl rfl
theorem dksJ10_compareTo_2 : cJ10_compareTo.data.toList.drop 48 = dktJ10_compareTo_2 := dk_seg dksJ10_compareTo_1 24 rfl rfl
theorem dksJ10_compareTo_3 : cJ10_compareTo.data.toList.drop 70 = dktJ10_compareTo_3 := dk_seg dksJ10_compareTo_2 22 rfl rfl
theorem dksJ10_compareTo_4 : cJ10_compareTo.data.toList.drop 94 = dktJ10_compareTo_4 := dk_seg dksJ10_compareTo_3 24 rfl rfl
theorem dJ10_compareTo_0 : decode cJ10_compareTo 0 = .ok (.aload_n 0, 1) := dk_42 (dk_at dksJ10_compareTo_0 0 rfl rfl)
theorem dJ10_compareTo_1 : decode cJ10_compareTo 1 = .ok (.aload_n 1, 1) := dk_43 (dk_at dksJ10_compareTo_0 1 rfl rfl)
theorem dJ10_compareTo_2 : decode cJ10_compareTo 2 = .ok (.if_acmp .ne 5, 3) := dk_166 0 5 (dk_at dksJ10_compareTo_0 2 rfl rfl)
theorem dJ10_compareTo_5 : decode cJ10_compareTo 5 = .ok (.iconst 0, 1) := dk_3 (dk_at dksJ10_compareTo_0 5 rfl rfl)
theorem dJ10_compareTo_6 : decode cJ10_compareTo 6 = .ok (.ireturn, 1) := dk_172 (dk_at dksJ10_compareTo_0 6 rfl rfl)
theorem dJ10_compareTo_7 : decode cJ10_compareTo 7 = .ok (.aload_n 0, 1) := dk_42 (dk_at dksJ10_compareTo_0 7 rfl rfl)
theorem dJ10_compareTo_8 : decode cJ10_compareTo 8 = .ok (.getfield 15, 3) := dk_180 0 15 (dk_at dksJ10_compareTo_0 8 rfl rfl)
theorem dJ10_compareTo_11 : decode cJ10_compareTo 11 = .ok (.astore_n 2, 1) := dk_77 (dk_at dksJ10_compareTo_0 11 rfl rfl)
theorem dJ10_compareTo_12 : decode cJ10_compareTo 12 = .ok (.aload_n 1, 1) := dk_43 (dk_at dksJ10_compareTo_0 12 rfl rfl)
theorem dJ10_compareTo_13 : decode cJ10_compareTo 13 = .ok (.getfield 15, 3) := dk_180 0 15 (dk_at dksJ10_compareTo_0 13 rfl rfl)
theorem dJ10_compareTo_16 : decode cJ10_compareTo 16 = .ok (.astore_n 3, 1) := dk_78 (dk_at dksJ10_compareTo_0 16 rfl rfl)
theorem dJ10_compareTo_17 : decode cJ10_compareTo 17 = .ok (.aload_n 0, 1) := dk_42 (dk_at dksJ10_compareTo_0 17 rfl rfl)
theorem dJ10_compareTo_18 : decode cJ10_compareTo 18 = .ok (.getfield 79, 3) := dk_180 0 79 (dk_at dksJ10_compareTo_0 18 rfl rfl)
theorem dJ10_compareTo_21 : decode cJ10_compareTo 21 = .ok (.istore 4, 2) := dk_54 4 (dk_at dksJ10_compareTo_0 21 rfl rfl)
theorem dJ10_compareTo_23 : decode cJ10_compareTo 23 = .ok (.aload_n 1, 1) := dk_43 (dk_at dksJ10_compareTo_0 23 rfl rfl)
theorem dJ10_compareTo_24 : decode cJ10_compareTo 24 = .ok (.getfield 79, 3) := dk_180 0 79 (dk_at dksJ10_compareTo_1 0 rfl rfl)
theorem dJ10_compareTo_27 : decode cJ10_compareTo 27 = .ok (.istore 5, 2) := dk_54 5 (dk_at dksJ10_compareTo_1 3 rfl rfl)
theorem dJ10_compareTo_29 : decode cJ10_compareTo 29 = .ok (.aload_n 0, 1) := dk_42 (dk_at dksJ10_compareTo_1 5 rfl rfl)
theorem dJ10_compareTo_30 : decode cJ10_compareTo 30 = .ok (.getfield 22, 3) := dk_180 0 22 (dk_at dksJ10_compareTo_1 6 rfl rfl)
theorem dJ10_compareTo_33 : decode cJ10_compareTo 33 = .ok (.aload_n 1, 1) := dk_43 (dk_at dksJ10_compareTo_1 9 rfl rfl)
theorem dJ10_compareTo_34 : decode cJ10_compareTo 34 = .ok (.getfield 22, 3) := dk_180 0 22 (dk_at dksJ10_compareTo_1 10 rfl rfl)
theorem dJ10_compareTo_37 : decode cJ10_compareTo 37 = .ok (.if_icmp .ne 32, 3) := dk_160 0 32 (dk_at dksJ10_compareTo_1 13 rfl rfl)
theorem dJ10_compareTo_40 : decode cJ10_compareTo 40 = .ok (.aload_n 0, 1) := dk_42 (dk_at dksJ10_compareTo_1 16 rfl rfl)
theorem dJ10_compareTo_41 : decode cJ10_compareTo 41 = .ok (.invokevirtual 83, 3) := dk_182 0 83 (dk_at dksJ10_compareTo_1 17 rfl rfl)
theorem dJ10_compareTo_44 : decode cJ10_compareTo 44 = .ok (.ifCond .eq 15, 3) := dk_153 0 15 (dk_at dksJ10_compareTo_1 20 rfl rfl)
theorem dJ10_compareTo_47 : decode cJ10_compareTo 47 = .ok (.aload_n 2, 1) := dk_44 (dk_at dksJ10_compareTo_1 23 rfl rfl)
theorem dJ10_compareTo_48 : decode cJ10_compareTo 48 = .ok (.aload_n 3, 1) := dk_45 (dk_at dksJ10_compareTo_2 0 rfl rfl)
theorem dJ10_compareTo_49 : decode cJ10_compareTo 49 = .ok (.iload 4, 2) := dk_21 4 (dk_at dksJ10_compareTo_2 1 rfl rfl)
theorem dJ10_compareTo_51 : decode cJ10_compareTo 51 = .ok (.iload 5, 2) := dk_21 5 (dk_at dksJ10_compareTo_2 3 rfl rfl)
theorem dJ10_compareTo_53 : decode cJ10_compareTo 53 = .ok (.invokestatic 87, 3) := dk_184 0 87 (dk_at dksJ10_compareTo_2 5 rfl rfl)
theorem dJ10_compareTo_56 : decode cJ10_compareTo 56 = .ok (.goto 12, 3) := dk_167 0 12 (dk_at dksJ10_compareTo_2 8 rfl rfl)
theorem dJ10_compareTo_59 : decode cJ10_compareTo 59 = .ok (.aload_n 2, 1) := dk_44 (dk_at dksJ10_compareTo_2 11 rfl rfl)
theorem dJ10_compareTo_60 : decode cJ10_compareTo 60 = .ok (.aload_n 3, 1) := dk_45 (dk_at dksJ10_compareTo_2 12 rfl rfl)
theorem dJ10_compareTo_61 : decode cJ10_compareTo 61 = .ok (.iload 4, 2) := dk_21 4 (dk_at dksJ10_compareTo_2 13 rfl rfl)
theorem dJ10_compareTo_63 : decode cJ10_compareTo 63 = .ok (.iload 5, 2) := dk_21 5 (dk_at dksJ10_compareTo_2 15 rfl rfl)
theorem dJ10_compareTo_65 : decode cJ10_compareTo 65 = .ok (.invokestatic 93, 3) := dk_184 0 93 (dk_at dksJ10_compareTo_2 17 rfl rfl)
theorem dJ10_compareTo_68 : decode cJ10_compareTo 68 = .ok (.ireturn, 1) := dk_172 (dk_at dksJ10_compareTo_2 20 rfl rfl)
theorem dJ10_compareTo_69 : decode cJ10_compareTo 69 = .ok (.aload_n 0, 1) := dk_42 (dk_at dksJ10_compareTo_2 21 rfl rfl)
theorem dJ10_compareTo_70 : decode cJ10_compareTo 70 = .ok (.invokevirtual 83, 3) := dk_182 0 83 (dk_at dksJ10_compareTo_3 0 rfl rfl)
theorem dJ10_compareTo_73 : decode cJ10_compareTo 73 = .ok (.ifCond .eq 15, 3) := dk_153 0 15 (dk_at dksJ10_compareTo_3 3 rfl rfl)
theorem dJ10_compareTo_76 : decode cJ10_compareTo 76 = .ok (.aload_n 2, 1) := dk_44 (dk_at dksJ10_compareTo_3 6 rfl rfl)
theorem dJ10_compareTo_77 : decode cJ10_compareTo 77 = .ok (.aload_n 3, 1) := dk_45 (dk_at dksJ10_compareTo_3 7 rfl rfl)
theorem dJ10_compareTo_78 : decode cJ10_compareTo 78 = .ok (.iload 4, 2) := dk_21 4 (dk_at dksJ10_compareTo_3 8 rfl rfl)
theorem dJ10_compareTo_80 : decode cJ10_compareTo 80 = .ok (.iload 5, 2) := dk_21 5 (dk_at dksJ10_compareTo_3 10 rfl rfl)
theorem dJ10_compareTo_82 : decode cJ10_compareTo 82 = .ok (.invokestatic 94, 3) := dk_184 0 94 (dk_at dksJ10_compareTo_3 12 rfl rfl)
theorem dJ10_compareTo_85 : decode cJ10_compareTo 85 = .ok (.goto 12, 3) := dk_167 0 12 (dk_at dksJ10_compareTo_3 15 rfl rfl)
theorem dJ10_compareTo_88 : decode cJ10_compareTo 88 = .ok (.aload_n 2, 1) := dk_44 (dk_at dksJ10_compareTo_3 18 rfl rfl)
theorem dJ10_compareTo_89 : decode cJ10_compareTo 89 = .ok (.aload_n 3, 1) := dk_45 (dk_at dksJ10_compareTo_3 19 rfl rfl)
theorem dJ10_compareTo_90 : decode cJ10_compareTo 90 = .ok (.iload 4, 2) := dk_21 4 (dk_at dksJ10_compareTo_3 20 rfl rfl)
theorem dJ10_compareTo_92 : decode cJ10_compareTo 92 = .ok (.iload 5, 2) := dk_21 5 (dk_at dksJ10_compareTo_3 22 rfl rfl)
theorem dJ10_compareTo_94 : decode cJ10_compareTo 94 = .ok (.invokestatic 97, 3) := dk_184 0 97 (dk_at dksJ10_compareTo_4 0 rfl rfl)
theorem dJ10_compareTo_97 : decode cJ10_compareTo 97 = .ok (.ireturn, 1) := dk_172 (dk_at dksJ10_compareTo_4 3 rfl rfl)
abbrev cJ10_append_2 : ByteArray := prog_26_method_32_code
def yJ10_append_2 : MethodName := ⟨RJ10, "append", "(I)Ljava/lang/AbstractStringBuilder;"⟩
def dkwJ10_append_2_2 : List UInt8 := [42, 29, 181, 0, 79, 42, 176]
abbrev dktJ10_append_2_2 : List UInt8 := dkwJ10_append_2_2 ++ []
def dkwJ10_append_2_1 : List UInt8 := [27, 29, 42, 180, 0, 15, 184, 0, 248, 87, 167, 0, 14, 27, 28, 29, 42, 180, 0, 15, 184, 0, 251, 87]
abbrev dktJ10_append_2_1 : List UInt8 := dkwJ10_append_2_1 ++ dktJ10_append_2_2
def dkwJ10_append_2_0 : List UInt8 := [42, 180, 0, 79, 61, 28, 27, 184, 0, 245, 96, 62, 42, 29, 182, 0, 100, 42, 182, 0, 83, 153, 0, 16]
abbrev dktJ10_append_2_0 : List UInt8 := dkwJ10_append_2_0 ++ dktJ10_append_2_1
theorem dksJ10_append_2_0 : cJ10_append_2.data.toList.drop 0 = dktJ10_append_2_0 := by decide +kernel
theorem dksJ10_append_2_1 : cJ10_append_2.data.toList.drop 24 = dktJ10_append_2_1 := dk_seg dksJ10_append_2_0 24 rfl rfl
theorem dksJ10_append_2_2 : cJ10_append_2.data.toList.drop 48 = dktJ10_append_2_2 := dk_seg dksJ10_append_2_1 24 rfl rfl
theorem dJ10_append_2_0 : decode cJ10_append_2 0 = .ok (.aload_n 0, 1) := dk_42 (dk_at dksJ10_append_2_0 0 rfl rfl)
theorem dJ10_append_2_1 : decode cJ10_append_2 1 = .ok (.getfield 79, 3) := dk_180 0 79 (dk_at dksJ10_append_2_0 1 rfl rfl)
theorem dJ10_append_2_4 : decode cJ10_append_2 4 = .ok (.istore_n 2, 1) := dk_61 (dk_at dksJ10_append_2_0 4 rfl rfl)
theorem dJ10_append_2_5 : decode cJ10_append_2 5 = .ok (.iload_n 2, 1) := dk_28 (dk_at dksJ10_append_2_0 5 rfl rfl)
theorem dJ10_append_2_6 : decode cJ10_append_2 6 = .ok (.iload_n 1, 1) := dk_27 (dk_at dksJ10_append_2_0 6 rfl rfl)
theorem dJ10_append_2_7 : decode cJ10_append_2 7 = .ok (.invokestatic 245, 3) := dk_184 0 245 (dk_at dksJ10_append_2_0 7 rfl rfl)
theorem dJ10_append_2_10 : decode cJ10_append_2 10 = .ok (.iadd, 1) := dk_96 (dk_at dksJ10_append_2_0 10 rfl rfl)
theorem dJ10_append_2_11 : decode cJ10_append_2 11 = .ok (.istore_n 3, 1) := dk_62 (dk_at dksJ10_append_2_0 11 rfl rfl)
theorem dJ10_append_2_12 : decode cJ10_append_2 12 = .ok (.aload_n 0, 1) := dk_42 (dk_at dksJ10_append_2_0 12 rfl rfl)
theorem dJ10_append_2_13 : decode cJ10_append_2 13 = .ok (.iload_n 3, 1) := dk_29 (dk_at dksJ10_append_2_0 13 rfl rfl)
theorem dJ10_append_2_14 : decode cJ10_append_2 14 = .ok (.invokevirtual 100, 3) := dk_182 0 100 (dk_at dksJ10_append_2_0 14 rfl rfl)
theorem dJ10_append_2_17 : decode cJ10_append_2 17 = .ok (.aload_n 0, 1) := dk_42 (dk_at dksJ10_append_2_0 17 rfl rfl)
theorem dJ10_append_2_18 : decode cJ10_append_2 18 = .ok (.invokevirtual 83, 3) := dk_182 0 83 (dk_at dksJ10_append_2_0 18 rfl rfl)
theorem dJ10_append_2_21 : decode cJ10_append_2 21 = .ok (.ifCond .eq 16, 3) := dk_153 0 16 (dk_at dksJ10_append_2_0 21 rfl rfl)
theorem dJ10_append_2_24 : decode cJ10_append_2 24 = .ok (.iload_n 1, 1) := dk_27 (dk_at dksJ10_append_2_1 0 rfl rfl)
theorem dJ10_append_2_25 : decode cJ10_append_2 25 = .ok (.iload_n 3, 1) := dk_29 (dk_at dksJ10_append_2_1 1 rfl rfl)
theorem dJ10_append_2_26 : decode cJ10_append_2 26 = .ok (.aload_n 0, 1) := dk_42 (dk_at dksJ10_append_2_1 2 rfl rfl)
theorem dJ10_append_2_27 : decode cJ10_append_2 27 = .ok (.getfield 15, 3) := dk_180 0 15 (dk_at dksJ10_append_2_1 3 rfl rfl)
theorem dJ10_append_2_30 : decode cJ10_append_2 30 = .ok (.invokestatic 248, 3) := dk_184 0 248 (dk_at dksJ10_append_2_1 6 rfl rfl)
theorem dJ10_append_2_33 : decode cJ10_append_2 33 = .ok (.pop, 1) := dk_87 (dk_at dksJ10_append_2_1 9 rfl rfl)
theorem dJ10_append_2_34 : decode cJ10_append_2 34 = .ok (.goto 14, 3) := dk_167 0 14 (dk_at dksJ10_append_2_1 10 rfl rfl)
theorem dJ10_append_2_37 : decode cJ10_append_2 37 = .ok (.iload_n 1, 1) := dk_27 (dk_at dksJ10_append_2_1 13 rfl rfl)
theorem dJ10_append_2_38 : decode cJ10_append_2 38 = .ok (.iload_n 2, 1) := dk_28 (dk_at dksJ10_append_2_1 14 rfl rfl)
theorem dJ10_append_2_39 : decode cJ10_append_2 39 = .ok (.iload_n 3, 1) := dk_29 (dk_at dksJ10_append_2_1 15 rfl rfl)
theorem dJ10_append_2_40 : decode cJ10_append_2 40 = .ok (.aload_n 0, 1) := dk_42 (dk_at dksJ10_append_2_1 16 rfl rfl)
theorem dJ10_append_2_41 : decode cJ10_append_2 41 = .ok (.getfield 15, 3) := dk_180 0 15 (dk_at dksJ10_append_2_1 17 rfl rfl)
theorem dJ10_append_2_44 : decode cJ10_append_2 44 = .ok (.invokestatic 251, 3) := dk_184 0 251 (dk_at dksJ10_append_2_1 20 rfl rfl)
theorem dJ10_append_2_47 : decode cJ10_append_2 47 = .ok (.pop, 1) := dk_87 (dk_at dksJ10_append_2_1 23 rfl rfl)
theorem dJ10_append_2_48 : decode cJ10_append_2 48 = .ok (.aload_n 0, 1) := dk_42 (dk_at dksJ10_append_2_2 0 rfl rfl)
theorem dJ10_append_2_49 : decode cJ10_append_2 49 = .ok (.iload_n 3, 1) := dk_29 (dk_at dksJ10_append_2_2 1 rfl rfl)
theorem dJ10_append_2_50 : decode cJ10_append_2 50 = .ok (.putfield 79, 3) := dk_181 0 79 (dk_at dksJ10_append_2_2 2 rfl rfl)
theorem dJ10_append_2_53 : decode cJ10_append_2 53 = .ok (.aload_n 0, 1) := dk_42 (dk_at dksJ10_append_2_2 5 rfl rfl)
theorem dJ10_append_2_54 : decode cJ10_append_2 54 = .ok (.areturn, 1) := dk_176 (dk_at dksJ10_append_2_2 6 rfl rfl)
abbrev cJ10_append_3 : ByteArray := prog_26_method_22_code
def yJ10_append_3 : MethodName := ⟨RJ10, "append", "(Ljava/lang/String;)Ljava/lang/AbstractStringBuilder;"⟩
def dkwJ10_append_3_1 : List UInt8 := [42, 42, 180, 0, 79, 43, 182, 0, 208, 42, 89, 180, 0, 79, 28, 96, 181, 0, 79, 42, 176]
abbrev dktJ10_append_3_1 : List UInt8 := dkwJ10_append_3_1 ++ []
def dkwJ10_append_3_0 : List UInt8 := [43, 199, 0, 8, 42, 182, 0, 204, 176, 43, 182, 0, 32, 61, 42, 42, 180, 0, 79, 28, 96, 182, 0, 100]
abbrev dktJ10_append_3_0 : List UInt8 := dkwJ10_append_3_0 ++ dktJ10_append_3_1
theorem dksJ10_append_3_0 : cJ10_append_3.data.toList.drop 0 = dktJ10_append_3_0 := by decide +kernel
theorem dksJ10_append_3_1 : cJ10_append_3.data.toList.drop 24 = dktJ10_append_3_1 := dk_seg dksJ10_append_3_0 24 rfl rfl
theorem dJ10_append_3_0 : decode cJ10_append_3 0 = .ok (.aload_n 1, 1) := dk_43 (dk_at dksJ10_append_3_0 0 rfl rfl)
theorem dJ10_append_3_1 : decode cJ10_append_3 1 = .ok (.ifnonnull 8, 3) := dk_199 0 8 (dk_at dksJ10_append_3_0 1 rfl rfl)
theorem dJ10_append_3_4 : decode cJ10_append_3 4 = .ok (.aload_n 0, 1) := dk_42 (dk_at dksJ10_append_3_0 4 rfl rfl)
theorem dJ10_append_3_5 : decode cJ10_append_3 5 = .ok (.invokevirtual 204, 3) := dk_182 0 204 (dk_at dksJ10_append_3_0 5 rfl rfl)
theorem dJ10_append_3_8 : decode cJ10_append_3 8 = .ok (.areturn, 1) := dk_176 (dk_at dksJ10_append_3_0 8 rfl rfl)
theorem dJ10_append_3_9 : decode cJ10_append_3 9 = .ok (.aload_n 1, 1) := dk_43 (dk_at dksJ10_append_3_0 9 rfl rfl)
theorem dJ10_append_3_10 : decode cJ10_append_3 10 = .ok (.invokevirtual 32, 3) := dk_182 0 32 (dk_at dksJ10_append_3_0 10 rfl rfl)
theorem dJ10_append_3_13 : decode cJ10_append_3 13 = .ok (.istore_n 2, 1) := dk_61 (dk_at dksJ10_append_3_0 13 rfl rfl)
theorem dJ10_append_3_14 : decode cJ10_append_3 14 = .ok (.aload_n 0, 1) := dk_42 (dk_at dksJ10_append_3_0 14 rfl rfl)
theorem dJ10_append_3_15 : decode cJ10_append_3 15 = .ok (.aload_n 0, 1) := dk_42 (dk_at dksJ10_append_3_0 15 rfl rfl)
theorem dJ10_append_3_16 : decode cJ10_append_3 16 = .ok (.getfield 79, 3) := dk_180 0 79 (dk_at dksJ10_append_3_0 16 rfl rfl)
theorem dJ10_append_3_19 : decode cJ10_append_3 19 = .ok (.iload_n 2, 1) := dk_28 (dk_at dksJ10_append_3_0 19 rfl rfl)
theorem dJ10_append_3_20 : decode cJ10_append_3 20 = .ok (.iadd, 1) := dk_96 (dk_at dksJ10_append_3_0 20 rfl rfl)
theorem dJ10_append_3_21 : decode cJ10_append_3 21 = .ok (.invokevirtual 100, 3) := dk_182 0 100 (dk_at dksJ10_append_3_0 21 rfl rfl)
theorem dJ10_append_3_24 : decode cJ10_append_3 24 = .ok (.aload_n 0, 1) := dk_42 (dk_at dksJ10_append_3_1 0 rfl rfl)
theorem dJ10_append_3_25 : decode cJ10_append_3 25 = .ok (.aload_n 0, 1) := dk_42 (dk_at dksJ10_append_3_1 1 rfl rfl)
theorem dJ10_append_3_26 : decode cJ10_append_3 26 = .ok (.getfield 79, 3) := dk_180 0 79 (dk_at dksJ10_append_3_1 2 rfl rfl)
theorem dJ10_append_3_29 : decode cJ10_append_3 29 = .ok (.aload_n 1, 1) := dk_43 (dk_at dksJ10_append_3_1 5 rfl rfl)
theorem dJ10_append_3_30 : decode cJ10_append_3 30 = .ok (.invokevirtual 208, 3) := dk_182 0 208 (dk_at dksJ10_append_3_1 6 rfl rfl)
theorem dJ10_append_3_33 : decode cJ10_append_3 33 = .ok (.aload_n 0, 1) := dk_42 (dk_at dksJ10_append_3_1 9 rfl rfl)
theorem dJ10_append_3_34 : decode cJ10_append_3 34 = .ok (.dup, 1) := dk_89 (dk_at dksJ10_append_3_1 10 rfl rfl)
theorem dJ10_append_3_35 : decode cJ10_append_3 35 = .ok (.getfield 79, 3) := dk_180 0 79 (dk_at dksJ10_append_3_1 11 rfl rfl)
theorem dJ10_append_3_38 : decode cJ10_append_3 38 = .ok (.iload_n 2, 1) := dk_28 (dk_at dksJ10_append_3_1 14 rfl rfl)
theorem dJ10_append_3_39 : decode cJ10_append_3 39 = .ok (.iadd, 1) := dk_96 (dk_at dksJ10_append_3_1 15 rfl rfl)
theorem dJ10_append_3_40 : decode cJ10_append_3 40 = .ok (.putfield 79, 3) := dk_181 0 79 (dk_at dksJ10_append_3_1 16 rfl rfl)
theorem dJ10_append_3_43 : decode cJ10_append_3 43 = .ok (.aload_n 0, 1) := dk_42 (dk_at dksJ10_append_3_1 19 rfl rfl)
theorem dJ10_append_3_44 : decode cJ10_append_3 44 = .ok (.areturn, 1) := dk_176 (dk_at dksJ10_append_3_1 20 rfl rfl)
abbrev cJ10_appendNull : ByteArray := prog_26_method_26_code
def yJ10_appendNull : MethodName := ⟨RJ10, "appendNull", "()Ljava/lang/AbstractStringBuilder;"⟩
def dkwJ10_appendNull_3 : List UInt8 := [184, 0, 226, 60, 42, 27, 181, 0, 79, 42, 176]
abbrev dktJ10_appendNull_3 : List UInt8 := dkwJ10_appendNull_3 ++ []
def dkwJ10_appendNull_2 : List UInt8 := [16, 108, 84, 44, 27, 132, 1, 1, 16, 108, 84, 167, 0, 17, 44, 27, 16, 110, 16, 117, 16, 108, 16, 108]
abbrev dktJ10_appendNull_2 : List UInt8 := dkwJ10_appendNull_2 ++ dktJ10_appendNull_3
def dkwJ10_appendNull_1 : List UInt8 := [153, 0, 38, 44, 27, 132, 1, 1, 16, 110, 84, 44, 27, 132, 1, 1, 16, 117, 84, 44, 27, 132, 1, 1]
abbrev dktJ10_appendNull_1 : List UInt8 := dkwJ10_appendNull_1 ++ dktJ10_appendNull_2
def dkwJ10_appendNull_0 : List UInt8 := [42, 42, 180, 0, 79, 7, 96, 182, 0, 100, 42, 180, 0, 79, 60, 42, 180, 0, 15, 77, 42, 182, 0, 83]
abbrev dktJ10_appendNull_0 : List UInt8 := dkwJ10_appendNull_0 ++ dktJ10_appendNull_1
theorem dksJ10_appendNull_0 : cJ10_appendNull.data.toList.drop 0 = dktJ10_appendNull_0 := by decide +kernel
theorem dksJ10_appendNull_1 : cJ10_appendNull.data.toList.drop 24 = dktJ10_appendNull_1 := dk_seg dksJ10_appendNull_0 24 rfl rfl
theorem dksJ10_appendNull_2 : cJ10_appendNull.data.toList.drop 48 = dktJ10_appendNull_2 := dk_seg dksJ10_appendNull_1 24 rfl rfl
theorem dksJ10_appendNull_3 : cJ10_appendNull.data.toList.drop 72 = dktJ10_appendNull_3 := dk_seg dksJ10_appendNull_2 24 rfl rfl
theorem dJ10_appendNull_0 : decode cJ10_appendNull 0 = .ok (.aload_n 0, 1) := dk_42 (dk_at dksJ10_appendNull_0 0 rfl rfl)
theorem dJ10_appendNull_1 : decode cJ10_appendNull 1 = .ok (.aload_n 0, 1) := dk_42 (dk_at dksJ10_appendNull_0 1 rfl rfl)
theorem dJ10_appendNull_2 : decode cJ10_appendNull 2 = .ok (.getfield 79, 3) := dk_180 0 79 (dk_at dksJ10_appendNull_0 2 rfl rfl)
theorem dJ10_appendNull_5 : decode cJ10_appendNull 5 = .ok (.iconst 4, 1) := dk_7 (dk_at dksJ10_appendNull_0 5 rfl rfl)
theorem dJ10_appendNull_6 : decode cJ10_appendNull 6 = .ok (.iadd, 1) := dk_96 (dk_at dksJ10_appendNull_0 6 rfl rfl)
theorem dJ10_appendNull_7 : decode cJ10_appendNull 7 = .ok (.invokevirtual 100, 3) := dk_182 0 100 (dk_at dksJ10_appendNull_0 7 rfl rfl)
theorem dJ10_appendNull_10 : decode cJ10_appendNull 10 = .ok (.aload_n 0, 1) := dk_42 (dk_at dksJ10_appendNull_0 10 rfl rfl)
theorem dJ10_appendNull_11 : decode cJ10_appendNull 11 = .ok (.getfield 79, 3) := dk_180 0 79 (dk_at dksJ10_appendNull_0 11 rfl rfl)
theorem dJ10_appendNull_14 : decode cJ10_appendNull 14 = .ok (.istore_n 1, 1) := dk_60 (dk_at dksJ10_appendNull_0 14 rfl rfl)
theorem dJ10_appendNull_15 : decode cJ10_appendNull 15 = .ok (.aload_n 0, 1) := dk_42 (dk_at dksJ10_appendNull_0 15 rfl rfl)
theorem dJ10_appendNull_16 : decode cJ10_appendNull 16 = .ok (.getfield 15, 3) := dk_180 0 15 (dk_at dksJ10_appendNull_0 16 rfl rfl)
theorem dJ10_appendNull_19 : decode cJ10_appendNull 19 = .ok (.astore_n 2, 1) := dk_77 (dk_at dksJ10_appendNull_0 19 rfl rfl)
theorem dJ10_appendNull_20 : decode cJ10_appendNull 20 = .ok (.aload_n 0, 1) := dk_42 (dk_at dksJ10_appendNull_0 20 rfl rfl)
theorem dJ10_appendNull_21 : decode cJ10_appendNull 21 = .ok (.invokevirtual 83, 3) := dk_182 0 83 (dk_at dksJ10_appendNull_0 21 rfl rfl)
theorem dJ10_appendNull_24 : decode cJ10_appendNull 24 = .ok (.ifCond .eq 38, 3) := dk_153 0 38 (dk_at dksJ10_appendNull_1 0 rfl rfl)
theorem dJ10_appendNull_27 : decode cJ10_appendNull 27 = .ok (.aload_n 2, 1) := dk_44 (dk_at dksJ10_appendNull_1 3 rfl rfl)
theorem dJ10_appendNull_28 : decode cJ10_appendNull 28 = .ok (.iload_n 1, 1) := dk_27 (dk_at dksJ10_appendNull_1 4 rfl rfl)
theorem dJ10_appendNull_29 : decode cJ10_appendNull 29 = .ok (.iinc 1 1, 3) := dk_132 1 1 (dk_at dksJ10_appendNull_1 5 rfl rfl)
theorem dJ10_appendNull_32 : decode cJ10_appendNull 32 = .ok (.bipush 110, 2) := dk_16 110 (dk_at dksJ10_appendNull_1 8 rfl rfl)
theorem dJ10_appendNull_34 : decode cJ10_appendNull 34 = .ok (.bastore, 1) := dk_84 (dk_at dksJ10_appendNull_1 10 rfl rfl)
theorem dJ10_appendNull_35 : decode cJ10_appendNull 35 = .ok (.aload_n 2, 1) := dk_44 (dk_at dksJ10_appendNull_1 11 rfl rfl)
theorem dJ10_appendNull_36 : decode cJ10_appendNull 36 = .ok (.iload_n 1, 1) := dk_27 (dk_at dksJ10_appendNull_1 12 rfl rfl)
theorem dJ10_appendNull_37 : decode cJ10_appendNull 37 = .ok (.iinc 1 1, 3) := dk_132 1 1 (dk_at dksJ10_appendNull_1 13 rfl rfl)
theorem dJ10_appendNull_40 : decode cJ10_appendNull 40 = .ok (.bipush 117, 2) := dk_16 117 (dk_at dksJ10_appendNull_1 16 rfl rfl)
theorem dJ10_appendNull_42 : decode cJ10_appendNull 42 = .ok (.bastore, 1) := dk_84 (dk_at dksJ10_appendNull_1 18 rfl rfl)
theorem dJ10_appendNull_43 : decode cJ10_appendNull 43 = .ok (.aload_n 2, 1) := dk_44 (dk_at dksJ10_appendNull_1 19 rfl rfl)
theorem dJ10_appendNull_44 : decode cJ10_appendNull 44 = .ok (.iload_n 1, 1) := dk_27 (dk_at dksJ10_appendNull_1 20 rfl rfl)
theorem dJ10_appendNull_45 : decode cJ10_appendNull 45 = .ok (.iinc 1 1, 3) := dk_132 1 1 (dk_at dksJ10_appendNull_1 21 rfl rfl)
theorem dJ10_appendNull_48 : decode cJ10_appendNull 48 = .ok (.bipush 108, 2) := dk_16 108 (dk_at dksJ10_appendNull_2 0 rfl rfl)
theorem dJ10_appendNull_50 : decode cJ10_appendNull 50 = .ok (.bastore, 1) := dk_84 (dk_at dksJ10_appendNull_2 2 rfl rfl)
theorem dJ10_appendNull_51 : decode cJ10_appendNull 51 = .ok (.aload_n 2, 1) := dk_44 (dk_at dksJ10_appendNull_2 3 rfl rfl)
theorem dJ10_appendNull_52 : decode cJ10_appendNull 52 = .ok (.iload_n 1, 1) := dk_27 (dk_at dksJ10_appendNull_2 4 rfl rfl)
theorem dJ10_appendNull_53 : decode cJ10_appendNull 53 = .ok (.iinc 1 1, 3) := dk_132 1 1 (dk_at dksJ10_appendNull_2 5 rfl rfl)
theorem dJ10_appendNull_56 : decode cJ10_appendNull 56 = .ok (.bipush 108, 2) := dk_16 108 (dk_at dksJ10_appendNull_2 8 rfl rfl)
theorem dJ10_appendNull_58 : decode cJ10_appendNull 58 = .ok (.bastore, 1) := dk_84 (dk_at dksJ10_appendNull_2 10 rfl rfl)
theorem dJ10_appendNull_59 : decode cJ10_appendNull 59 = .ok (.goto 17, 3) := dk_167 0 17 (dk_at dksJ10_appendNull_2 11 rfl rfl)
theorem dJ10_appendNull_62 : decode cJ10_appendNull 62 = .ok (.aload_n 2, 1) := dk_44 (dk_at dksJ10_appendNull_2 14 rfl rfl)
theorem dJ10_appendNull_63 : decode cJ10_appendNull 63 = .ok (.iload_n 1, 1) := dk_27 (dk_at dksJ10_appendNull_2 15 rfl rfl)
theorem dJ10_appendNull_64 : decode cJ10_appendNull 64 = .ok (.bipush 110, 2) := dk_16 110 (dk_at dksJ10_appendNull_2 16 rfl rfl)
theorem dJ10_appendNull_66 : decode cJ10_appendNull 66 = .ok (.bipush 117, 2) := dk_16 117 (dk_at dksJ10_appendNull_2 18 rfl rfl)
theorem dJ10_appendNull_68 : decode cJ10_appendNull 68 = .ok (.bipush 108, 2) := dk_16 108 (dk_at dksJ10_appendNull_2 20 rfl rfl)
theorem dJ10_appendNull_70 : decode cJ10_appendNull 70 = .ok (.bipush 108, 2) := dk_16 108 (dk_at dksJ10_appendNull_2 22 rfl rfl)
theorem dJ10_appendNull_72 : decode cJ10_appendNull 72 = .ok (.invokestatic 226, 3) := dk_184 0 226 (dk_at dksJ10_appendNull_3 0 rfl rfl)
theorem dJ10_appendNull_75 : decode cJ10_appendNull 75 = .ok (.istore_n 1, 1) := dk_60 (dk_at dksJ10_appendNull_3 3 rfl rfl)
theorem dJ10_appendNull_76 : decode cJ10_appendNull 76 = .ok (.aload_n 0, 1) := dk_42 (dk_at dksJ10_appendNull_3 4 rfl rfl)
theorem dJ10_appendNull_77 : decode cJ10_appendNull 77 = .ok (.iload_n 1, 1) := dk_27 (dk_at dksJ10_appendNull_3 5 rfl rfl)
theorem dJ10_appendNull_78 : decode cJ10_appendNull 78 = .ok (.putfield 79, 3) := dk_181 0 79 (dk_at dksJ10_appendNull_3 6 rfl rfl)
theorem dJ10_appendNull_81 : decode cJ10_appendNull 81 = .ok (.aload_n 0, 1) := dk_42 (dk_at dksJ10_appendNull_3 9 rfl rfl)
theorem dJ10_appendNull_82 : decode cJ10_appendNull 82 = .ok (.areturn, 1) := dk_176 (dk_at dksJ10_appendNull_3 10 rfl rfl)
abbrev cJ10_putStringAt : ByteArray := prog_26_method_73_code
def yJ10_putStringAt : MethodName := ⟨RJ10, "putStringAt", "(ILjava/lang/String;)V"⟩
def dkwJ10_putStringAt_0 : List UInt8 := [42, 44, 182, 1, 141, 44, 42, 180, 0, 15, 27, 42, 180, 0, 22, 182, 1, 143, 177]
abbrev dktJ10_putStringAt_0 : List UInt8 := dkwJ10_putStringAt_0 ++ []
theorem dksJ10_putStringAt_0 : cJ10_putStringAt.data.toList.drop 0 = dktJ10_putStringAt_0 := by decide +kernel
theorem dJ10_putStringAt_0 : decode cJ10_putStringAt 0 = .ok (.aload_n 0, 1) := dk_42 (dk_at dksJ10_putStringAt_0 0 rfl rfl)
theorem dJ10_putStringAt_1 : decode cJ10_putStringAt 1 = .ok (.aload_n 2, 1) := dk_44 (dk_at dksJ10_putStringAt_0 1 rfl rfl)
theorem dJ10_putStringAt_2 : decode cJ10_putStringAt 2 = .ok (.invokevirtual 397, 3) := dk_182 1 141 (dk_at dksJ10_putStringAt_0 2 rfl rfl)
theorem dJ10_putStringAt_5 : decode cJ10_putStringAt 5 = .ok (.aload_n 2, 1) := dk_44 (dk_at dksJ10_putStringAt_0 5 rfl rfl)
theorem dJ10_putStringAt_6 : decode cJ10_putStringAt 6 = .ok (.aload_n 0, 1) := dk_42 (dk_at dksJ10_putStringAt_0 6 rfl rfl)
theorem dJ10_putStringAt_7 : decode cJ10_putStringAt 7 = .ok (.getfield 15, 3) := dk_180 0 15 (dk_at dksJ10_putStringAt_0 7 rfl rfl)
theorem dJ10_putStringAt_10 : decode cJ10_putStringAt 10 = .ok (.iload_n 1, 1) := dk_27 (dk_at dksJ10_putStringAt_0 10 rfl rfl)
theorem dJ10_putStringAt_11 : decode cJ10_putStringAt 11 = .ok (.aload_n 0, 1) := dk_42 (dk_at dksJ10_putStringAt_0 11 rfl rfl)
theorem dJ10_putStringAt_12 : decode cJ10_putStringAt 12 = .ok (.getfield 22, 3) := dk_180 0 22 (dk_at dksJ10_putStringAt_0 12 rfl rfl)
theorem dJ10_putStringAt_15 : decode cJ10_putStringAt 15 = .ok (.invokevirtual 399, 3) := dk_182 1 143 (dk_at dksJ10_putStringAt_0 15 rfl rfl)
theorem dJ10_putStringAt_18 : decode cJ10_putStringAt 18 = .ok (.return_, 1) := dk_177 (dk_at dksJ10_putStringAt_0 18 rfl rfl)
abbrev cJ10_inflateIfNeededFor : ByteArray := prog_26_method_71_code
def yJ10_inflateIfNeededFor : MethodName := ⟨RJ10, "inflateIfNeededFor", "(Ljava/lang/String;)V"⟩
def dkwJ10_inflateIfNeededFor_0 : List UInt8 := [178, 0, 18, 153, 0, 18, 42, 180, 0, 22, 43, 182, 0, 40, 159, 0, 7, 42, 182, 0, 195, 177]
abbrev dktJ10_inflateIfNeededFor_0 : List UInt8 := dkwJ10_inflateIfNeededFor_0 ++ []
theorem dksJ10_inflateIfNeededFor_0 : cJ10_inflateIfNeededFor.data.toList.drop 0 = dktJ10_inflateIfNeededFor_0 := by decide +kernel
theorem dJ10_inflateIfNeededFor_0 : decode cJ10_inflateIfNeededFor 0 = .ok (.getstatic 18, 3) := dk_178 0 18 (dk_at dksJ10_inflateIfNeededFor_0 0 rfl rfl)
theorem dJ10_inflateIfNeededFor_3 : decode cJ10_inflateIfNeededFor 3 = .ok (.ifCond .eq 18, 3) := dk_153 0 18 (dk_at dksJ10_inflateIfNeededFor_0 3 rfl rfl)
theorem dJ10_inflateIfNeededFor_6 : decode cJ10_inflateIfNeededFor 6 = .ok (.aload_n 0, 1) := dk_42 (dk_at dksJ10_inflateIfNeededFor_0 6 rfl rfl)
theorem dJ10_inflateIfNeededFor_7 : decode cJ10_inflateIfNeededFor 7 = .ok (.getfield 22, 3) := dk_180 0 22 (dk_at dksJ10_inflateIfNeededFor_0 7 rfl rfl)
theorem dJ10_inflateIfNeededFor_10 : decode cJ10_inflateIfNeededFor 10 = .ok (.aload_n 1, 1) := dk_43 (dk_at dksJ10_inflateIfNeededFor_0 10 rfl rfl)
theorem dJ10_inflateIfNeededFor_11 : decode cJ10_inflateIfNeededFor 11 = .ok (.invokevirtual 40, 3) := dk_182 0 40 (dk_at dksJ10_inflateIfNeededFor_0 11 rfl rfl)
theorem dJ10_inflateIfNeededFor_14 : decode cJ10_inflateIfNeededFor 14 = .ok (.if_icmp .eq 7, 3) := dk_159 0 7 (dk_at dksJ10_inflateIfNeededFor_0 14 rfl rfl)
theorem dJ10_inflateIfNeededFor_17 : decode cJ10_inflateIfNeededFor 17 = .ok (.aload_n 0, 1) := dk_42 (dk_at dksJ10_inflateIfNeededFor_0 17 rfl rfl)
theorem dJ10_inflateIfNeededFor_18 : decode cJ10_inflateIfNeededFor 18 = .ok (.invokevirtual 195, 3) := dk_182 0 195 (dk_at dksJ10_inflateIfNeededFor_0 18 rfl rfl)
theorem dJ10_inflateIfNeededFor_21 : decode cJ10_inflateIfNeededFor 21 = .ok (.return_, 1) := dk_177 (dk_at dksJ10_inflateIfNeededFor_0 21 rfl rfl)
theorem q117 : (Jvm.Cond.initialized "java/lang/AbstractStringBuilder") ∈ lw_all := lw_g (lw_at lw_m1 16 rfl) rfl
theorem q475 : (Jvm.Cond.instanceMethod ({ cls := "java/lang/AbstractStringBuilder", name := "<init>", desc := "(I)V" } : Jvm.MethodName)) ∈ lw_all := lw_g (lw_at lw_m2 134 rfl) rfl
theorem q476 : (Jvm.Cond.code ({ cls := "java/lang/AbstractStringBuilder", name := "<init>", desc := "(I)V" } : Jvm.MethodName) prog_26_method_2_code (2 : Nat) (Option.none : Option Jvm.ClassFile.FieldType)) ∈ lw_all := lw_g (lw_at lw_m2 135 rfl) rfl
theorem q477 : (Jvm.Cond.methodLink "java/lang/AbstractStringBuilder" (3 : Nat) ({ cls := "java/lang/Object", name := "<init>", desc := "()V" } : Jvm.MethodName)) ∈ lw_all := lw_g (lw_at lw_m2 136 rfl) rfl
theorem q478 : (Jvm.Cond.fieldLink "java/lang/AbstractStringBuilder" (18 : Nat) "java/lang/String" "COMPACT_STRINGS" "Z") ∈ lw_all := lw_g (lw_at lw_m2 137 rfl) rfl
theorem q480 : (Jvm.Cond.methodLink "java/lang/AbstractStringBuilder" (26 : Nat) ({ cls := "java/lang/StringUTF16", name := "newBytesFor", desc := "(I)[B" } : Jvm.MethodName)) ∈ lw_all := lw_g (lw_at lw_m2 139 rfl) rfl
theorem q487 : (Jvm.Cond.fieldLink "java/lang/AbstractStringBuilder" (15 : Nat) "java/lang/AbstractStringBuilder" "value" "[B") ∈ lw_all := lw_g (lw_at lw_m2 146 rfl) rfl
theorem q488 : (Jvm.Cond.fieldLink "java/lang/AbstractStringBuilder" (22 : Nat) "java/lang/AbstractStringBuilder" "coder" "B") ∈ lw_all := lw_g (lw_at lw_m2 147 rfl) rfl
theorem q490 : (Jvm.Cond.fieldLink "java/lang/AbstractStringBuilder" (79 : Nat) "java/lang/AbstractStringBuilder" "count" "I") ∈ lw_all := lw_g (lw_at lw_m2 149 rfl) rfl
theorem q492 : (Jvm.Cond.soleField "java/lang/AbstractStringBuilder" "value") ∈ lw_all := lw_g (lw_at lw_m2 151 rfl) rfl
theorem q494 : (Jvm.Cond.soleField "java/lang/AbstractStringBuilder" "coder") ∈ lw_all := lw_g (lw_at lw_m2 153 rfl) rfl
theorem q496 : (Jvm.Cond.soleField "java/lang/AbstractStringBuilder" "maybeLatin1") ∈ lw_all := lw_g (lw_at lw_m2 155 rfl) rfl
theorem q498 : (Jvm.Cond.soleField "java/lang/AbstractStringBuilder" "count") ∈ lw_all := lw_g (lw_at lw_m2 157 rfl) rfl
theorem q507 : (Jvm.Cond.instanceMethod ({ cls := "java/lang/AbstractStringBuilder", name := "length", desc := "()I" } : Jvm.MethodName)) ∈ lw_all := lw_g (lw_at lw_m2 166 rfl) rfl
theorem q508 : (Jvm.Cond.code ({ cls := "java/lang/AbstractStringBuilder", name := "length", desc := "()I" } : Jvm.MethodName) prog_26_method_6_code (1 : Nat) (Option.some Jvm.ClassFile.FieldType.int)) ∈ lw_all := lw_g (lw_at lw_m2 167 rfl) rfl
theorem q514 : (Jvm.Cond.instanceMethod ({ cls := "java/lang/AbstractStringBuilder", name := "append", desc := "(C)Ljava/lang/AbstractStringBuilder;" } : Jvm.MethodName)) ∈ lw_all := lw_g (lw_at lw_m2 173 rfl) rfl
theorem q515 : (Jvm.Cond.code ({ cls := "java/lang/AbstractStringBuilder", name := "append", desc := "(C)Ljava/lang/AbstractStringBuilder;" } : Jvm.MethodName) prog_26_method_31_code (2 : Nat) (Option.some (Jvm.ClassFile.FieldType.object "java/lang/AbstractStringBuilder"))) ∈ lw_all := lw_g (lw_at lw_m2 174 rfl) rfl
theorem q516 : (Jvm.Cond.methodLink "java/lang/AbstractStringBuilder" (100 : Nat) ({ cls := "java/lang/AbstractStringBuilder", name := "ensureCapacityInternal", desc := "(I)V" } : Jvm.MethodName)) ∈ lw_all := lw_g (lw_at lw_m2 175 rfl) rfl
theorem q517 : (Jvm.Cond.privateMethod ({ cls := "java/lang/AbstractStringBuilder", name := "ensureCapacityInternal", desc := "(I)V" } : Jvm.MethodName)) ∈ lw_tbl := lw_at lw_m2 176 rfl
theorem q518 : (Jvm.Cond.instanceMethod ({ cls := "java/lang/AbstractStringBuilder", name := "ensureCapacityInternal", desc := "(I)V" } : Jvm.MethodName)) ∈ lw_all := lw_g (lw_at lw_m2 177 rfl) rfl
theorem q519 : (Jvm.Cond.code ({ cls := "java/lang/AbstractStringBuilder", name := "ensureCapacityInternal", desc := "(I)V" } : Jvm.MethodName) prog_26_method_9_code (3 : Nat) (Option.none : Option Jvm.ClassFile.FieldType)) ∈ lw_all := lw_g (lw_at lw_m2 178 rfl) rfl
theorem q520 : (Jvm.Cond.methodLink "java/lang/AbstractStringBuilder" (104 : Nat) ({ cls := "java/lang/AbstractStringBuilder", name := "newCapacity", desc := "(I)I" } : Jvm.MethodName)) ∈ lw_all := lw_g (lw_at lw_m2 179 rfl) rfl
theorem q521 : (Jvm.Cond.privateMethod ({ cls := "java/lang/AbstractStringBuilder", name := "newCapacity", desc := "(I)I" } : Jvm.MethodName)) ∈ lw_tbl := lw_at lw_m2 180 rfl
theorem q522 : (Jvm.Cond.instanceMethod ({ cls := "java/lang/AbstractStringBuilder", name := "newCapacity", desc := "(I)I" } : Jvm.MethodName)) ∈ lw_all := lw_g (lw_at lw_m2 181 rfl) rfl
theorem q523 : (Jvm.Cond.code ({ cls := "java/lang/AbstractStringBuilder", name := "newCapacity", desc := "(I)I" } : Jvm.MethodName) prog_26_method_10_code (6 : Nat) (Option.some Jvm.ClassFile.FieldType.int)) ∈ lw_all := lw_g (lw_at lw_m2 182 rfl) rfl
theorem q524 : (Jvm.Cond.methodLink "java/lang/AbstractStringBuilder" (114 : Nat) ({ cls := "jdk/internal/util/ArraysSupport", name := "newLength", desc := "(III)I" } : Jvm.MethodName)) ∈ lw_all := lw_g (lw_at lw_m2 183 rfl) rfl
theorem q534 : (Jvm.Cond.constant "java/lang/AbstractStringBuilder" (39 : Nat) (2147483647 : Int32)) ∈ lw_all := lw_g (lw_at lw_m2 193 rfl) rfl
theorem q535 : (Jvm.Cond.methodLink "java/lang/AbstractStringBuilder" (108 : Nat) ({ cls := "java/util/Arrays", name := "copyOf", desc := "([BI)[B" } : Jvm.MethodName)) ∈ lw_all := lw_g (lw_at lw_m2 194 rfl) rfl
theorem q549 : (Jvm.Cond.methodLink "java/lang/AbstractStringBuilder" (83 : Nat) ({ cls := "java/lang/AbstractStringBuilder", name := "isLatin1", desc := "()Z" } : Jvm.MethodName)) ∈ lw_all := lw_g (lw_at lw_m2 208 rfl) rfl
theorem q550 : (Jvm.Cond.instanceMethod ({ cls := "java/lang/AbstractStringBuilder", name := "isLatin1", desc := "()Z" } : Jvm.MethodName)) ∈ lw_all := lw_g (lw_at lw_m2 209 rfl) rfl
theorem q551 : (Jvm.Cond.sameMethod "java/lang/AbstractStringBuilder" "java/lang/AbstractStringBuilder" "isLatin1" "()Z") ∈ lw_all := lw_g (lw_at lw_m2 210 rfl) rfl
theorem q553 : (Jvm.Cond.code ({ cls := "java/lang/AbstractStringBuilder", name := "isLatin1", desc := "()Z" } : Jvm.MethodName) prog_26_method_68_code (1 : Nat) (Option.some Jvm.ClassFile.FieldType.boolean)) ∈ lw_all := lw_g (lw_at lw_m2 212 rfl) rfl
theorem q554 : (Jvm.Cond.methodLink "java/lang/AbstractStringBuilder" (191 : Nat) ({ cls := "java/lang/StringLatin1", name := "canEncode", desc := "(C)Z" } : Jvm.MethodName)) ∈ lw_all := lw_g (lw_at lw_m2 213 rfl) rfl
theorem q557 : (Jvm.Cond.methodLink "java/lang/AbstractStringBuilder" (195 : Nat) ({ cls := "java/lang/AbstractStringBuilder", name := "inflate", desc := "()V" } : Jvm.MethodName)) ∈ lw_all := lw_g (lw_at lw_m2 216 rfl) rfl
theorem q558 : (Jvm.Cond.privateMethod ({ cls := "java/lang/AbstractStringBuilder", name := "inflate", desc := "()V" } : Jvm.MethodName)) ∈ lw_tbl := lw_at lw_m2 217 rfl
theorem q559 : (Jvm.Cond.instanceMethod ({ cls := "java/lang/AbstractStringBuilder", name := "inflate", desc := "()V" } : Jvm.MethodName)) ∈ lw_all := lw_g (lw_at lw_m2 218 rfl) rfl
theorem q560 : (Jvm.Cond.code ({ cls := "java/lang/AbstractStringBuilder", name := "inflate", desc := "()V" } : Jvm.MethodName) prog_26_method_11_code (2 : Nat) (Option.none : Option Jvm.ClassFile.FieldType)) ∈ lw_all := lw_g (lw_at lw_m2 219 rfl) rfl
theorem q561 : (Jvm.Cond.methodLink "java/lang/AbstractStringBuilder" (125 : Nat) ({ cls := "java/lang/StringLatin1", name := "inflate", desc := "([BI[BII)V" } : Jvm.MethodName)) ∈ lw_all := lw_g (lw_at lw_m2 220 rfl) rfl
theorem q590 : (Jvm.Cond.methodLink "java/lang/AbstractStringBuilder" (197 : Nat) ({ cls := "java/lang/StringUTF16", name := "putCharSB", desc := "([BII)V" } : Jvm.MethodName)) ∈ lw_all := lw_g (lw_at lw_m3 9 rfl) rfl
theorem q615 : (Jvm.Cond.instanceMethod ({ cls := "java/lang/AbstractStringBuilder", name := "getValue", desc := "()[B" } : Jvm.MethodName)) ∈ lw_all := lw_g (lw_at lw_m3 34 rfl) rfl
theorem q616 : (Jvm.Cond.sameMethod "java/lang/AbstractStringBuilder" "java/lang/AbstractStringBuilder" "getValue" "()[B") ∈ lw_all := lw_g (lw_at lw_m3 35 rfl) rfl
theorem q618 : (Jvm.Cond.code ({ cls := "java/lang/AbstractStringBuilder", name := "getValue", desc := "()[B" } : Jvm.MethodName) prog_26_method_64_code (1 : Nat) (Option.some (Jvm.ClassFile.FieldType.array Jvm.ClassFile.FieldType.byte))) ∈ lw_all := lw_g (lw_at lw_m3 37 rfl) rfl
theorem q1272 : (Jvm.Cond.instanceMethod ({ cls := "java/lang/AbstractStringBuilder", name := "compareTo", desc := "(Ljava/lang/AbstractStringBuilder;)I" } : Jvm.MethodName)) ∈ lw_all := lw_g (lw_at lw_m5 211 rfl) rfl
theorem q1273 : (Jvm.Cond.code ({ cls := "java/lang/AbstractStringBuilder", name := "compareTo", desc := "(Ljava/lang/AbstractStringBuilder;)I" } : Jvm.MethodName) prog_26_method_5_code (6 : Nat) (Option.some Jvm.ClassFile.FieldType.int)) ∈ lw_all := lw_g (lw_at lw_m5 212 rfl) rfl
theorem q1274 : (Jvm.Cond.methodLink "java/lang/AbstractStringBuilder" (87 : Nat) ({ cls := "java/lang/StringLatin1", name := "compareTo", desc := "([B[BII)I" } : Jvm.MethodName)) ∈ lw_all := lw_g (lw_at lw_m5 213 rfl) rfl
theorem q1275 : (Jvm.Cond.methodLink "java/lang/AbstractStringBuilder" (93 : Nat) ({ cls := "java/lang/StringUTF16", name := "compareTo", desc := "([B[BII)I" } : Jvm.MethodName)) ∈ lw_all := lw_g (lw_at lw_m5 214 rfl) rfl
theorem q1287 : (Jvm.Cond.methodLink "java/lang/AbstractStringBuilder" (94 : Nat) ({ cls := "java/lang/StringLatin1", name := "compareToUTF16", desc := "([B[BII)I" } : Jvm.MethodName)) ∈ lw_all := lw_g (lw_at lw_m5 226 rfl) rfl
theorem q1291 : (Jvm.Cond.methodLink "java/lang/AbstractStringBuilder" (97 : Nat) ({ cls := "java/lang/StringUTF16", name := "compareToLatin1", desc := "([B[BII)I" } : Jvm.MethodName)) ∈ lw_all := lw_g (lw_at lw_m5 230 rfl) rfl
theorem q1793 : (Jvm.Cond.instanceMethod ({ cls := "java/lang/AbstractStringBuilder", name := "append", desc := "(I)Ljava/lang/AbstractStringBuilder;" } : Jvm.MethodName)) ∈ lw_all := lw_g (lw_at lw_m8 12 rfl) rfl
theorem q1794 : (Jvm.Cond.code ({ cls := "java/lang/AbstractStringBuilder", name := "append", desc := "(I)Ljava/lang/AbstractStringBuilder;" } : Jvm.MethodName) prog_26_method_32_code (4 : Nat) (Option.some (Jvm.ClassFile.FieldType.object "java/lang/AbstractStringBuilder"))) ∈ lw_all := lw_g (lw_at lw_m8 13 rfl) rfl
theorem q1795 : (Jvm.Cond.methodLink "java/lang/AbstractStringBuilder" (245 : Nat) ({ cls := "java/lang/Integer", name := "stringSize", desc := "(I)I" } : Jvm.MethodName)) ∈ lw_all := lw_g (lw_at lw_m8 14 rfl) rfl
theorem q1798 : (Jvm.Cond.methodLink "java/lang/AbstractStringBuilder" (248 : Nat) ({ cls := "java/lang/Integer", name := "getChars", desc := "(II[B)I" } : Jvm.MethodName)) ∈ lw_all := lw_g (lw_at lw_m8 17 rfl) rfl
theorem q1805 : (Jvm.Cond.methodLink "java/lang/AbstractStringBuilder" (251 : Nat) ({ cls := "java/lang/StringUTF16", name := "getChars", desc := "(III[B)I" } : Jvm.MethodName)) ∈ lw_all := lw_g (lw_at lw_m8 24 rfl) rfl
theorem q1824 : (Jvm.Cond.instanceMethod ({ cls := "java/lang/AbstractStringBuilder", name := "append", desc := "(Ljava/lang/String;)Ljava/lang/AbstractStringBuilder;" } : Jvm.MethodName)) ∈ lw_all := lw_g (lw_at lw_m8 43 rfl) rfl
theorem q1825 : (Jvm.Cond.code ({ cls := "java/lang/AbstractStringBuilder", name := "append", desc := "(Ljava/lang/String;)Ljava/lang/AbstractStringBuilder;" } : Jvm.MethodName) prog_26_method_22_code (3 : Nat) (Option.some (Jvm.ClassFile.FieldType.object "java/lang/AbstractStringBuilder"))) ∈ lw_all := lw_g (lw_at lw_m8 44 rfl) rfl
theorem q1826 : (Jvm.Cond.methodLink "java/lang/AbstractStringBuilder" (204 : Nat) ({ cls := "java/lang/AbstractStringBuilder", name := "appendNull", desc := "()Ljava/lang/AbstractStringBuilder;" } : Jvm.MethodName)) ∈ lw_all := lw_g (lw_at lw_m8 45 rfl) rfl
theorem q1827 : (Jvm.Cond.privateMethod ({ cls := "java/lang/AbstractStringBuilder", name := "appendNull", desc := "()Ljava/lang/AbstractStringBuilder;" } : Jvm.MethodName)) ∈ lw_tbl := lw_at lw_m8 46 rfl
theorem q1828 : (Jvm.Cond.instanceMethod ({ cls := "java/lang/AbstractStringBuilder", name := "appendNull", desc := "()Ljava/lang/AbstractStringBuilder;" } : Jvm.MethodName)) ∈ lw_all := lw_g (lw_at lw_m8 47 rfl) rfl
theorem q1829 : (Jvm.Cond.code ({ cls := "java/lang/AbstractStringBuilder", name := "appendNull", desc := "()Ljava/lang/AbstractStringBuilder;" } : Jvm.MethodName) prog_26_method_26_code (3 : Nat) (Option.some (Jvm.ClassFile.FieldType.object "java/lang/AbstractStringBuilder"))) ∈ lw_all := lw_g (lw_at lw_m8 48 rfl) rfl
theorem q1830 : (Jvm.Cond.methodLink "java/lang/AbstractStringBuilder" (226 : Nat) ({ cls := "java/lang/StringUTF16", name := "putCharsAt", desc := "([BICCCC)I" } : Jvm.MethodName)) ∈ lw_all := lw_g (lw_at lw_m8 49 rfl) rfl
theorem q1833 : (Jvm.Cond.methodLink "java/lang/AbstractStringBuilder" (32 : Nat) ({ cls := "java/lang/String", name := "length", desc := "()I" } : Jvm.MethodName)) ∈ lw_all := lw_g (lw_at lw_m8 52 rfl) rfl
theorem q1834 : (Jvm.Cond.methodLink "java/lang/AbstractStringBuilder" (208 : Nat) ({ cls := "java/lang/AbstractStringBuilder", name := "putStringAt", desc := "(ILjava/lang/String;)V" } : Jvm.MethodName)) ∈ lw_all := lw_g (lw_at lw_m8 53 rfl) rfl
theorem q1835 : (Jvm.Cond.privateMethod ({ cls := "java/lang/AbstractStringBuilder", name := "putStringAt", desc := "(ILjava/lang/String;)V" } : Jvm.MethodName)) ∈ lw_tbl := lw_at lw_m8 54 rfl
theorem q1836 : (Jvm.Cond.instanceMethod ({ cls := "java/lang/AbstractStringBuilder", name := "putStringAt", desc := "(ILjava/lang/String;)V" } : Jvm.MethodName)) ∈ lw_all := lw_g (lw_at lw_m8 55 rfl) rfl
theorem q1837 : (Jvm.Cond.code ({ cls := "java/lang/AbstractStringBuilder", name := "putStringAt", desc := "(ILjava/lang/String;)V" } : Jvm.MethodName) prog_26_method_73_code (3 : Nat) (Option.none : Option Jvm.ClassFile.FieldType)) ∈ lw_all := lw_g (lw_at lw_m8 56 rfl) rfl
theorem q1838 : (Jvm.Cond.methodLink "java/lang/AbstractStringBuilder" (397 : Nat) ({ cls := "java/lang/AbstractStringBuilder", name := "inflateIfNeededFor", desc := "(Ljava/lang/String;)V" } : Jvm.MethodName)) ∈ lw_all := lw_g (lw_at lw_m8 57 rfl) rfl
theorem q1839 : (Jvm.Cond.privateMethod ({ cls := "java/lang/AbstractStringBuilder", name := "inflateIfNeededFor", desc := "(Ljava/lang/String;)V" } : Jvm.MethodName)) ∈ lw_tbl := lw_at lw_m8 58 rfl
theorem q1840 : (Jvm.Cond.instanceMethod ({ cls := "java/lang/AbstractStringBuilder", name := "inflateIfNeededFor", desc := "(Ljava/lang/String;)V" } : Jvm.MethodName)) ∈ lw_all := lw_g (lw_at lw_m8 59 rfl) rfl
theorem q1841 : (Jvm.Cond.code ({ cls := "java/lang/AbstractStringBuilder", name := "inflateIfNeededFor", desc := "(Ljava/lang/String;)V" } : Jvm.MethodName) prog_26_method_71_code (2 : Nat) (Option.none : Option Jvm.ClassFile.FieldType)) ∈ lw_all := lw_g (lw_at lw_m8 60 rfl) rfl
theorem q1842 : (Jvm.Cond.methodLink "java/lang/AbstractStringBuilder" (40 : Nat) ({ cls := "java/lang/String", name := "coder", desc := "()B" } : Jvm.MethodName)) ∈ lw_all := lw_g (lw_at lw_m8 61 rfl) rfl
theorem q1843 : (Jvm.Cond.methodLink "java/lang/AbstractStringBuilder" (399 : Nat) ({ cls := "java/lang/String", name := "getBytes", desc := "([BIB)V" } : Jvm.MethodName)) ∈ lw_all := lw_g (lw_at lw_m8 62 rfl) rfl
theorem q2534 : (Jvm.Cond.sameMethod "java/lang/AbstractStringBuilder" "java/lang/AbstractStringBuilder" "length" "()I") ∈ lw_all := lw_g (lw_at lw_m11 33 rfl) rfl
theorem q2535 : (Jvm.Cond.sameMethod "java/lang/AbstractStringBuilder" "java/lang/AbstractStringBuilder" "append" "(C)Ljava/lang/AbstractStringBuilder;") ∈ lw_all := lw_g (lw_at lw_m11 34 rfl) rfl
theorem q2536 : (Jvm.Cond.sameMethod "java/lang/AbstractStringBuilder" "java/lang/AbstractStringBuilder" "ensureCapacityInternal" "(I)V") ∈ lw_all := lw_g (lw_at lw_m11 35 rfl) rfl
theorem q2537 : (Jvm.Cond.sameMethod "java/lang/AbstractStringBuilder" "java/lang/AbstractStringBuilder" "newCapacity" "(I)I") ∈ lw_all := lw_g (lw_at lw_m11 36 rfl) rfl
theorem q2538 : (Jvm.Cond.sameMethod "java/lang/AbstractStringBuilder" "java/lang/AbstractStringBuilder" "inflate" "()V") ∈ lw_all := lw_g (lw_at lw_m11 37 rfl) rfl
theorem q2540 : (Jvm.Cond.sameMethod "java/lang/AbstractStringBuilder" "java/lang/AbstractStringBuilder" "compareTo" "(Ljava/lang/AbstractStringBuilder;)I") ∈ lw_all := lw_g (lw_at lw_m11 39 rfl) rfl
theorem q2541 : (Jvm.Cond.sameMethod "java/lang/AbstractStringBuilder" "java/lang/AbstractStringBuilder" "append" "(I)Ljava/lang/AbstractStringBuilder;") ∈ lw_all := lw_g (lw_at lw_m11 40 rfl) rfl
theorem q2542 : (Jvm.Cond.sameMethod "java/lang/AbstractStringBuilder" "java/lang/AbstractStringBuilder" "append" "(Ljava/lang/String;)Ljava/lang/AbstractStringBuilder;") ∈ lw_all := lw_g (lw_at lw_m11 41 rfl) rfl
theorem q2543 : (Jvm.Cond.sameMethod "java/lang/AbstractStringBuilder" "java/lang/AbstractStringBuilder" "appendNull" "()Ljava/lang/AbstractStringBuilder;") ∈ lw_all := lw_g (lw_at lw_m11 42 rfl) rfl
theorem q2544 : (Jvm.Cond.sameMethod "java/lang/AbstractStringBuilder" "java/lang/AbstractStringBuilder" "putStringAt" "(ILjava/lang/String;)V") ∈ lw_all := lw_g (lw_at lw_m11 43 rfl) rfl
theorem q2545 : (Jvm.Cond.sameMethod "java/lang/AbstractStringBuilder" "java/lang/AbstractStringBuilder" "inflateIfNeededFor" "(Ljava/lang/String;)V") ∈ lw_all := lw_g (lw_at lw_m11 44 rfl) rfl

/-! java/lang/StringBuilder -/
set_option maxRecDepth 100000
abbrev cJ11_init : ByteArray := prog_44_method_1_code
def yJ11_init : MethodName := ⟨RJ11, "<init>", "()V"⟩
def dkwJ11_init_0 : List UInt8 := [42, 16, 16, 183, 0, 1, 177]
abbrev dktJ11_init_0 : List UInt8 := dkwJ11_init_0 ++ []
theorem dksJ11_init_0 : cJ11_init.data.toList.drop 0 = dktJ11_init_0 := by decide +kernel
theorem dJ11_init_0 : decode cJ11_init 0 = .ok (.aload_n 0, 1) := dk_42 (dk_at dksJ11_init_0 0 rfl rfl)
theorem dJ11_init_1 : decode cJ11_init 1 = .ok (.bipush 16, 2) := dk_16 16 (dk_at dksJ11_init_0 1 rfl rfl)
theorem dJ11_init_3 : decode cJ11_init 3 = .ok (.invokespecial 1, 3) := dk_183 0 1 (dk_at dksJ11_init_0 3 rfl rfl)
theorem dJ11_init_6 : decode cJ11_init 6 = .ok (.return_, 1) := dk_177 (dk_at dksJ11_init_0 6 rfl rfl)
abbrev cJ11_length : ByteArray := prog_44_method_93_code
def yJ11_length : MethodName := ⟨RJ11, "length", "()I"⟩
theorem dJ11_length_0 : decode cJ11_length 0 = .ok (.aload_n 0, 1) := by decide +kernel
theorem dJ11_length_1 : decode cJ11_length 1 = .ok (.invokespecial 343, 3) := by decide +kernel
theorem dJ11_length_4 : decode cJ11_length 4 = .ok (.ireturn, 1) := by decide +kernel
abbrev cJ11_append : ByteArray := prog_44_method_14_code
def yJ11_append : MethodName := ⟨RJ11, "append", "(C)Ljava/lang/StringBuilder;"⟩
def dkwJ11_append_0 : List UInt8 := [42, 27, 183, 0, 50, 87, 42, 176]
abbrev dktJ11_append_0 : List UInt8 := dkwJ11_append_0 ++ []
theorem dksJ11_append_0 : cJ11_append.data.toList.drop 0 = dktJ11_append_0 := by decide +kernel
theorem dJ11_append_0 : decode cJ11_append 0 = .ok (.aload_n 0, 1) := dk_42 (dk_at dksJ11_append_0 0 rfl rfl)
theorem dJ11_append_1 : decode cJ11_append 1 = .ok (.iload_n 1, 1) := dk_27 (dk_at dksJ11_append_0 1 rfl rfl)
theorem dJ11_append_2 : decode cJ11_append 2 = .ok (.invokespecial 50, 3) := dk_183 0 50 (dk_at dksJ11_append_0 2 rfl rfl)
theorem dJ11_append_5 : decode cJ11_append 5 = .ok (.pop, 1) := dk_87 (dk_at dksJ11_append_0 5 rfl rfl)
theorem dJ11_append_6 : decode cJ11_append 6 = .ok (.aload_n 0, 1) := dk_42 (dk_at dksJ11_append_0 6 rfl rfl)
theorem dJ11_append_7 : decode cJ11_append 7 = .ok (.areturn, 1) := dk_176 (dk_at dksJ11_append_0 7 rfl rfl)
abbrev cJ11_toString : ByteArray := prog_44_method_42_code
def yJ11_toString : MethodName := ⟨RJ11, "toString", "()Ljava/lang/String;"⟩
def dkwJ11_toString_0 : List UInt8 := [187, 0, 18, 89, 42, 183, 0, 137, 176]
abbrev dktJ11_toString_0 : List UInt8 := dkwJ11_toString_0 ++ []
theorem dksJ11_toString_0 : cJ11_toString.data.toList.drop 0 = dktJ11_toString_0 := by decide +kernel
theorem dJ11_toString_0 : decode cJ11_toString 0 = .ok (.new 18, 3) := dk_187 0 18 (dk_at dksJ11_toString_0 0 rfl rfl)
theorem dJ11_toString_3 : decode cJ11_toString 3 = .ok (.dup, 1) := dk_89 (dk_at dksJ11_toString_0 3 rfl rfl)
theorem dJ11_toString_4 : decode cJ11_toString 4 = .ok (.aload_n 0, 1) := dk_42 (dk_at dksJ11_toString_0 4 rfl rfl)
theorem dJ11_toString_5 : decode cJ11_toString 5 = .ok (.invokespecial 137, 3) := dk_183 0 137 (dk_at dksJ11_toString_0 5 rfl rfl)
theorem dJ11_toString_8 : decode cJ11_toString 8 = .ok (.areturn, 1) := dk_176 (dk_at dksJ11_toString_0 8 rfl rfl)
abbrev cJ11_compareTo : ByteArray := prog_44_method_97_code
def yJ11_compareTo : MethodName := ⟨RJ11, "compareTo", "(Ljava/lang/Object;)I"⟩
def dkwJ11_compareTo_0 : List UInt8 := [42, 43, 192, 0, 24, 182, 1, 90, 172]
abbrev dktJ11_compareTo_0 : List UInt8 := dkwJ11_compareTo_0 ++ []
theorem dksJ11_compareTo_0 : cJ11_compareTo.data.toList.drop 0 = dktJ11_compareTo_0 := by decide +kernel
theorem dJ11_compareTo_0 : decode cJ11_compareTo 0 = .ok (.aload_n 0, 1) := dk_42 (dk_at dksJ11_compareTo_0 0 rfl rfl)
theorem dJ11_compareTo_1 : decode cJ11_compareTo 1 = .ok (.aload_n 1, 1) := dk_43 (dk_at dksJ11_compareTo_0 1 rfl rfl)
theorem dJ11_compareTo_2 : decode cJ11_compareTo 2 = .ok (.checkcast 24, 3) := dk_192 0 24 (dk_at dksJ11_compareTo_0 2 rfl rfl)
theorem dJ11_compareTo_5 : decode cJ11_compareTo 5 = .ok (.invokevirtual 346, 3) := dk_182 1 90 (dk_at dksJ11_compareTo_0 5 rfl rfl)
theorem dJ11_compareTo_8 : decode cJ11_compareTo 8 = .ok (.ireturn, 1) := dk_172 (dk_at dksJ11_compareTo_0 8 rfl rfl)
abbrev cJ11_compareTo_2 : ByteArray := prog_44_method_5_code
def yJ11_compareTo_2 : MethodName := ⟨RJ11, "compareTo", "(Ljava/lang/StringBuilder;)I"⟩
def dkwJ11_compareTo_2_0 : List UInt8 := [42, 43, 183, 0, 13, 172]
abbrev dktJ11_compareTo_2_0 : List UInt8 := dkwJ11_compareTo_2_0 ++ []
theorem dksJ11_compareTo_2_0 : cJ11_compareTo_2.data.toList.drop 0 = dktJ11_compareTo_2_0 := by decide +kernel
theorem dJ11_compareTo_2_0 : decode cJ11_compareTo_2 0 = .ok (.aload_n 0, 1) := dk_42 (dk_at dksJ11_compareTo_2_0 0 rfl rfl)
theorem dJ11_compareTo_2_1 : decode cJ11_compareTo_2 1 = .ok (.aload_n 1, 1) := dk_43 (dk_at dksJ11_compareTo_2_0 1 rfl rfl)
theorem dJ11_compareTo_2_2 : decode cJ11_compareTo_2 2 = .ok (.invokespecial 13, 3) := dk_183 0 13 (dk_at dksJ11_compareTo_2_0 2 rfl rfl)
theorem dJ11_compareTo_2_5 : decode cJ11_compareTo_2 5 = .ok (.ireturn, 1) := dk_172 (dk_at dksJ11_compareTo_2_0 5 rfl rfl)
abbrev cJ11_append_2 : ByteArray := prog_44_method_15_code
def yJ11_append_2 : MethodName := ⟨RJ11, "append", "(I)Ljava/lang/StringBuilder;"⟩
def dkwJ11_append_2_0 : List UInt8 := [42, 27, 183, 0, 53, 87, 42, 176]
abbrev dktJ11_append_2_0 : List UInt8 := dkwJ11_append_2_0 ++ []
theorem dksJ11_append_2_0 : cJ11_append_2.data.toList.drop 0 = dktJ11_append_2_0 := by decide +kernel
theorem dJ11_append_2_0 : decode cJ11_append_2 0 = .ok (.aload_n 0, 1) := dk_42 (dk_at dksJ11_append_2_0 0 rfl rfl)
theorem dJ11_append_2_1 : decode cJ11_append_2 1 = .ok (.iload_n 1, 1) := dk_27 (dk_at dksJ11_append_2_0 1 rfl rfl)
theorem dJ11_append_2_2 : decode cJ11_append_2 2 = .ok (.invokespecial 53, 3) := dk_183 0 53 (dk_at dksJ11_append_2_0 2 rfl rfl)
theorem dJ11_append_2_5 : decode cJ11_append_2 5 = .ok (.pop, 1) := dk_87 (dk_at dksJ11_append_2_0 5 rfl rfl)
theorem dJ11_append_2_6 : decode cJ11_append_2 6 = .ok (.aload_n 0, 1) := dk_42 (dk_at dksJ11_append_2_0 6 rfl rfl)
theorem dJ11_append_2_7 : decode cJ11_append_2 7 = .ok (.areturn, 1) := dk_176 (dk_at dksJ11_append_2_0 7 rfl rfl)
abbrev cJ11_append_3 : ByteArray := prog_44_method_7_code
def yJ11_append_3 : MethodName := ⟨RJ11, "append", "(Ljava/lang/String;)Ljava/lang/StringBuilder;"⟩
def dkwJ11_append_3_0 : List UInt8 := [42, 43, 183, 0, 29, 87, 42, 176]
abbrev dktJ11_append_3_0 : List UInt8 := dkwJ11_append_3_0 ++ []
theorem dksJ11_append_3_0 : cJ11_append_3.data.toList.drop 0 = dktJ11_append_3_0 := by decide +kernel
theorem dJ11_append_3_0 : decode cJ11_append_3 0 = .ok (.aload_n 0, 1) := dk_42 (dk_at dksJ11_append_3_0 0 rfl rfl)
theorem dJ11_append_3_1 : decode cJ11_append_3 1 = .ok (.aload_n 1, 1) := dk_43 (dk_at dksJ11_append_3_0 1 rfl rfl)
theorem dJ11_append_3_2 : decode cJ11_append_3 2 = .ok (.invokespecial 29, 3) := dk_183 0 29 (dk_at dksJ11_append_3_0 2 rfl rfl)
theorem dJ11_append_3_5 : decode cJ11_append_3 5 = .ok (.pop, 1) := dk_87 (dk_at dksJ11_append_3_0 5 rfl rfl)
theorem dJ11_append_3_6 : decode cJ11_append_3 6 = .ok (.aload_n 0, 1) := dk_42 (dk_at dksJ11_append_3_0 6 rfl rfl)
theorem dJ11_append_3_7 : decode cJ11_append_3 7 = .ok (.areturn, 1) := dk_176 (dk_at dksJ11_append_3_0 7 rfl rfl)
theorem q118 : (Jvm.Cond.initialized "java/lang/StringBuilder") ∈ lw_all := lw_g (lw_at lw_m1 17 rfl) rfl
theorem q470 : (Jvm.Cond.instantiable "java/lang/StringBuilder" (4 : Nat)) ∈ lw_all := lw_g (lw_at lw_m2 129 rfl) rfl
theorem q472 : (Jvm.Cond.instanceMethod ({ cls := "java/lang/StringBuilder", name := "<init>", desc := "()V" } : Jvm.MethodName)) ∈ lw_all := lw_g (lw_at lw_m2 131 rfl) rfl
theorem q473 : (Jvm.Cond.code ({ cls := "java/lang/StringBuilder", name := "<init>", desc := "()V" } : Jvm.MethodName) prog_44_method_1_code (1 : Nat) (Option.none : Option Jvm.ClassFile.FieldType)) ∈ lw_all := lw_g (lw_at lw_m2 132 rfl) rfl
theorem q474 : (Jvm.Cond.methodLink "java/lang/StringBuilder" (1 : Nat) ({ cls := "java/lang/AbstractStringBuilder", name := "<init>", desc := "(I)V" } : Jvm.MethodName)) ∈ lw_all := lw_g (lw_at lw_m2 133 rfl) rfl
theorem q491 : (Jvm.Cond.lays "java/lang/StringBuilder" "java/lang/AbstractStringBuilder" "value" "[B") ∈ lw_all := lw_g (lw_at lw_m2 150 rfl) rfl
theorem q493 : (Jvm.Cond.lays "java/lang/StringBuilder" "java/lang/AbstractStringBuilder" "coder" "B") ∈ lw_all := lw_g (lw_at lw_m2 152 rfl) rfl
theorem q495 : (Jvm.Cond.lays "java/lang/StringBuilder" "java/lang/AbstractStringBuilder" "maybeLatin1" "Z") ∈ lw_all := lw_g (lw_at lw_m2 154 rfl) rfl
theorem q497 : (Jvm.Cond.lays "java/lang/StringBuilder" "java/lang/AbstractStringBuilder" "count" "I") ∈ lw_all := lw_g (lw_at lw_m2 156 rfl) rfl
theorem q499 : (Jvm.Cond.superclass "java/lang/StringBuilder" "java/lang/AbstractStringBuilder") ∈ lw_all := lw_g (lw_at lw_m2 158 rfl) rfl
theorem q503 : (Jvm.Cond.instanceMethod ({ cls := "java/lang/StringBuilder", name := "length", desc := "()I" } : Jvm.MethodName)) ∈ lw_all := lw_g (lw_at lw_m2 162 rfl) rfl
theorem q504 : (Jvm.Cond.selects "java/lang/StringBuilder" ({ cls := "java/lang/StringBuilder", name := "length", desc := "()I" } : Jvm.MethodName) ({ cls := "java/lang/StringBuilder", name := "length", desc := "()I" } : Jvm.MethodName)) ∈ lw_all := lw_g (lw_at lw_m2 163 rfl) rfl
theorem q505 : (Jvm.Cond.code ({ cls := "java/lang/StringBuilder", name := "length", desc := "()I" } : Jvm.MethodName) prog_44_method_93_code (1 : Nat) (Option.some Jvm.ClassFile.FieldType.int)) ∈ lw_all := lw_g (lw_at lw_m2 164 rfl) rfl
theorem q506 : (Jvm.Cond.methodLink "java/lang/StringBuilder" (343 : Nat) ({ cls := "java/lang/AbstractStringBuilder", name := "length", desc := "()I" } : Jvm.MethodName)) ∈ lw_all := lw_g (lw_at lw_m2 165 rfl) rfl
theorem q510 : (Jvm.Cond.instanceMethod ({ cls := "java/lang/StringBuilder", name := "append", desc := "(C)Ljava/lang/StringBuilder;" } : Jvm.MethodName)) ∈ lw_all := lw_g (lw_at lw_m2 169 rfl) rfl
theorem q511 : (Jvm.Cond.selects "java/lang/StringBuilder" ({ cls := "java/lang/StringBuilder", name := "append", desc := "(C)Ljava/lang/StringBuilder;" } : Jvm.MethodName) ({ cls := "java/lang/StringBuilder", name := "append", desc := "(C)Ljava/lang/StringBuilder;" } : Jvm.MethodName)) ∈ lw_all := lw_g (lw_at lw_m2 170 rfl) rfl
theorem q512 : (Jvm.Cond.code ({ cls := "java/lang/StringBuilder", name := "append", desc := "(C)Ljava/lang/StringBuilder;" } : Jvm.MethodName) prog_44_method_14_code (2 : Nat) (Option.some (Jvm.ClassFile.FieldType.object "java/lang/StringBuilder"))) ∈ lw_all := lw_g (lw_at lw_m2 171 rfl) rfl
theorem q513 : (Jvm.Cond.methodLink "java/lang/StringBuilder" (50 : Nat) ({ cls := "java/lang/AbstractStringBuilder", name := "append", desc := "(C)Ljava/lang/AbstractStringBuilder;" } : Jvm.MethodName)) ∈ lw_all := lw_g (lw_at lw_m2 172 rfl) rfl
theorem q552 : (Jvm.Cond.selects "java/lang/StringBuilder" ({ cls := "java/lang/AbstractStringBuilder", name := "isLatin1", desc := "()Z" } : Jvm.MethodName) ({ cls := "java/lang/AbstractStringBuilder", name := "isLatin1", desc := "()Z" } : Jvm.MethodName)) ∈ lw_all := lw_g (lw_at lw_m2 211 rfl) rfl
theorem q603 : (Jvm.Cond.instanceMethod ({ cls := "java/lang/StringBuilder", name := "toString", desc := "()Ljava/lang/String;" } : Jvm.MethodName)) ∈ lw_all := lw_g (lw_at lw_m3 22 rfl) rfl
theorem q604 : (Jvm.Cond.selects "java/lang/StringBuilder" ({ cls := "java/lang/StringBuilder", name := "toString", desc := "()Ljava/lang/String;" } : Jvm.MethodName) ({ cls := "java/lang/StringBuilder", name := "toString", desc := "()Ljava/lang/String;" } : Jvm.MethodName)) ∈ lw_all := lw_g (lw_at lw_m3 23 rfl) rfl
theorem q605 : (Jvm.Cond.code ({ cls := "java/lang/StringBuilder", name := "toString", desc := "()Ljava/lang/String;" } : Jvm.MethodName) prog_44_method_42_code (1 : Nat) (Option.some (Jvm.ClassFile.FieldType.object "java/lang/String"))) ∈ lw_all := lw_g (lw_at lw_m3 24 rfl) rfl
theorem q606 : (Jvm.Cond.classLink "java/lang/StringBuilder" (18 : Nat) "java/lang/String") ∈ lw_all := lw_g (lw_at lw_m3 25 rfl) rfl
theorem q607 : (Jvm.Cond.methodLink "java/lang/StringBuilder" (137 : Nat) ({ cls := "java/lang/String", name := "<init>", desc := "(Ljava/lang/StringBuilder;)V" } : Jvm.MethodName)) ∈ lw_all := lw_g (lw_at lw_m3 26 rfl) rfl
theorem q617 : (Jvm.Cond.selects "java/lang/StringBuilder" ({ cls := "java/lang/AbstractStringBuilder", name := "getValue", desc := "()[B" } : Jvm.MethodName) ({ cls := "java/lang/AbstractStringBuilder", name := "getValue", desc := "()[B" } : Jvm.MethodName)) ∈ lw_all := lw_g (lw_at lw_m3 36 rfl) rfl
theorem q819 : (Jvm.Cond.selects "java/lang/StringBuilder" ({ cls := "java/lang/Object", name := "getClass", desc := "()Ljava/lang/Class;" } : Jvm.MethodName) ({ cls := "java/lang/Object", name := "getClass", desc := "()Ljava/lang/Class;" } : Jvm.MethodName)) ∈ lw_all := lw_g (lw_at lw_m3 238 rfl) rfl
theorem q1260 : (Jvm.Cond.castable "java/lang/StringBuilder" "java/lang/Comparable") ∈ lw_tbl := lw_at lw_m5 199 rfl
theorem q1261 : (Jvm.Cond.selects "java/lang/StringBuilder" ({ cls := "java/lang/Comparable", name := "compareTo", desc := "(Ljava/lang/Object;)I" } : Jvm.MethodName) ({ cls := "java/lang/StringBuilder", name := "compareTo", desc := "(Ljava/lang/Object;)I" } : Jvm.MethodName)) ∈ lw_all := lw_g (lw_at lw_m5 200 rfl) rfl
theorem q1262 : (Jvm.Cond.unhidden "java/lang/StringBuilder" "compareTo" "(Ljava/lang/Object;)I") ∈ lw_tbl := lw_at lw_m5 201 rfl
theorem q1263 : (Jvm.Cond.instanceMethod ({ cls := "java/lang/StringBuilder", name := "compareTo", desc := "(Ljava/lang/Object;)I" } : Jvm.MethodName)) ∈ lw_all := lw_g (lw_at lw_m5 202 rfl) rfl
theorem q1264 : (Jvm.Cond.publicMethod ({ cls := "java/lang/StringBuilder", name := "compareTo", desc := "(Ljava/lang/Object;)I" } : Jvm.MethodName)) ∈ lw_tbl := lw_at lw_m5 203 rfl
theorem q1265 : (Jvm.Cond.code ({ cls := "java/lang/StringBuilder", name := "compareTo", desc := "(Ljava/lang/Object;)I" } : Jvm.MethodName) prog_44_method_97_code (2 : Nat) (Option.some Jvm.ClassFile.FieldType.int)) ∈ lw_all := lw_g (lw_at lw_m5 204 rfl) rfl
theorem q1266 : (Jvm.Cond.classLink "java/lang/StringBuilder" (24 : Nat) "java/lang/StringBuilder") ∈ lw_all := lw_g (lw_at lw_m5 205 rfl) rfl
theorem q1267 : (Jvm.Cond.methodLink "java/lang/StringBuilder" (346 : Nat) ({ cls := "java/lang/StringBuilder", name := "compareTo", desc := "(Ljava/lang/StringBuilder;)I" } : Jvm.MethodName)) ∈ lw_all := lw_g (lw_at lw_m5 206 rfl) rfl
theorem q1268 : (Jvm.Cond.instanceMethod ({ cls := "java/lang/StringBuilder", name := "compareTo", desc := "(Ljava/lang/StringBuilder;)I" } : Jvm.MethodName)) ∈ lw_all := lw_g (lw_at lw_m5 207 rfl) rfl
theorem q1269 : (Jvm.Cond.selects "java/lang/StringBuilder" ({ cls := "java/lang/StringBuilder", name := "compareTo", desc := "(Ljava/lang/StringBuilder;)I" } : Jvm.MethodName) ({ cls := "java/lang/StringBuilder", name := "compareTo", desc := "(Ljava/lang/StringBuilder;)I" } : Jvm.MethodName)) ∈ lw_all := lw_g (lw_at lw_m5 208 rfl) rfl
theorem q1270 : (Jvm.Cond.code ({ cls := "java/lang/StringBuilder", name := "compareTo", desc := "(Ljava/lang/StringBuilder;)I" } : Jvm.MethodName) prog_44_method_5_code (2 : Nat) (Option.some Jvm.ClassFile.FieldType.int)) ∈ lw_all := lw_g (lw_at lw_m5 209 rfl) rfl
theorem q1271 : (Jvm.Cond.methodLink "java/lang/StringBuilder" (13 : Nat) ({ cls := "java/lang/AbstractStringBuilder", name := "compareTo", desc := "(Ljava/lang/AbstractStringBuilder;)I" } : Jvm.MethodName)) ∈ lw_all := lw_g (lw_at lw_m5 210 rfl) rfl
theorem q1789 : (Jvm.Cond.instanceMethod ({ cls := "java/lang/StringBuilder", name := "append", desc := "(I)Ljava/lang/StringBuilder;" } : Jvm.MethodName)) ∈ lw_all := lw_g (lw_at lw_m8 8 rfl) rfl
theorem q1790 : (Jvm.Cond.selects "java/lang/StringBuilder" ({ cls := "java/lang/StringBuilder", name := "append", desc := "(I)Ljava/lang/StringBuilder;" } : Jvm.MethodName) ({ cls := "java/lang/StringBuilder", name := "append", desc := "(I)Ljava/lang/StringBuilder;" } : Jvm.MethodName)) ∈ lw_all := lw_g (lw_at lw_m8 9 rfl) rfl
theorem q1791 : (Jvm.Cond.code ({ cls := "java/lang/StringBuilder", name := "append", desc := "(I)Ljava/lang/StringBuilder;" } : Jvm.MethodName) prog_44_method_15_code (2 : Nat) (Option.some (Jvm.ClassFile.FieldType.object "java/lang/StringBuilder"))) ∈ lw_all := lw_g (lw_at lw_m8 10 rfl) rfl
theorem q1792 : (Jvm.Cond.methodLink "java/lang/StringBuilder" (53 : Nat) ({ cls := "java/lang/AbstractStringBuilder", name := "append", desc := "(I)Ljava/lang/AbstractStringBuilder;" } : Jvm.MethodName)) ∈ lw_all := lw_g (lw_at lw_m8 11 rfl) rfl
theorem q1820 : (Jvm.Cond.instanceMethod ({ cls := "java/lang/StringBuilder", name := "append", desc := "(Ljava/lang/String;)Ljava/lang/StringBuilder;" } : Jvm.MethodName)) ∈ lw_all := lw_g (lw_at lw_m8 39 rfl) rfl
theorem q1821 : (Jvm.Cond.selects "java/lang/StringBuilder" ({ cls := "java/lang/StringBuilder", name := "append", desc := "(Ljava/lang/String;)Ljava/lang/StringBuilder;" } : Jvm.MethodName) ({ cls := "java/lang/StringBuilder", name := "append", desc := "(Ljava/lang/String;)Ljava/lang/StringBuilder;" } : Jvm.MethodName)) ∈ lw_all := lw_g (lw_at lw_m8 40 rfl) rfl
theorem q1822 : (Jvm.Cond.code ({ cls := "java/lang/StringBuilder", name := "append", desc := "(Ljava/lang/String;)Ljava/lang/StringBuilder;" } : Jvm.MethodName) prog_44_method_7_code (2 : Nat) (Option.some (Jvm.ClassFile.FieldType.object "java/lang/StringBuilder"))) ∈ lw_all := lw_g (lw_at lw_m8 41 rfl) rfl
theorem q1823 : (Jvm.Cond.methodLink "java/lang/StringBuilder" (29 : Nat) ({ cls := "java/lang/AbstractStringBuilder", name := "append", desc := "(Ljava/lang/String;)Ljava/lang/AbstractStringBuilder;" } : Jvm.MethodName)) ∈ lw_all := lw_g (lw_at lw_m8 42 rfl) rfl
theorem q2539 : (Jvm.Cond.selects "java/lang/StringBuilder" ({ cls := "java/lang/AbstractStringBuilder", name := "length", desc := "()I" } : Jvm.MethodName) ({ cls := "java/lang/StringBuilder", name := "length", desc := "()I" } : Jvm.MethodName)) ∈ lw_all := lw_g (lw_at lw_m11 38 rfl) rfl
theorem q2566 : (Jvm.Cond.castable "java/lang/StringBuilder" "java/lang/Object") ∈ lw_tbl := lw_at lw_m11 65 rfl

/-! jdk/internal/util/ArraysSupport -/
set_option maxRecDepth 100000
def RJ13 : String := "jdk/internal/util/ArraysSupport"
abbrev cJ13_newLength : ByteArray := prog_74_method_27_code
def yJ13_newLength : MethodName := ⟨RJ13, "newLength", "(III)I"⟩
def dkwJ13_newLength_1 : List UInt8 := [184, 0, 201, 172]
abbrev dktJ13_newLength_1 : List UInt8 := dkwJ13_newLength_1 ++ []
def dkwJ13_newLength_0 : List UInt8 := [26, 27, 28, 184, 0, 194, 96, 62, 3, 29, 162, 0, 11, 29, 18, 200, 163, 0, 5, 29, 172, 26, 27]
abbrev dktJ13_newLength_0 : List UInt8 := dkwJ13_newLength_0 ++ dktJ13_newLength_1
theorem dksJ13_newLength_0 : cJ13_newLength.data.toList.drop 0 = dktJ13_newLength_0 := by decide +kernel
theorem dksJ13_newLength_1 : cJ13_newLength.data.toList.drop 23 = dktJ13_newLength_1 := dk_seg dksJ13_newLength_0 23 rfl rfl
theorem dJ13_newLength_0 : decode cJ13_newLength 0 = .ok (.iload_n 0, 1) := dk_26 (dk_at dksJ13_newLength_0 0 rfl rfl)
theorem dJ13_newLength_1 : decode cJ13_newLength 1 = .ok (.iload_n 1, 1) := dk_27 (dk_at dksJ13_newLength_0 1 rfl rfl)
theorem dJ13_newLength_2 : decode cJ13_newLength 2 = .ok (.iload_n 2, 1) := dk_28 (dk_at dksJ13_newLength_0 2 rfl rfl)
theorem dJ13_newLength_3 : decode cJ13_newLength 3 = .ok (.invokestatic 194, 3) := dk_184 0 194 (dk_at dksJ13_newLength_0 3 rfl rfl)
theorem dJ13_newLength_6 : decode cJ13_newLength 6 = .ok (.iadd, 1) := dk_96 (dk_at dksJ13_newLength_0 6 rfl rfl)
theorem dJ13_newLength_7 : decode cJ13_newLength 7 = .ok (.istore_n 3, 1) := dk_62 (dk_at dksJ13_newLength_0 7 rfl rfl)
theorem dJ13_newLength_8 : decode cJ13_newLength 8 = .ok (.iconst 0, 1) := dk_3 (dk_at dksJ13_newLength_0 8 rfl rfl)
theorem dJ13_newLength_9 : decode cJ13_newLength 9 = .ok (.iload_n 3, 1) := dk_29 (dk_at dksJ13_newLength_0 9 rfl rfl)
theorem dJ13_newLength_10 : decode cJ13_newLength 10 = .ok (.if_icmp .ge 11, 3) := dk_162 0 11 (dk_at dksJ13_newLength_0 10 rfl rfl)
theorem dJ13_newLength_13 : decode cJ13_newLength 13 = .ok (.iload_n 3, 1) := dk_29 (dk_at dksJ13_newLength_0 13 rfl rfl)
theorem dJ13_newLength_14 : decode cJ13_newLength 14 = .ok (.ldc 200, 2) := dk_18 200 (dk_at dksJ13_newLength_0 14 rfl rfl)
theorem dJ13_newLength_16 : decode cJ13_newLength 16 = .ok (.if_icmp .gt 5, 3) := dk_163 0 5 (dk_at dksJ13_newLength_0 16 rfl rfl)
theorem dJ13_newLength_19 : decode cJ13_newLength 19 = .ok (.iload_n 3, 1) := dk_29 (dk_at dksJ13_newLength_0 19 rfl rfl)
theorem dJ13_newLength_20 : decode cJ13_newLength 20 = .ok (.ireturn, 1) := dk_172 (dk_at dksJ13_newLength_0 20 rfl rfl)
theorem dJ13_newLength_21 : decode cJ13_newLength 21 = .ok (.iload_n 0, 1) := dk_26 (dk_at dksJ13_newLength_0 21 rfl rfl)
theorem dJ13_newLength_22 : decode cJ13_newLength 22 = .ok (.iload_n 1, 1) := dk_27 (dk_at dksJ13_newLength_0 22 rfl rfl)
theorem dJ13_newLength_23 : decode cJ13_newLength 23 = .ok (.invokestatic 201, 3) := dk_184 0 201 (dk_at dksJ13_newLength_1 0 rfl rfl)
theorem dJ13_newLength_26 : decode cJ13_newLength 26 = .ok (.ireturn, 1) := dk_172 (dk_at dksJ13_newLength_1 3 rfl rfl)
abbrev cJ13_hugeLength : ByteArray := prog_74_method_28_code
def yJ13_hugeLength : MethodName := ⟨RJ13, "hugeLength", "(II)I"⟩
def dkwJ13_hugeLength_2 : List UInt8 := [191, 28, 18, 200, 163, 0, 6, 18, 200, 172, 28, 172]
abbrev dktJ13_hugeLength_2 : List UInt8 := dkwJ13_hugeLength_2 ++ []
def dkwJ13_hugeLength_1 : List UInt8 := [26, 182, 0, 98, 18, 208, 182, 0, 94, 27, 182, 0, 98, 18, 210, 182, 0, 94, 182, 0, 101, 183, 0, 212]
abbrev dktJ13_hugeLength_1 : List UInt8 := dkwJ13_hugeLength_1 ++ dktJ13_hugeLength_2
def dkwJ13_hugeLength_0 : List UInt8 := [26, 27, 96, 61, 28, 156, 0, 44, 187, 0, 204, 89, 187, 0, 89, 89, 183, 0, 91, 18, 206, 182, 0, 94]
abbrev dktJ13_hugeLength_0 : List UInt8 := dkwJ13_hugeLength_0 ++ dktJ13_hugeLength_1
theorem dksJ13_hugeLength_0 : cJ13_hugeLength.data.toList.drop 0 = dktJ13_hugeLength_0 := by decide +kernel
theorem dksJ13_hugeLength_1 : cJ13_hugeLength.data.toList.drop 24 = dktJ13_hugeLength_1 := dk_seg dksJ13_hugeLength_0 24 rfl rfl
theorem dksJ13_hugeLength_2 : cJ13_hugeLength.data.toList.drop 48 = dktJ13_hugeLength_2 := dk_seg dksJ13_hugeLength_1 24 rfl rfl
theorem dJ13_hugeLength_0 : decode cJ13_hugeLength 0 = .ok (.iload_n 0, 1) := dk_26 (dk_at dksJ13_hugeLength_0 0 rfl rfl)
theorem dJ13_hugeLength_1 : decode cJ13_hugeLength 1 = .ok (.iload_n 1, 1) := dk_27 (dk_at dksJ13_hugeLength_0 1 rfl rfl)
theorem dJ13_hugeLength_2 : decode cJ13_hugeLength 2 = .ok (.iadd, 1) := dk_96 (dk_at dksJ13_hugeLength_0 2 rfl rfl)
theorem dJ13_hugeLength_3 : decode cJ13_hugeLength 3 = .ok (.istore_n 2, 1) := dk_61 (dk_at dksJ13_hugeLength_0 3 rfl rfl)
theorem dJ13_hugeLength_4 : decode cJ13_hugeLength 4 = .ok (.iload_n 2, 1) := dk_28 (dk_at dksJ13_hugeLength_0 4 rfl rfl)
theorem dJ13_hugeLength_5 : decode cJ13_hugeLength 5 = .ok (.ifCond .ge 44, 3) := dk_156 0 44 (dk_at dksJ13_hugeLength_0 5 rfl rfl)
theorem dJ13_hugeLength_8 : decode cJ13_hugeLength 8 = .ok (.new 204, 3) := dk_187 0 204 (dk_at dksJ13_hugeLength_0 8 rfl rfl)
theorem dJ13_hugeLength_11 : decode cJ13_hugeLength 11 = .ok (.dup, 1) := dk_89 (dk_at dksJ13_hugeLength_0 11 rfl rfl)
theorem dJ13_hugeLength_12 : decode cJ13_hugeLength 12 = .ok (.new 89, 3) := dk_187 0 89 (dk_at dksJ13_hugeLength_0 12 rfl rfl)
theorem dJ13_hugeLength_15 : decode cJ13_hugeLength 15 = .ok (.dup, 1) := dk_89 (dk_at dksJ13_hugeLength_0 15 rfl rfl)
theorem dJ13_hugeLength_16 : decode cJ13_hugeLength 16 = .ok (.invokespecial 91, 3) := dk_183 0 91 (dk_at dksJ13_hugeLength_0 16 rfl rfl)
theorem dJ13_hugeLength_19 : decode cJ13_hugeLength 19 = .ok (.ldc 206, 2) := dk_18 206 (dk_at dksJ13_hugeLength_0 19 rfl rfl)
theorem dJ13_hugeLength_21 : decode cJ13_hugeLength 21 = .ok (.invokevirtual 94, 3) := dk_182 0 94 (dk_at dksJ13_hugeLength_0 21 rfl rfl)
theorem dJ13_hugeLength_24 : decode cJ13_hugeLength 24 = .ok (.iload_n 0, 1) := dk_26 (dk_at dksJ13_hugeLength_1 0 rfl rfl)
theorem dJ13_hugeLength_25 : decode cJ13_hugeLength 25 = .ok (.invokevirtual 98, 3) := dk_182 0 98 (dk_at dksJ13_hugeLength_1 1 rfl rfl)
theorem dJ13_hugeLength_28 : decode cJ13_hugeLength 28 = .ok (.ldc 208, 2) := dk_18 208 (dk_at dksJ13_hugeLength_1 4 rfl rfl)
theorem dJ13_hugeLength_30 : decode cJ13_hugeLength 30 = .ok (.invokevirtual 94, 3) := dk_182 0 94 (dk_at dksJ13_hugeLength_1 6 rfl rfl)
theorem dJ13_hugeLength_33 : decode cJ13_hugeLength 33 = .ok (.iload_n 1, 1) := dk_27 (dk_at dksJ13_hugeLength_1 9 rfl rfl)
theorem dJ13_hugeLength_34 : decode cJ13_hugeLength 34 = .ok (.invokevirtual 98, 3) := dk_182 0 98 (dk_at dksJ13_hugeLength_1 10 rfl rfl)
theorem dJ13_hugeLength_37 : decode cJ13_hugeLength 37 = .ok (.ldc 210, 2) := dk_18 210 (dk_at dksJ13_hugeLength_1 13 rfl rfl)
theorem dJ13_hugeLength_39 : decode cJ13_hugeLength 39 = .ok (.invokevirtual 94, 3) := dk_182 0 94 (dk_at dksJ13_hugeLength_1 15 rfl rfl)
theorem dJ13_hugeLength_42 : decode cJ13_hugeLength 42 = .ok (.invokevirtual 101, 3) := dk_182 0 101 (dk_at dksJ13_hugeLength_1 18 rfl rfl)
theorem dJ13_hugeLength_45 : decode cJ13_hugeLength 45 = .ok (.invokespecial 212, 3) := dk_183 0 212 (dk_at dksJ13_hugeLength_1 21 rfl rfl)
theorem dJ13_hugeLength_48 : decode cJ13_hugeLength 48 = .ok (.athrow, 1) := dk_191 (dk_at dksJ13_hugeLength_2 0 rfl rfl)
theorem dJ13_hugeLength_49 : decode cJ13_hugeLength 49 = .ok (.iload_n 2, 1) := dk_28 (dk_at dksJ13_hugeLength_2 1 rfl rfl)
theorem dJ13_hugeLength_50 : decode cJ13_hugeLength 50 = .ok (.ldc 200, 2) := dk_18 200 (dk_at dksJ13_hugeLength_2 2 rfl rfl)
theorem dJ13_hugeLength_52 : decode cJ13_hugeLength 52 = .ok (.if_icmp .gt 6, 3) := dk_163 0 6 (dk_at dksJ13_hugeLength_2 4 rfl rfl)
theorem dJ13_hugeLength_55 : decode cJ13_hugeLength 55 = .ok (.ldc 200, 2) := dk_18 200 (dk_at dksJ13_hugeLength_2 7 rfl rfl)
theorem dJ13_hugeLength_57 : decode cJ13_hugeLength 57 = .ok (.ireturn, 1) := dk_172 (dk_at dksJ13_hugeLength_2 9 rfl rfl)
theorem dJ13_hugeLength_58 : decode cJ13_hugeLength 58 = .ok (.iload_n 2, 1) := dk_28 (dk_at dksJ13_hugeLength_2 10 rfl rfl)
theorem dJ13_hugeLength_59 : decode cJ13_hugeLength 59 = .ok (.ireturn, 1) := dk_172 (dk_at dksJ13_hugeLength_2 11 rfl rfl)
abbrev cJ13_mismatch : ByteArray := prog_74_method_13_code
def yJ13_mismatch : MethodName := ⟨RJ13, "mismatch", "([B[BI)I"⟩
def dkwJ13_mismatch_3 : List UInt8 := [172]
abbrev dktJ13_mismatch_3 : List UInt8 := dkwJ13_mismatch_3 ++ []
def dkwJ13_mismatch_2 : List UInt8 := [62, 29, 28, 162, 0, 20, 42, 29, 51, 43, 29, 51, 159, 0, 5, 29, 172, 132, 3, 1, 167, 255, 237, 2]
abbrev dktJ13_mismatch_2 : List UInt8 := dkwJ13_mismatch_2 ++ dktJ13_mismatch_3
def dkwJ13_mismatch_1 : List UInt8 := [43, 178, 0, 126, 133, 28, 178, 0, 129, 184, 0, 122, 62, 29, 155, 0, 5, 29, 172, 28, 29, 2, 130, 100]
abbrev dktJ13_mismatch_1 : List UInt8 := dkwJ13_mismatch_1 ++ dktJ13_mismatch_2
def dkwJ13_mismatch_0 : List UInt8 := [3, 62, 28, 16, 7, 164, 0, 44, 42, 3, 51, 43, 3, 51, 159, 0, 5, 3, 172, 42, 178, 0, 126, 133]
abbrev dktJ13_mismatch_0 : List UInt8 := dkwJ13_mismatch_0 ++ dktJ13_mismatch_1
theorem dksJ13_mismatch_0 : cJ13_mismatch.data.toList.drop 0 = dktJ13_mismatch_0 := by decide +kernel
theorem dksJ13_mismatch_1 : cJ13_mismatch.data.toList.drop 24 = dktJ13_mismatch_1 := dk_seg dksJ13_mismatch_0 24 rfl rfl
theorem dksJ13_mismatch_2 : cJ13_mismatch.data.toList.drop 48 = dktJ13_mismatch_2 := dk_seg dksJ13_mismatch_1 24 rfl rfl
theorem dksJ13_mismatch_3 : cJ13_mismatch.data.toList.drop 72 = dktJ13_mismatch_3 := dk_seg dksJ13_mismatch_2 24 rfl rfl
theorem dJ13_mismatch_0 : decode cJ13_mismatch 0 = .ok (.iconst 0, 1) := dk_3 (dk_at dksJ13_mismatch_0 0 rfl rfl)
theorem dJ13_mismatch_1 : decode cJ13_mismatch 1 = .ok (.istore_n 3, 1) := dk_62 (dk_at dksJ13_mismatch_0 1 rfl rfl)
theorem dJ13_mismatch_2 : decode cJ13_mismatch 2 = .ok (.iload_n 2, 1) := dk_28 (dk_at dksJ13_mismatch_0 2 rfl rfl)
theorem dJ13_mismatch_3 : decode cJ13_mismatch 3 = .ok (.bipush 7, 2) := dk_16 7 (dk_at dksJ13_mismatch_0 3 rfl rfl)
theorem dJ13_mismatch_5 : decode cJ13_mismatch 5 = .ok (.if_icmp .le 44, 3) := dk_164 0 44 (dk_at dksJ13_mismatch_0 5 rfl rfl)
theorem dJ13_mismatch_8 : decode cJ13_mismatch 8 = .ok (.aload_n 0, 1) := dk_42 (dk_at dksJ13_mismatch_0 8 rfl rfl)
theorem dJ13_mismatch_9 : decode cJ13_mismatch 9 = .ok (.iconst 0, 1) := dk_3 (dk_at dksJ13_mismatch_0 9 rfl rfl)
theorem dJ13_mismatch_10 : decode cJ13_mismatch 10 = .ok (.baload, 1) := dk_51 (dk_at dksJ13_mismatch_0 10 rfl rfl)
theorem dJ13_mismatch_11 : decode cJ13_mismatch 11 = .ok (.aload_n 1, 1) := dk_43 (dk_at dksJ13_mismatch_0 11 rfl rfl)
theorem dJ13_mismatch_12 : decode cJ13_mismatch 12 = .ok (.iconst 0, 1) := dk_3 (dk_at dksJ13_mismatch_0 12 rfl rfl)
theorem dJ13_mismatch_13 : decode cJ13_mismatch 13 = .ok (.baload, 1) := dk_51 (dk_at dksJ13_mismatch_0 13 rfl rfl)
theorem dJ13_mismatch_14 : decode cJ13_mismatch 14 = .ok (.if_icmp .eq 5, 3) := dk_159 0 5 (dk_at dksJ13_mismatch_0 14 rfl rfl)
theorem dJ13_mismatch_17 : decode cJ13_mismatch 17 = .ok (.iconst 0, 1) := dk_3 (dk_at dksJ13_mismatch_0 17 rfl rfl)
theorem dJ13_mismatch_18 : decode cJ13_mismatch 18 = .ok (.ireturn, 1) := dk_172 (dk_at dksJ13_mismatch_0 18 rfl rfl)
theorem dJ13_mismatch_19 : decode cJ13_mismatch 19 = .ok (.aload_n 0, 1) := dk_42 (dk_at dksJ13_mismatch_0 19 rfl rfl)
theorem dJ13_mismatch_20 : decode cJ13_mismatch 20 = .ok (.getstatic 126, 3) := dk_178 0 126 (dk_at dksJ13_mismatch_0 20 rfl rfl)
theorem dJ13_mismatch_23 : decode cJ13_mismatch 23 = .ok (.i2l, 1) := dk_133 (dk_at dksJ13_mismatch_0 23 rfl rfl)
theorem dJ13_mismatch_24 : decode cJ13_mismatch 24 = .ok (.aload_n 1, 1) := dk_43 (dk_at dksJ13_mismatch_1 0 rfl rfl)
theorem dJ13_mismatch_25 : decode cJ13_mismatch 25 = .ok (.getstatic 126, 3) := dk_178 0 126 (dk_at dksJ13_mismatch_1 1 rfl rfl)
theorem dJ13_mismatch_28 : decode cJ13_mismatch 28 = .ok (.i2l, 1) := dk_133 (dk_at dksJ13_mismatch_1 4 rfl rfl)
theorem dJ13_mismatch_29 : decode cJ13_mismatch 29 = .ok (.iload_n 2, 1) := dk_28 (dk_at dksJ13_mismatch_1 5 rfl rfl)
theorem dJ13_mismatch_30 : decode cJ13_mismatch 30 = .ok (.getstatic 129, 3) := dk_178 0 129 (dk_at dksJ13_mismatch_1 6 rfl rfl)
theorem dJ13_mismatch_33 : decode cJ13_mismatch 33 = .ok (.invokestatic 122, 3) := dk_184 0 122 (dk_at dksJ13_mismatch_1 9 rfl rfl)
theorem dJ13_mismatch_36 : decode cJ13_mismatch 36 = .ok (.istore_n 3, 1) := dk_62 (dk_at dksJ13_mismatch_1 12 rfl rfl)
theorem dJ13_mismatch_37 : decode cJ13_mismatch 37 = .ok (.iload_n 3, 1) := dk_29 (dk_at dksJ13_mismatch_1 13 rfl rfl)
theorem dJ13_mismatch_38 : decode cJ13_mismatch 38 = .ok (.ifCond .lt 5, 3) := dk_155 0 5 (dk_at dksJ13_mismatch_1 14 rfl rfl)
theorem dJ13_mismatch_41 : decode cJ13_mismatch 41 = .ok (.iload_n 3, 1) := dk_29 (dk_at dksJ13_mismatch_1 17 rfl rfl)
theorem dJ13_mismatch_42 : decode cJ13_mismatch 42 = .ok (.ireturn, 1) := dk_172 (dk_at dksJ13_mismatch_1 18 rfl rfl)
theorem dJ13_mismatch_43 : decode cJ13_mismatch 43 = .ok (.iload_n 2, 1) := dk_28 (dk_at dksJ13_mismatch_1 19 rfl rfl)
theorem dJ13_mismatch_44 : decode cJ13_mismatch 44 = .ok (.iload_n 3, 1) := dk_29 (dk_at dksJ13_mismatch_1 20 rfl rfl)
theorem dJ13_mismatch_45 : decode cJ13_mismatch 45 = .ok (.iconst (-1), 1) := dk_2 (dk_at dksJ13_mismatch_1 21 rfl rfl)
theorem dJ13_mismatch_46 : decode cJ13_mismatch 46 = .ok (.ixor, 1) := dk_130 (dk_at dksJ13_mismatch_1 22 rfl rfl)
theorem dJ13_mismatch_47 : decode cJ13_mismatch 47 = .ok (.isub, 1) := dk_100 (dk_at dksJ13_mismatch_1 23 rfl rfl)
theorem dJ13_mismatch_48 : decode cJ13_mismatch 48 = .ok (.istore_n 3, 1) := dk_62 (dk_at dksJ13_mismatch_2 0 rfl rfl)
theorem dJ13_mismatch_49 : decode cJ13_mismatch 49 = .ok (.iload_n 3, 1) := dk_29 (dk_at dksJ13_mismatch_2 1 rfl rfl)
theorem dJ13_mismatch_50 : decode cJ13_mismatch 50 = .ok (.iload_n 2, 1) := dk_28 (dk_at dksJ13_mismatch_2 2 rfl rfl)
theorem dJ13_mismatch_51 : decode cJ13_mismatch 51 = .ok (.if_icmp .ge 20, 3) := dk_162 0 20 (dk_at dksJ13_mismatch_2 3 rfl rfl)
theorem dJ13_mismatch_54 : decode cJ13_mismatch 54 = .ok (.aload_n 0, 1) := dk_42 (dk_at dksJ13_mismatch_2 6 rfl rfl)
theorem dJ13_mismatch_55 : decode cJ13_mismatch 55 = .ok (.iload_n 3, 1) := dk_29 (dk_at dksJ13_mismatch_2 7 rfl rfl)
theorem dJ13_mismatch_56 : decode cJ13_mismatch 56 = .ok (.baload, 1) := dk_51 (dk_at dksJ13_mismatch_2 8 rfl rfl)
theorem dJ13_mismatch_57 : decode cJ13_mismatch 57 = .ok (.aload_n 1, 1) := dk_43 (dk_at dksJ13_mismatch_2 9 rfl rfl)
theorem dJ13_mismatch_58 : decode cJ13_mismatch 58 = .ok (.iload_n 3, 1) := dk_29 (dk_at dksJ13_mismatch_2 10 rfl rfl)
theorem dJ13_mismatch_59 : decode cJ13_mismatch 59 = .ok (.baload, 1) := dk_51 (dk_at dksJ13_mismatch_2 11 rfl rfl)
theorem dJ13_mismatch_60 : decode cJ13_mismatch 60 = .ok (.if_icmp .eq 5, 3) := dk_159 0 5 (dk_at dksJ13_mismatch_2 12 rfl rfl)
theorem dJ13_mismatch_63 : decode cJ13_mismatch 63 = .ok (.iload_n 3, 1) := dk_29 (dk_at dksJ13_mismatch_2 15 rfl rfl)
theorem dJ13_mismatch_64 : decode cJ13_mismatch 64 = .ok (.ireturn, 1) := dk_172 (dk_at dksJ13_mismatch_2 16 rfl rfl)
theorem dJ13_mismatch_65 : decode cJ13_mismatch 65 = .ok (.iinc 3 1, 3) := dk_132 3 1 (dk_at dksJ13_mismatch_2 17 rfl rfl)
theorem dJ13_mismatch_68 : decode cJ13_mismatch 68 = .ok (.goto (-19), 3) := dk_167 255 237 (dk_at dksJ13_mismatch_2 20 rfl rfl)
theorem dJ13_mismatch_71 : decode cJ13_mismatch 71 = .ok (.iconst (-1), 1) := dk_2 (dk_at dksJ13_mismatch_2 23 rfl rfl)
theorem dJ13_mismatch_72 : decode cJ13_mismatch 72 = .ok (.ireturn, 1) := dk_172 (dk_at dksJ13_mismatch_3 0 rfl rfl)
abbrev cJ13_vectorizedMismatch : ByteArray := prog_74_method_3_code
def yJ13_vectorizedMismatch : MethodName := ⟨RJ13, "vectorizedMismatch", "(Ljava/lang/Object;JLjava/lang/Object;JII)I"⟩
def dkwJ13_vectorizedMismatch_11 : List UInt8 := [54, 10, 21, 10, 2, 130, 172, 21, 10, 2, 130, 172]
abbrev dktJ13_vectorizedMismatch_11 : List UInt8 := dkwJ13_vectorizedMismatch_11 ++ []
def dkwJ13_vectorizedMismatch_10 : List UInt8 := [178, 0, 46, 21, 7, 96, 122, 54, 17, 21, 9, 21, 8, 120, 21, 17, 96, 172, 21, 10, 21, 11, 100]
abbrev dktJ13_vectorizedMismatch_10 : List UInt8 := dkwJ13_vectorizedMismatch_10 ++ dktJ13_vectorizedMismatch_11
def dkwJ13_vectorizedMismatch_9 : List UInt8 := [153, 0, 18, 21, 16, 184, 0, 58, 178, 0, 46, 21, 7, 96, 122, 167, 0, 15, 21, 16, 184, 0, 11]
abbrev dktJ13_vectorizedMismatch_9 : List UInt8 := dkwJ13_vectorizedMismatch_9 ++ dktJ13_vectorizedMismatch_10
def dkwJ13_vectorizedMismatch_8 : List UInt8 := [182, 0, 54, 54, 15, 21, 14, 21, 15, 159, 0, 54, 21, 14, 21, 15, 130, 54, 16, 178, 0, 36]
abbrev dktJ13_vectorizedMismatch_8 : List UInt8 := dkwJ13_vectorizedMismatch_8 ++ dktJ13_vectorizedMismatch_9
def dkwJ13_vectorizedMismatch_7 : List UInt8 := [55, 12, 178, 0, 26, 42, 31, 22, 12, 97, 182, 0, 54, 54, 14, 178, 0, 26, 45, 22, 4, 22, 12, 97]
abbrev dktJ13_vectorizedMismatch_7 : List UInt8 := dkwJ13_vectorizedMismatch_7 ++ dktJ13_vectorizedMismatch_8
def dkwJ13_vectorizedMismatch_6 : List UInt8 := [4, 178, 0, 51, 21, 7, 100, 120, 54, 11, 21, 10, 21, 11, 161, 0, 104, 21, 9, 133, 178, 0, 20, 121]
abbrev dktJ13_vectorizedMismatch_6 : List UInt8 := dkwJ13_vectorizedMismatch_6 ++ dktJ13_vectorizedMismatch_7
def dkwJ13_vectorizedMismatch_5 : List UInt8 := [132, 9, 1, 167, 255, 148, 21, 6, 21, 9, 21, 8, 120, 100, 54, 10, 21, 7, 178, 0, 51, 162, 0, 126]
abbrev dktJ13_vectorizedMismatch_5 : List UInt8 := dkwJ13_vectorizedMismatch_5 ++ dktJ13_vectorizedMismatch_6
def dkwJ13_vectorizedMismatch_4 : List UInt8 := [22, 16, 184, 0, 49, 178, 0, 46, 21, 7, 96, 122, 54, 18, 21, 9, 21, 8, 120, 21, 18, 96, 172]
abbrev dktJ13_vectorizedMismatch_4 : List UInt8 := dkwJ13_vectorizedMismatch_4 ++ dktJ13_vectorizedMismatch_5
def dkwJ13_vectorizedMismatch_3 : List UInt8 := [55, 16, 178, 0, 36, 153, 0, 18, 22, 16, 184, 0, 40, 178, 0, 46, 21, 7, 96, 122, 167, 0, 15]
abbrev dktJ13_vectorizedMismatch_3 : List UInt8 := dkwJ13_vectorizedMismatch_3 ++ dktJ13_vectorizedMismatch_4
def dkwJ13_vectorizedMismatch_2 : List UInt8 := [22, 4, 22, 10, 97, 182, 0, 30, 55, 14, 22, 12, 22, 14, 148, 153, 0, 54, 22, 12, 22, 14, 131]
abbrev dktJ13_vectorizedMismatch_2 : List UInt8 := dkwJ13_vectorizedMismatch_2 ++ dktJ13_vectorizedMismatch_3
def dkwJ13_vectorizedMismatch_1 : List UInt8 := [178, 0, 20, 121, 55, 10, 178, 0, 26, 42, 31, 22, 10, 97, 182, 0, 30, 55, 12, 178, 0, 26, 45]
abbrev dktJ13_vectorizedMismatch_1 : List UInt8 := dkwJ13_vectorizedMismatch_1 ++ dktJ13_vectorizedMismatch_2
def dkwJ13_vectorizedMismatch_0 : List UInt8 := [178, 0, 20, 21, 7, 100, 54, 8, 3, 54, 9, 21, 9, 21, 6, 21, 8, 122, 162, 0, 104, 21, 9, 133]
abbrev dktJ13_vectorizedMismatch_0 : List UInt8 := dkwJ13_vectorizedMismatch_0 ++ dktJ13_vectorizedMismatch_1
theorem dksJ13_vectorizedMismatch_0 : cJ13_vectorizedMismatch.data.toList.drop 0 = dktJ13_vectorizedMismatch_0 := by decide +kernel
theorem dksJ13_vectorizedMismatch_1 : cJ13_vectorizedMismatch.data.toList.drop 24 = dktJ13_vectorizedMismatch_1 := dk_seg dksJ13_vectorizedMismatch_0 24 rfl rfl
theorem dksJ13_vectorizedMismatch_2 : cJ13_vectorizedMismatch.data.toList.drop 47 = dktJ13_vectorizedMismatch_2 := dk_seg dksJ13_vectorizedMismatch_1 23 rfl rfl
theorem dksJ13_vectorizedMismatch_3 : cJ13_vectorizedMismatch.data.toList.drop 70 = dktJ13_vectorizedMismatch_3 := dk_seg dksJ13_vectorizedMismatch_2 23 rfl rfl
theorem dksJ13_vectorizedMismatch_4 : cJ13_vectorizedMismatch.data.toList.drop 93 = dktJ13_vectorizedMismatch_4 := dk_seg dksJ13_vectorizedMismatch_3 23 rfl rfl
theorem dksJ13_vectorizedMismatch_5 : cJ13_vectorizedMismatch.data.toList.drop 116 = dktJ13_vectorizedMismatch_5 := dk_seg dksJ13_vectorizedMismatch_4 23 rfl rfl
theorem dksJ13_vectorizedMismatch_6 : cJ13_vectorizedMismatch.data.toList.drop 140 = dktJ13_vectorizedMismatch_6 := dk_seg dksJ13_vectorizedMismatch_5 24 rfl rfl
theorem dksJ13_vectorizedMismatch_7 : cJ13_vectorizedMismatch.data.toList.drop 164 = dktJ13_vectorizedMismatch_7 := dk_seg dksJ13_vectorizedMismatch_6 24 rfl rfl
theorem dksJ13_vectorizedMismatch_8 : cJ13_vectorizedMismatch.data.toList.drop 188 = dktJ13_vectorizedMismatch_8 := dk_seg dksJ13_vectorizedMismatch_7 24 rfl rfl
theorem dksJ13_vectorizedMismatch_9 : cJ13_vectorizedMismatch.data.toList.drop 210 = dktJ13_vectorizedMismatch_9 := dk_seg dksJ13_vectorizedMismatch_8 22 rfl rfl
theorem dksJ13_vectorizedMismatch_10 : cJ13_vectorizedMismatch.data.toList.drop 233 = dktJ13_vectorizedMismatch_10 := dk_seg dksJ13_vectorizedMismatch_9 23 rfl rfl
theorem dksJ13_vectorizedMismatch_11 : cJ13_vectorizedMismatch.data.toList.drop 256 = dktJ13_vectorizedMismatch_11 := dk_seg dksJ13_vectorizedMismatch_10 23 rfl rfl
theorem dJ13_vectorizedMismatch_0 : decode cJ13_vectorizedMismatch 0 = .ok (.getstatic 20, 3) := dk_178 0 20 (dk_at dksJ13_vectorizedMismatch_0 0 rfl rfl)
theorem dJ13_vectorizedMismatch_3 : decode cJ13_vectorizedMismatch 3 = .ok (.iload 7, 2) := dk_21 7 (dk_at dksJ13_vectorizedMismatch_0 3 rfl rfl)
theorem dJ13_vectorizedMismatch_5 : decode cJ13_vectorizedMismatch 5 = .ok (.isub, 1) := dk_100 (dk_at dksJ13_vectorizedMismatch_0 5 rfl rfl)
theorem dJ13_vectorizedMismatch_6 : decode cJ13_vectorizedMismatch 6 = .ok (.istore 8, 2) := dk_54 8 (dk_at dksJ13_vectorizedMismatch_0 6 rfl rfl)
theorem dJ13_vectorizedMismatch_8 : decode cJ13_vectorizedMismatch 8 = .ok (.iconst 0, 1) := dk_3 (dk_at dksJ13_vectorizedMismatch_0 8 rfl rfl)
theorem dJ13_vectorizedMismatch_9 : decode cJ13_vectorizedMismatch 9 = .ok (.istore 9, 2) := dk_54 9 (dk_at dksJ13_vectorizedMismatch_0 9 rfl rfl)
theorem dJ13_vectorizedMismatch_11 : decode cJ13_vectorizedMismatch 11 = .ok (.iload 9, 2) := dk_21 9 (dk_at dksJ13_vectorizedMismatch_0 11 rfl rfl)
theorem dJ13_vectorizedMismatch_13 : decode cJ13_vectorizedMismatch 13 = .ok (.iload 6, 2) := dk_21 6 (dk_at dksJ13_vectorizedMismatch_0 13 rfl rfl)
theorem dJ13_vectorizedMismatch_15 : decode cJ13_vectorizedMismatch 15 = .ok (.iload 8, 2) := dk_21 8 (dk_at dksJ13_vectorizedMismatch_0 15 rfl rfl)
theorem dJ13_vectorizedMismatch_17 : decode cJ13_vectorizedMismatch 17 = .ok (.ishr, 1) := dk_122 (dk_at dksJ13_vectorizedMismatch_0 17 rfl rfl)
theorem dJ13_vectorizedMismatch_18 : decode cJ13_vectorizedMismatch 18 = .ok (.if_icmp .ge 104, 3) := dk_162 0 104 (dk_at dksJ13_vectorizedMismatch_0 18 rfl rfl)
theorem dJ13_vectorizedMismatch_21 : decode cJ13_vectorizedMismatch 21 = .ok (.iload 9, 2) := dk_21 9 (dk_at dksJ13_vectorizedMismatch_0 21 rfl rfl)
theorem dJ13_vectorizedMismatch_23 : decode cJ13_vectorizedMismatch 23 = .ok (.i2l, 1) := dk_133 (dk_at dksJ13_vectorizedMismatch_0 23 rfl rfl)
theorem dJ13_vectorizedMismatch_24 : decode cJ13_vectorizedMismatch 24 = .ok (.getstatic 20, 3) := dk_178 0 20 (dk_at dksJ13_vectorizedMismatch_1 0 rfl rfl)
theorem dJ13_vectorizedMismatch_27 : decode cJ13_vectorizedMismatch 27 = .ok (.lshl, 1) := dk_121 (dk_at dksJ13_vectorizedMismatch_1 3 rfl rfl)
theorem dJ13_vectorizedMismatch_28 : decode cJ13_vectorizedMismatch 28 = .ok (.lstore 10, 2) := dk_55 10 (dk_at dksJ13_vectorizedMismatch_1 4 rfl rfl)
theorem dJ13_vectorizedMismatch_30 : decode cJ13_vectorizedMismatch 30 = .ok (.getstatic 26, 3) := dk_178 0 26 (dk_at dksJ13_vectorizedMismatch_1 6 rfl rfl)
theorem dJ13_vectorizedMismatch_33 : decode cJ13_vectorizedMismatch 33 = .ok (.aload_n 0, 1) := dk_42 (dk_at dksJ13_vectorizedMismatch_1 9 rfl rfl)
theorem dJ13_vectorizedMismatch_34 : decode cJ13_vectorizedMismatch 34 = .ok (.lload_n 1, 1) := dk_31 (dk_at dksJ13_vectorizedMismatch_1 10 rfl rfl)
theorem dJ13_vectorizedMismatch_35 : decode cJ13_vectorizedMismatch 35 = .ok (.lload 10, 2) := dk_22 10 (dk_at dksJ13_vectorizedMismatch_1 11 rfl rfl)
theorem dJ13_vectorizedMismatch_37 : decode cJ13_vectorizedMismatch 37 = .ok (.ladd, 1) := dk_97 (dk_at dksJ13_vectorizedMismatch_1 13 rfl rfl)
theorem dJ13_vectorizedMismatch_38 : decode cJ13_vectorizedMismatch 38 = .ok (.invokevirtual 30, 3) := dk_182 0 30 (dk_at dksJ13_vectorizedMismatch_1 14 rfl rfl)
theorem dJ13_vectorizedMismatch_41 : decode cJ13_vectorizedMismatch 41 = .ok (.lstore 12, 2) := dk_55 12 (dk_at dksJ13_vectorizedMismatch_1 17 rfl rfl)
theorem dJ13_vectorizedMismatch_43 : decode cJ13_vectorizedMismatch 43 = .ok (.getstatic 26, 3) := dk_178 0 26 (dk_at dksJ13_vectorizedMismatch_1 19 rfl rfl)
theorem dJ13_vectorizedMismatch_46 : decode cJ13_vectorizedMismatch 46 = .ok (.aload_n 3, 1) := dk_45 (dk_at dksJ13_vectorizedMismatch_1 22 rfl rfl)
theorem dJ13_vectorizedMismatch_47 : decode cJ13_vectorizedMismatch 47 = .ok (.lload 4, 2) := dk_22 4 (dk_at dksJ13_vectorizedMismatch_2 0 rfl rfl)
theorem dJ13_vectorizedMismatch_49 : decode cJ13_vectorizedMismatch 49 = .ok (.lload 10, 2) := dk_22 10 (dk_at dksJ13_vectorizedMismatch_2 2 rfl rfl)
theorem dJ13_vectorizedMismatch_51 : decode cJ13_vectorizedMismatch 51 = .ok (.ladd, 1) := dk_97 (dk_at dksJ13_vectorizedMismatch_2 4 rfl rfl)
theorem dJ13_vectorizedMismatch_52 : decode cJ13_vectorizedMismatch 52 = .ok (.invokevirtual 30, 3) := dk_182 0 30 (dk_at dksJ13_vectorizedMismatch_2 5 rfl rfl)
theorem dJ13_vectorizedMismatch_55 : decode cJ13_vectorizedMismatch 55 = .ok (.lstore 14, 2) := dk_55 14 (dk_at dksJ13_vectorizedMismatch_2 8 rfl rfl)
theorem dJ13_vectorizedMismatch_57 : decode cJ13_vectorizedMismatch 57 = .ok (.lload 12, 2) := dk_22 12 (dk_at dksJ13_vectorizedMismatch_2 10 rfl rfl)
theorem dJ13_vectorizedMismatch_59 : decode cJ13_vectorizedMismatch 59 = .ok (.lload 14, 2) := dk_22 14 (dk_at dksJ13_vectorizedMismatch_2 12 rfl rfl)
theorem dJ13_vectorizedMismatch_61 : decode cJ13_vectorizedMismatch 61 = .ok (.lcmp, 1) := dk_148 (dk_at dksJ13_vectorizedMismatch_2 14 rfl rfl)
theorem dJ13_vectorizedMismatch_62 : decode cJ13_vectorizedMismatch 62 = .ok (.ifCond .eq 54, 3) := dk_153 0 54 (dk_at dksJ13_vectorizedMismatch_2 15 rfl rfl)
theorem dJ13_vectorizedMismatch_65 : decode cJ13_vectorizedMismatch 65 = .ok (.lload 12, 2) := dk_22 12 (dk_at dksJ13_vectorizedMismatch_2 18 rfl rfl)
theorem dJ13_vectorizedMismatch_67 : decode cJ13_vectorizedMismatch 67 = .ok (.lload 14, 2) := dk_22 14 (dk_at dksJ13_vectorizedMismatch_2 20 rfl rfl)
theorem dJ13_vectorizedMismatch_69 : decode cJ13_vectorizedMismatch 69 = .ok (.lxor, 1) := dk_131 (dk_at dksJ13_vectorizedMismatch_2 22 rfl rfl)
theorem dJ13_vectorizedMismatch_70 : decode cJ13_vectorizedMismatch 70 = .ok (.lstore 16, 2) := dk_55 16 (dk_at dksJ13_vectorizedMismatch_3 0 rfl rfl)
theorem dJ13_vectorizedMismatch_72 : decode cJ13_vectorizedMismatch 72 = .ok (.getstatic 36, 3) := dk_178 0 36 (dk_at dksJ13_vectorizedMismatch_3 2 rfl rfl)
theorem dJ13_vectorizedMismatch_75 : decode cJ13_vectorizedMismatch 75 = .ok (.ifCond .eq 18, 3) := dk_153 0 18 (dk_at dksJ13_vectorizedMismatch_3 5 rfl rfl)
theorem dJ13_vectorizedMismatch_78 : decode cJ13_vectorizedMismatch 78 = .ok (.lload 16, 2) := dk_22 16 (dk_at dksJ13_vectorizedMismatch_3 8 rfl rfl)
theorem dJ13_vectorizedMismatch_80 : decode cJ13_vectorizedMismatch 80 = .ok (.invokestatic 40, 3) := dk_184 0 40 (dk_at dksJ13_vectorizedMismatch_3 10 rfl rfl)
theorem dJ13_vectorizedMismatch_83 : decode cJ13_vectorizedMismatch 83 = .ok (.getstatic 46, 3) := dk_178 0 46 (dk_at dksJ13_vectorizedMismatch_3 13 rfl rfl)
theorem dJ13_vectorizedMismatch_86 : decode cJ13_vectorizedMismatch 86 = .ok (.iload 7, 2) := dk_21 7 (dk_at dksJ13_vectorizedMismatch_3 16 rfl rfl)
theorem dJ13_vectorizedMismatch_88 : decode cJ13_vectorizedMismatch 88 = .ok (.iadd, 1) := dk_96 (dk_at dksJ13_vectorizedMismatch_3 18 rfl rfl)
theorem dJ13_vectorizedMismatch_89 : decode cJ13_vectorizedMismatch 89 = .ok (.ishr, 1) := dk_122 (dk_at dksJ13_vectorizedMismatch_3 19 rfl rfl)
theorem dJ13_vectorizedMismatch_90 : decode cJ13_vectorizedMismatch 90 = .ok (.goto 15, 3) := dk_167 0 15 (dk_at dksJ13_vectorizedMismatch_3 20 rfl rfl)
theorem dJ13_vectorizedMismatch_93 : decode cJ13_vectorizedMismatch 93 = .ok (.lload 16, 2) := dk_22 16 (dk_at dksJ13_vectorizedMismatch_4 0 rfl rfl)
theorem dJ13_vectorizedMismatch_95 : decode cJ13_vectorizedMismatch 95 = .ok (.invokestatic 49, 3) := dk_184 0 49 (dk_at dksJ13_vectorizedMismatch_4 2 rfl rfl)
theorem dJ13_vectorizedMismatch_98 : decode cJ13_vectorizedMismatch 98 = .ok (.getstatic 46, 3) := dk_178 0 46 (dk_at dksJ13_vectorizedMismatch_4 5 rfl rfl)
theorem dJ13_vectorizedMismatch_101 : decode cJ13_vectorizedMismatch 101 = .ok (.iload 7, 2) := dk_21 7 (dk_at dksJ13_vectorizedMismatch_4 8 rfl rfl)
theorem dJ13_vectorizedMismatch_103 : decode cJ13_vectorizedMismatch 103 = .ok (.iadd, 1) := dk_96 (dk_at dksJ13_vectorizedMismatch_4 10 rfl rfl)
theorem dJ13_vectorizedMismatch_104 : decode cJ13_vectorizedMismatch 104 = .ok (.ishr, 1) := dk_122 (dk_at dksJ13_vectorizedMismatch_4 11 rfl rfl)
theorem dJ13_vectorizedMismatch_105 : decode cJ13_vectorizedMismatch 105 = .ok (.istore 18, 2) := dk_54 18 (dk_at dksJ13_vectorizedMismatch_4 12 rfl rfl)
theorem dJ13_vectorizedMismatch_107 : decode cJ13_vectorizedMismatch 107 = .ok (.iload 9, 2) := dk_21 9 (dk_at dksJ13_vectorizedMismatch_4 14 rfl rfl)
theorem dJ13_vectorizedMismatch_109 : decode cJ13_vectorizedMismatch 109 = .ok (.iload 8, 2) := dk_21 8 (dk_at dksJ13_vectorizedMismatch_4 16 rfl rfl)
theorem dJ13_vectorizedMismatch_111 : decode cJ13_vectorizedMismatch 111 = .ok (.ishl, 1) := dk_120 (dk_at dksJ13_vectorizedMismatch_4 18 rfl rfl)
theorem dJ13_vectorizedMismatch_112 : decode cJ13_vectorizedMismatch 112 = .ok (.iload 18, 2) := dk_21 18 (dk_at dksJ13_vectorizedMismatch_4 19 rfl rfl)
theorem dJ13_vectorizedMismatch_114 : decode cJ13_vectorizedMismatch 114 = .ok (.iadd, 1) := dk_96 (dk_at dksJ13_vectorizedMismatch_4 21 rfl rfl)
theorem dJ13_vectorizedMismatch_115 : decode cJ13_vectorizedMismatch 115 = .ok (.ireturn, 1) := dk_172 (dk_at dksJ13_vectorizedMismatch_4 22 rfl rfl)
theorem dJ13_vectorizedMismatch_116 : decode cJ13_vectorizedMismatch 116 = .ok (.iinc 9 1, 3) := dk_132 9 1 (dk_at dksJ13_vectorizedMismatch_5 0 rfl rfl)
theorem dJ13_vectorizedMismatch_119 : decode cJ13_vectorizedMismatch 119 = .ok (.goto (-108), 3) := dk_167 255 148 (dk_at dksJ13_vectorizedMismatch_5 3 rfl rfl)
theorem dJ13_vectorizedMismatch_122 : decode cJ13_vectorizedMismatch 122 = .ok (.iload 6, 2) := dk_21 6 (dk_at dksJ13_vectorizedMismatch_5 6 rfl rfl)
theorem dJ13_vectorizedMismatch_124 : decode cJ13_vectorizedMismatch 124 = .ok (.iload 9, 2) := dk_21 9 (dk_at dksJ13_vectorizedMismatch_5 8 rfl rfl)
theorem dJ13_vectorizedMismatch_126 : decode cJ13_vectorizedMismatch 126 = .ok (.iload 8, 2) := dk_21 8 (dk_at dksJ13_vectorizedMismatch_5 10 rfl rfl)
theorem dJ13_vectorizedMismatch_128 : decode cJ13_vectorizedMismatch 128 = .ok (.ishl, 1) := dk_120 (dk_at dksJ13_vectorizedMismatch_5 12 rfl rfl)
theorem dJ13_vectorizedMismatch_129 : decode cJ13_vectorizedMismatch 129 = .ok (.isub, 1) := dk_100 (dk_at dksJ13_vectorizedMismatch_5 13 rfl rfl)
theorem dJ13_vectorizedMismatch_130 : decode cJ13_vectorizedMismatch 130 = .ok (.istore 10, 2) := dk_54 10 (dk_at dksJ13_vectorizedMismatch_5 14 rfl rfl)
theorem dJ13_vectorizedMismatch_132 : decode cJ13_vectorizedMismatch 132 = .ok (.iload 7, 2) := dk_21 7 (dk_at dksJ13_vectorizedMismatch_5 16 rfl rfl)
theorem dJ13_vectorizedMismatch_134 : decode cJ13_vectorizedMismatch 134 = .ok (.getstatic 51, 3) := dk_178 0 51 (dk_at dksJ13_vectorizedMismatch_5 18 rfl rfl)
theorem dJ13_vectorizedMismatch_137 : decode cJ13_vectorizedMismatch 137 = .ok (.if_icmp .ge 126, 3) := dk_162 0 126 (dk_at dksJ13_vectorizedMismatch_5 21 rfl rfl)
theorem dJ13_vectorizedMismatch_140 : decode cJ13_vectorizedMismatch 140 = .ok (.iconst 1, 1) := dk_4 (dk_at dksJ13_vectorizedMismatch_6 0 rfl rfl)
theorem dJ13_vectorizedMismatch_141 : decode cJ13_vectorizedMismatch 141 = .ok (.getstatic 51, 3) := dk_178 0 51 (dk_at dksJ13_vectorizedMismatch_6 1 rfl rfl)
theorem dJ13_vectorizedMismatch_144 : decode cJ13_vectorizedMismatch 144 = .ok (.iload 7, 2) := dk_21 7 (dk_at dksJ13_vectorizedMismatch_6 4 rfl rfl)
theorem dJ13_vectorizedMismatch_146 : decode cJ13_vectorizedMismatch 146 = .ok (.isub, 1) := dk_100 (dk_at dksJ13_vectorizedMismatch_6 6 rfl rfl)
theorem dJ13_vectorizedMismatch_147 : decode cJ13_vectorizedMismatch 147 = .ok (.ishl, 1) := dk_120 (dk_at dksJ13_vectorizedMismatch_6 7 rfl rfl)
theorem dJ13_vectorizedMismatch_148 : decode cJ13_vectorizedMismatch 148 = .ok (.istore 11, 2) := dk_54 11 (dk_at dksJ13_vectorizedMismatch_6 8 rfl rfl)
theorem dJ13_vectorizedMismatch_150 : decode cJ13_vectorizedMismatch 150 = .ok (.iload 10, 2) := dk_21 10 (dk_at dksJ13_vectorizedMismatch_6 10 rfl rfl)
theorem dJ13_vectorizedMismatch_152 : decode cJ13_vectorizedMismatch 152 = .ok (.iload 11, 2) := dk_21 11 (dk_at dksJ13_vectorizedMismatch_6 12 rfl rfl)
theorem dJ13_vectorizedMismatch_154 : decode cJ13_vectorizedMismatch 154 = .ok (.if_icmp .lt 104, 3) := dk_161 0 104 (dk_at dksJ13_vectorizedMismatch_6 14 rfl rfl)
theorem dJ13_vectorizedMismatch_157 : decode cJ13_vectorizedMismatch 157 = .ok (.iload 9, 2) := dk_21 9 (dk_at dksJ13_vectorizedMismatch_6 17 rfl rfl)
theorem dJ13_vectorizedMismatch_159 : decode cJ13_vectorizedMismatch 159 = .ok (.i2l, 1) := dk_133 (dk_at dksJ13_vectorizedMismatch_6 19 rfl rfl)
theorem dJ13_vectorizedMismatch_160 : decode cJ13_vectorizedMismatch 160 = .ok (.getstatic 20, 3) := dk_178 0 20 (dk_at dksJ13_vectorizedMismatch_6 20 rfl rfl)
theorem dJ13_vectorizedMismatch_163 : decode cJ13_vectorizedMismatch 163 = .ok (.lshl, 1) := dk_121 (dk_at dksJ13_vectorizedMismatch_6 23 rfl rfl)
theorem dJ13_vectorizedMismatch_164 : decode cJ13_vectorizedMismatch 164 = .ok (.lstore 12, 2) := dk_55 12 (dk_at dksJ13_vectorizedMismatch_7 0 rfl rfl)
theorem dJ13_vectorizedMismatch_166 : decode cJ13_vectorizedMismatch 166 = .ok (.getstatic 26, 3) := dk_178 0 26 (dk_at dksJ13_vectorizedMismatch_7 2 rfl rfl)
theorem dJ13_vectorizedMismatch_169 : decode cJ13_vectorizedMismatch 169 = .ok (.aload_n 0, 1) := dk_42 (dk_at dksJ13_vectorizedMismatch_7 5 rfl rfl)
theorem dJ13_vectorizedMismatch_170 : decode cJ13_vectorizedMismatch 170 = .ok (.lload_n 1, 1) := dk_31 (dk_at dksJ13_vectorizedMismatch_7 6 rfl rfl)
theorem dJ13_vectorizedMismatch_171 : decode cJ13_vectorizedMismatch 171 = .ok (.lload 12, 2) := dk_22 12 (dk_at dksJ13_vectorizedMismatch_7 7 rfl rfl)
theorem dJ13_vectorizedMismatch_173 : decode cJ13_vectorizedMismatch 173 = .ok (.ladd, 1) := dk_97 (dk_at dksJ13_vectorizedMismatch_7 9 rfl rfl)
theorem dJ13_vectorizedMismatch_174 : decode cJ13_vectorizedMismatch 174 = .ok (.invokevirtual 54, 3) := dk_182 0 54 (dk_at dksJ13_vectorizedMismatch_7 10 rfl rfl)
theorem dJ13_vectorizedMismatch_177 : decode cJ13_vectorizedMismatch 177 = .ok (.istore 14, 2) := dk_54 14 (dk_at dksJ13_vectorizedMismatch_7 13 rfl rfl)
theorem dJ13_vectorizedMismatch_179 : decode cJ13_vectorizedMismatch 179 = .ok (.getstatic 26, 3) := dk_178 0 26 (dk_at dksJ13_vectorizedMismatch_7 15 rfl rfl)
theorem dJ13_vectorizedMismatch_182 : decode cJ13_vectorizedMismatch 182 = .ok (.aload_n 3, 1) := dk_45 (dk_at dksJ13_vectorizedMismatch_7 18 rfl rfl)
theorem dJ13_vectorizedMismatch_183 : decode cJ13_vectorizedMismatch 183 = .ok (.lload 4, 2) := dk_22 4 (dk_at dksJ13_vectorizedMismatch_7 19 rfl rfl)
theorem dJ13_vectorizedMismatch_185 : decode cJ13_vectorizedMismatch 185 = .ok (.lload 12, 2) := dk_22 12 (dk_at dksJ13_vectorizedMismatch_7 21 rfl rfl)
theorem dJ13_vectorizedMismatch_187 : decode cJ13_vectorizedMismatch 187 = .ok (.ladd, 1) := dk_97 (dk_at dksJ13_vectorizedMismatch_7 23 rfl rfl)
theorem dJ13_vectorizedMismatch_188 : decode cJ13_vectorizedMismatch 188 = .ok (.invokevirtual 54, 3) := dk_182 0 54 (dk_at dksJ13_vectorizedMismatch_8 0 rfl rfl)
theorem dJ13_vectorizedMismatch_191 : decode cJ13_vectorizedMismatch 191 = .ok (.istore 15, 2) := dk_54 15 (dk_at dksJ13_vectorizedMismatch_8 3 rfl rfl)
theorem dJ13_vectorizedMismatch_193 : decode cJ13_vectorizedMismatch 193 = .ok (.iload 14, 2) := dk_21 14 (dk_at dksJ13_vectorizedMismatch_8 5 rfl rfl)
theorem dJ13_vectorizedMismatch_195 : decode cJ13_vectorizedMismatch 195 = .ok (.iload 15, 2) := dk_21 15 (dk_at dksJ13_vectorizedMismatch_8 7 rfl rfl)
theorem dJ13_vectorizedMismatch_197 : decode cJ13_vectorizedMismatch 197 = .ok (.if_icmp .eq 54, 3) := dk_159 0 54 (dk_at dksJ13_vectorizedMismatch_8 9 rfl rfl)
theorem dJ13_vectorizedMismatch_200 : decode cJ13_vectorizedMismatch 200 = .ok (.iload 14, 2) := dk_21 14 (dk_at dksJ13_vectorizedMismatch_8 12 rfl rfl)
theorem dJ13_vectorizedMismatch_202 : decode cJ13_vectorizedMismatch 202 = .ok (.iload 15, 2) := dk_21 15 (dk_at dksJ13_vectorizedMismatch_8 14 rfl rfl)
theorem dJ13_vectorizedMismatch_204 : decode cJ13_vectorizedMismatch 204 = .ok (.ixor, 1) := dk_130 (dk_at dksJ13_vectorizedMismatch_8 16 rfl rfl)
theorem dJ13_vectorizedMismatch_205 : decode cJ13_vectorizedMismatch 205 = .ok (.istore 16, 2) := dk_54 16 (dk_at dksJ13_vectorizedMismatch_8 17 rfl rfl)
theorem dJ13_vectorizedMismatch_207 : decode cJ13_vectorizedMismatch 207 = .ok (.getstatic 36, 3) := dk_178 0 36 (dk_at dksJ13_vectorizedMismatch_8 19 rfl rfl)
theorem dJ13_vectorizedMismatch_210 : decode cJ13_vectorizedMismatch 210 = .ok (.ifCond .eq 18, 3) := dk_153 0 18 (dk_at dksJ13_vectorizedMismatch_9 0 rfl rfl)
theorem dJ13_vectorizedMismatch_213 : decode cJ13_vectorizedMismatch 213 = .ok (.iload 16, 2) := dk_21 16 (dk_at dksJ13_vectorizedMismatch_9 3 rfl rfl)
theorem dJ13_vectorizedMismatch_215 : decode cJ13_vectorizedMismatch 215 = .ok (.invokestatic 58, 3) := dk_184 0 58 (dk_at dksJ13_vectorizedMismatch_9 5 rfl rfl)
theorem dJ13_vectorizedMismatch_218 : decode cJ13_vectorizedMismatch 218 = .ok (.getstatic 46, 3) := dk_178 0 46 (dk_at dksJ13_vectorizedMismatch_9 8 rfl rfl)
theorem dJ13_vectorizedMismatch_221 : decode cJ13_vectorizedMismatch 221 = .ok (.iload 7, 2) := dk_21 7 (dk_at dksJ13_vectorizedMismatch_9 11 rfl rfl)
theorem dJ13_vectorizedMismatch_223 : decode cJ13_vectorizedMismatch 223 = .ok (.iadd, 1) := dk_96 (dk_at dksJ13_vectorizedMismatch_9 13 rfl rfl)
theorem dJ13_vectorizedMismatch_224 : decode cJ13_vectorizedMismatch 224 = .ok (.ishr, 1) := dk_122 (dk_at dksJ13_vectorizedMismatch_9 14 rfl rfl)
theorem dJ13_vectorizedMismatch_225 : decode cJ13_vectorizedMismatch 225 = .ok (.goto 15, 3) := dk_167 0 15 (dk_at dksJ13_vectorizedMismatch_9 15 rfl rfl)
theorem dJ13_vectorizedMismatch_228 : decode cJ13_vectorizedMismatch 228 = .ok (.iload 16, 2) := dk_21 16 (dk_at dksJ13_vectorizedMismatch_9 18 rfl rfl)
theorem dJ13_vectorizedMismatch_230 : decode cJ13_vectorizedMismatch 230 = .ok (.invokestatic 11, 3) := dk_184 0 11 (dk_at dksJ13_vectorizedMismatch_9 20 rfl rfl)
theorem dJ13_vectorizedMismatch_233 : decode cJ13_vectorizedMismatch 233 = .ok (.getstatic 46, 3) := dk_178 0 46 (dk_at dksJ13_vectorizedMismatch_10 0 rfl rfl)
theorem dJ13_vectorizedMismatch_236 : decode cJ13_vectorizedMismatch 236 = .ok (.iload 7, 2) := dk_21 7 (dk_at dksJ13_vectorizedMismatch_10 3 rfl rfl)
theorem dJ13_vectorizedMismatch_238 : decode cJ13_vectorizedMismatch 238 = .ok (.iadd, 1) := dk_96 (dk_at dksJ13_vectorizedMismatch_10 5 rfl rfl)
theorem dJ13_vectorizedMismatch_239 : decode cJ13_vectorizedMismatch 239 = .ok (.ishr, 1) := dk_122 (dk_at dksJ13_vectorizedMismatch_10 6 rfl rfl)
theorem dJ13_vectorizedMismatch_240 : decode cJ13_vectorizedMismatch 240 = .ok (.istore 17, 2) := dk_54 17 (dk_at dksJ13_vectorizedMismatch_10 7 rfl rfl)
theorem dJ13_vectorizedMismatch_242 : decode cJ13_vectorizedMismatch 242 = .ok (.iload 9, 2) := dk_21 9 (dk_at dksJ13_vectorizedMismatch_10 9 rfl rfl)
theorem dJ13_vectorizedMismatch_244 : decode cJ13_vectorizedMismatch 244 = .ok (.iload 8, 2) := dk_21 8 (dk_at dksJ13_vectorizedMismatch_10 11 rfl rfl)
theorem dJ13_vectorizedMismatch_246 : decode cJ13_vectorizedMismatch 246 = .ok (.ishl, 1) := dk_120 (dk_at dksJ13_vectorizedMismatch_10 13 rfl rfl)
theorem dJ13_vectorizedMismatch_247 : decode cJ13_vectorizedMismatch 247 = .ok (.iload 17, 2) := dk_21 17 (dk_at dksJ13_vectorizedMismatch_10 14 rfl rfl)
theorem dJ13_vectorizedMismatch_249 : decode cJ13_vectorizedMismatch 249 = .ok (.iadd, 1) := dk_96 (dk_at dksJ13_vectorizedMismatch_10 16 rfl rfl)
theorem dJ13_vectorizedMismatch_250 : decode cJ13_vectorizedMismatch 250 = .ok (.ireturn, 1) := dk_172 (dk_at dksJ13_vectorizedMismatch_10 17 rfl rfl)
theorem dJ13_vectorizedMismatch_251 : decode cJ13_vectorizedMismatch 251 = .ok (.iload 10, 2) := dk_21 10 (dk_at dksJ13_vectorizedMismatch_10 18 rfl rfl)
theorem dJ13_vectorizedMismatch_253 : decode cJ13_vectorizedMismatch 253 = .ok (.iload 11, 2) := dk_21 11 (dk_at dksJ13_vectorizedMismatch_10 20 rfl rfl)
theorem dJ13_vectorizedMismatch_255 : decode cJ13_vectorizedMismatch 255 = .ok (.isub, 1) := dk_100 (dk_at dksJ13_vectorizedMismatch_10 22 rfl rfl)
theorem dJ13_vectorizedMismatch_256 : decode cJ13_vectorizedMismatch 256 = .ok (.istore 10, 2) := dk_54 10 (dk_at dksJ13_vectorizedMismatch_11 0 rfl rfl)
theorem dJ13_vectorizedMismatch_258 : decode cJ13_vectorizedMismatch 258 = .ok (.iload 10, 2) := dk_21 10 (dk_at dksJ13_vectorizedMismatch_11 2 rfl rfl)
theorem dJ13_vectorizedMismatch_260 : decode cJ13_vectorizedMismatch 260 = .ok (.iconst (-1), 1) := dk_2 (dk_at dksJ13_vectorizedMismatch_11 4 rfl rfl)
theorem dJ13_vectorizedMismatch_261 : decode cJ13_vectorizedMismatch 261 = .ok (.ixor, 1) := dk_130 (dk_at dksJ13_vectorizedMismatch_11 5 rfl rfl)
theorem dJ13_vectorizedMismatch_262 : decode cJ13_vectorizedMismatch 262 = .ok (.ireturn, 1) := dk_172 (dk_at dksJ13_vectorizedMismatch_11 6 rfl rfl)
theorem dJ13_vectorizedMismatch_263 : decode cJ13_vectorizedMismatch 263 = .ok (.iload 10, 2) := dk_21 10 (dk_at dksJ13_vectorizedMismatch_11 7 rfl rfl)
theorem dJ13_vectorizedMismatch_265 : decode cJ13_vectorizedMismatch 265 = .ok (.iconst (-1), 1) := dk_2 (dk_at dksJ13_vectorizedMismatch_11 9 rfl rfl)
theorem dJ13_vectorizedMismatch_266 : decode cJ13_vectorizedMismatch 266 = .ok (.ixor, 1) := dk_130 (dk_at dksJ13_vectorizedMismatch_11 10 rfl rfl)
theorem dJ13_vectorizedMismatch_267 : decode cJ13_vectorizedMismatch 267 = .ok (.ireturn, 1) := dk_172 (dk_at dksJ13_vectorizedMismatch_11 11 rfl rfl)
theorem q120 : (Jvm.Cond.initialized "jdk/internal/util/ArraysSupport") ∈ lw_all := lw_g (lw_at lw_m1 19 rfl) rfl
theorem q525 : (Jvm.Cond.static ({ cls := "jdk/internal/util/ArraysSupport", name := "newLength", desc := "(III)I" } : Jvm.MethodName)) ∈ lw_all := lw_g (lw_at lw_m2 184 rfl) rfl
theorem q526 : (Jvm.Cond.code ({ cls := "jdk/internal/util/ArraysSupport", name := "newLength", desc := "(III)I" } : Jvm.MethodName) prog_74_method_27_code (4 : Nat) (Option.some Jvm.ClassFile.FieldType.int)) ∈ lw_all := lw_g (lw_at lw_m2 185 rfl) rfl
theorem q527 : (Jvm.Cond.methodLink "jdk/internal/util/ArraysSupport" (194 : Nat) ({ cls := "java/lang/Math", name := "max", desc := "(II)I" } : Jvm.MethodName)) ∈ lw_all := lw_g (lw_at lw_m2 186 rfl) rfl
theorem q530 : (Jvm.Cond.constant "jdk/internal/util/ArraysSupport" (200 : Nat) (2147483639 : Int32)) ∈ lw_all := lw_g (lw_at lw_m2 189 rfl) rfl
theorem q531 : (Jvm.Cond.methodLink "jdk/internal/util/ArraysSupport" (201 : Nat) ({ cls := "jdk/internal/util/ArraysSupport", name := "hugeLength", desc := "(II)I" } : Jvm.MethodName)) ∈ lw_all := lw_g (lw_at lw_m2 190 rfl) rfl
theorem q532 : (Jvm.Cond.static ({ cls := "jdk/internal/util/ArraysSupport", name := "hugeLength", desc := "(II)I" } : Jvm.MethodName)) ∈ lw_all := lw_g (lw_at lw_m2 191 rfl) rfl
theorem q533 : (Jvm.Cond.code ({ cls := "jdk/internal/util/ArraysSupport", name := "hugeLength", desc := "(II)I" } : Jvm.MethodName) prog_74_method_28_code (3 : Nat) (Option.some Jvm.ClassFile.FieldType.int)) ∈ lw_all := lw_g (lw_at lw_m2 192 rfl) rfl
theorem q1132 : (Jvm.Cond.static ({ cls := "jdk/internal/util/ArraysSupport", name := "mismatch", desc := "([B[BI)I" } : Jvm.MethodName)) ∈ lw_all := lw_g (lw_at lw_m5 71 rfl) rfl
theorem q1133 : (Jvm.Cond.code ({ cls := "jdk/internal/util/ArraysSupport", name := "mismatch", desc := "([B[BI)I" } : Jvm.MethodName) prog_74_method_13_code (4 : Nat) (Option.some Jvm.ClassFile.FieldType.int)) ∈ lw_all := lw_g (lw_at lw_m5 72 rfl) rfl
theorem q1134 : (Jvm.Cond.fieldLink "jdk/internal/util/ArraysSupport" (126 : Nat) "jdk/internal/misc/Unsafe" "ARRAY_BYTE_BASE_OFFSET" "I") ∈ lw_all := lw_g (lw_at lw_m5 73 rfl) rfl
theorem q1136 : (Jvm.Cond.fieldLink "jdk/internal/util/ArraysSupport" (129 : Nat) "jdk/internal/util/ArraysSupport" "LOG2_ARRAY_BYTE_INDEX_SCALE" "I") ∈ lw_all := lw_g (lw_at lw_m5 75 rfl) rfl
theorem q1137 : (Jvm.Cond.laysStatic "jdk/internal/util/ArraysSupport" "LOG2_ARRAY_BYTE_INDEX_SCALE" "I") ∈ lw_tbl := lw_at lw_m5 76 rfl
theorem q1138 : (Jvm.Cond.methodLink "jdk/internal/util/ArraysSupport" (122 : Nat) ({ cls := "jdk/internal/util/ArraysSupport", name := "vectorizedMismatch", desc := "(Ljava/lang/Object;JLjava/lang/Object;JII)I" } : Jvm.MethodName)) ∈ lw_all := lw_g (lw_at lw_m5 77 rfl) rfl
theorem q1139 : (Jvm.Cond.static ({ cls := "jdk/internal/util/ArraysSupport", name := "vectorizedMismatch", desc := "(Ljava/lang/Object;JLjava/lang/Object;JII)I" } : Jvm.MethodName)) ∈ lw_all := lw_g (lw_at lw_m5 78 rfl) rfl
theorem q1140 : (Jvm.Cond.code ({ cls := "jdk/internal/util/ArraysSupport", name := "vectorizedMismatch", desc := "(Ljava/lang/Object;JLjava/lang/Object;JII)I" } : Jvm.MethodName) prog_74_method_3_code (19 : Nat) (Option.some Jvm.ClassFile.FieldType.int)) ∈ lw_all := lw_g (lw_at lw_m5 79 rfl) rfl
theorem q1141 : (Jvm.Cond.fieldLink "jdk/internal/util/ArraysSupport" (20 : Nat) "jdk/internal/util/ArraysSupport" "LOG2_ARRAY_LONG_INDEX_SCALE" "I") ∈ lw_all := lw_g (lw_at lw_m5 80 rfl) rfl
theorem q1142 : (Jvm.Cond.laysStatic "jdk/internal/util/ArraysSupport" "LOG2_ARRAY_LONG_INDEX_SCALE" "I") ∈ lw_tbl := lw_at lw_m5 81 rfl
theorem q1143 : (Jvm.Cond.fieldLink "jdk/internal/util/ArraysSupport" (26 : Nat) "jdk/internal/util/ArraysSupport" "U" "Ljdk/internal/misc/Unsafe;") ∈ lw_all := lw_g (lw_at lw_m5 82 rfl) rfl
theorem q1144 : (Jvm.Cond.laysStatic "jdk/internal/util/ArraysSupport" "U" "Ljdk/internal/misc/Unsafe;") ∈ lw_tbl := lw_at lw_m5 83 rfl
theorem q1145 : (Jvm.Cond.methodLink "jdk/internal/util/ArraysSupport" (30 : Nat) ({ cls := "jdk/internal/misc/Unsafe", name := "getLongUnaligned", desc := "(Ljava/lang/Object;J)J" } : Jvm.MethodName)) ∈ lw_all := lw_g (lw_at lw_m5 84 rfl) rfl
theorem q1197 : (Jvm.Cond.fieldLink "jdk/internal/util/ArraysSupport" (36 : Nat) "jdk/internal/util/ArraysSupport" "BIG_ENDIAN" "Z") ∈ lw_all := lw_g (lw_at lw_m5 136 rfl) rfl
theorem q1198 : (Jvm.Cond.laysStatic "jdk/internal/util/ArraysSupport" "BIG_ENDIAN" "Z") ∈ lw_tbl := lw_at lw_m5 137 rfl
theorem q1199 : (Jvm.Cond.methodLink "jdk/internal/util/ArraysSupport" (40 : Nat) ({ cls := "java/lang/Long", name := "numberOfLeadingZeros", desc := "(J)I" } : Jvm.MethodName)) ∈ lw_all := lw_g (lw_at lw_m5 138 rfl) rfl
theorem q1206 : (Jvm.Cond.fieldLink "jdk/internal/util/ArraysSupport" (46 : Nat) "jdk/internal/util/ArraysSupport" "LOG2_BYTE_BIT_SIZE" "I") ∈ lw_all := lw_g (lw_at lw_m5 145 rfl) rfl
theorem q1207 : (Jvm.Cond.laysStatic "jdk/internal/util/ArraysSupport" "LOG2_BYTE_BIT_SIZE" "I") ∈ lw_tbl := lw_at lw_m5 146 rfl
theorem q1208 : (Jvm.Cond.methodLink "jdk/internal/util/ArraysSupport" (49 : Nat) ({ cls := "java/lang/Long", name := "numberOfTrailingZeros", desc := "(J)I" } : Jvm.MethodName)) ∈ lw_all := lw_g (lw_at lw_m5 147 rfl) rfl
theorem q1214 : (Jvm.Cond.fieldLink "jdk/internal/util/ArraysSupport" (51 : Nat) "jdk/internal/util/ArraysSupport" "LOG2_ARRAY_INT_INDEX_SCALE" "I") ∈ lw_all := lw_g (lw_at lw_m5 153 rfl) rfl
theorem q1215 : (Jvm.Cond.laysStatic "jdk/internal/util/ArraysSupport" "LOG2_ARRAY_INT_INDEX_SCALE" "I") ∈ lw_tbl := lw_at lw_m5 154 rfl
theorem q1216 : (Jvm.Cond.methodLink "jdk/internal/util/ArraysSupport" (54 : Nat) ({ cls := "jdk/internal/misc/Unsafe", name := "getIntUnaligned", desc := "(Ljava/lang/Object;J)I" } : Jvm.MethodName)) ∈ lw_all := lw_g (lw_at lw_m5 155 rfl) rfl
theorem q1233 : (Jvm.Cond.methodLink "jdk/internal/util/ArraysSupport" (58 : Nat) ({ cls := "java/lang/Integer", name := "numberOfLeadingZeros", desc := "(I)I" } : Jvm.MethodName)) ∈ lw_all := lw_g (lw_at lw_m5 172 rfl) rfl
theorem q1234 : (Jvm.Cond.methodLink "jdk/internal/util/ArraysSupport" (11 : Nat) ({ cls := "java/lang/Integer", name := "numberOfTrailingZeros", desc := "(I)I" } : Jvm.MethodName)) ∈ lw_all := lw_g (lw_at lw_m5 173 rfl) rfl

/-! java/lang/Math -/
set_option maxRecDepth 100000
def RJ14 : String := "java/lang/Math"
abbrev cJ14_max : ByteArray := prog_39_method_65_code
def yJ14_max : MethodName := ⟨RJ14, "max", "(II)I"⟩
def dkwJ14_max_0 : List UInt8 := [26, 27, 161, 0, 7, 26, 167, 0, 4, 27, 172]
abbrev dktJ14_max_0 : List UInt8 := dkwJ14_max_0 ++ []
theorem dksJ14_max_0 : cJ14_max.data.toList.drop 0 = dktJ14_max_0 := by decide +kernel
theorem dJ14_max_0 : decode cJ14_max 0 = .ok (.iload_n 0, 1) := dk_26 (dk_at dksJ14_max_0 0 rfl rfl)
theorem dJ14_max_1 : decode cJ14_max 1 = .ok (.iload_n 1, 1) := dk_27 (dk_at dksJ14_max_0 1 rfl rfl)
theorem dJ14_max_2 : decode cJ14_max 2 = .ok (.if_icmp .lt 7, 3) := dk_161 0 7 (dk_at dksJ14_max_0 2 rfl rfl)
theorem dJ14_max_5 : decode cJ14_max 5 = .ok (.iload_n 0, 1) := dk_26 (dk_at dksJ14_max_0 5 rfl rfl)
theorem dJ14_max_6 : decode cJ14_max 6 = .ok (.goto 4, 3) := dk_167 0 4 (dk_at dksJ14_max_0 6 rfl rfl)
theorem dJ14_max_9 : decode cJ14_max 9 = .ok (.iload_n 1, 1) := dk_27 (dk_at dksJ14_max_0 9 rfl rfl)
theorem dJ14_max_10 : decode cJ14_max 10 = .ok (.ireturn, 1) := dk_172 (dk_at dksJ14_max_0 10 rfl rfl)
abbrev cJ14_min : ByteArray := prog_39_method_69_code
def yJ14_min : MethodName := ⟨RJ14, "min", "(II)I"⟩
def dkwJ14_min_0 : List UInt8 := [26, 27, 163, 0, 7, 26, 167, 0, 4, 27, 172]
abbrev dktJ14_min_0 : List UInt8 := dkwJ14_min_0 ++ []
theorem dksJ14_min_0 : cJ14_min.data.toList.drop 0 = dktJ14_min_0 := by decide +kernel
theorem dJ14_min_0 : decode cJ14_min 0 = .ok (.iload_n 0, 1) := dk_26 (dk_at dksJ14_min_0 0 rfl rfl)
theorem dJ14_min_1 : decode cJ14_min 1 = .ok (.iload_n 1, 1) := dk_27 (dk_at dksJ14_min_0 1 rfl rfl)
theorem dJ14_min_2 : decode cJ14_min 2 = .ok (.if_icmp .gt 7, 3) := dk_163 0 7 (dk_at dksJ14_min_0 2 rfl rfl)
theorem dJ14_min_5 : decode cJ14_min 5 = .ok (.iload_n 0, 1) := dk_26 (dk_at dksJ14_min_0 5 rfl rfl)
theorem dJ14_min_6 : decode cJ14_min 6 = .ok (.goto 4, 3) := dk_167 0 4 (dk_at dksJ14_min_0 6 rfl rfl)
theorem dJ14_min_9 : decode cJ14_min 9 = .ok (.iload_n 1, 1) := dk_27 (dk_at dksJ14_min_0 9 rfl rfl)
theorem dJ14_min_10 : decode cJ14_min 10 = .ok (.ireturn, 1) := dk_172 (dk_at dksJ14_min_0 10 rfl rfl)
abbrev cJ14_floorMod : ByteArray := prog_39_method_50_code
def yJ14_floorMod : MethodName := ⟨RJ14, "floorMod", "(II)I"⟩
def dkwJ14_floorMod_0 : List UInt8 := [26, 27, 112, 61, 26, 27, 130, 156, 0, 11, 28, 153, 0, 7, 28, 27, 96, 172, 28, 172]
abbrev dktJ14_floorMod_0 : List UInt8 := dkwJ14_floorMod_0 ++ []
theorem dksJ14_floorMod_0 : cJ14_floorMod.data.toList.drop 0 = dktJ14_floorMod_0 := by decide +kernel
theorem dJ14_floorMod_0 : decode cJ14_floorMod 0 = .ok (.iload_n 0, 1) := dk_26 (dk_at dksJ14_floorMod_0 0 rfl rfl)
theorem dJ14_floorMod_1 : decode cJ14_floorMod 1 = .ok (.iload_n 1, 1) := dk_27 (dk_at dksJ14_floorMod_0 1 rfl rfl)
theorem dJ14_floorMod_2 : decode cJ14_floorMod 2 = .ok (.irem, 1) := dk_112 (dk_at dksJ14_floorMod_0 2 rfl rfl)
theorem dJ14_floorMod_3 : decode cJ14_floorMod 3 = .ok (.istore_n 2, 1) := dk_61 (dk_at dksJ14_floorMod_0 3 rfl rfl)
theorem dJ14_floorMod_4 : decode cJ14_floorMod 4 = .ok (.iload_n 0, 1) := dk_26 (dk_at dksJ14_floorMod_0 4 rfl rfl)
theorem dJ14_floorMod_5 : decode cJ14_floorMod 5 = .ok (.iload_n 1, 1) := dk_27 (dk_at dksJ14_floorMod_0 5 rfl rfl)
theorem dJ14_floorMod_6 : decode cJ14_floorMod 6 = .ok (.ixor, 1) := dk_130 (dk_at dksJ14_floorMod_0 6 rfl rfl)
theorem dJ14_floorMod_7 : decode cJ14_floorMod 7 = .ok (.ifCond .ge 11, 3) := dk_156 0 11 (dk_at dksJ14_floorMod_0 7 rfl rfl)
theorem dJ14_floorMod_10 : decode cJ14_floorMod 10 = .ok (.iload_n 2, 1) := dk_28 (dk_at dksJ14_floorMod_0 10 rfl rfl)
theorem dJ14_floorMod_11 : decode cJ14_floorMod 11 = .ok (.ifCond .eq 7, 3) := dk_153 0 7 (dk_at dksJ14_floorMod_0 11 rfl rfl)
theorem dJ14_floorMod_14 : decode cJ14_floorMod 14 = .ok (.iload_n 2, 1) := dk_28 (dk_at dksJ14_floorMod_0 14 rfl rfl)
theorem dJ14_floorMod_15 : decode cJ14_floorMod 15 = .ok (.iload_n 1, 1) := dk_27 (dk_at dksJ14_floorMod_0 15 rfl rfl)
theorem dJ14_floorMod_16 : decode cJ14_floorMod 16 = .ok (.iadd, 1) := dk_96 (dk_at dksJ14_floorMod_0 16 rfl rfl)
theorem dJ14_floorMod_17 : decode cJ14_floorMod 17 = .ok (.ireturn, 1) := dk_172 (dk_at dksJ14_floorMod_0 17 rfl rfl)
theorem dJ14_floorMod_18 : decode cJ14_floorMod 18 = .ok (.iload_n 2, 1) := dk_28 (dk_at dksJ14_floorMod_0 18 rfl rfl)
theorem dJ14_floorMod_19 : decode cJ14_floorMod 19 = .ok (.ireturn, 1) := dk_172 (dk_at dksJ14_floorMod_0 19 rfl rfl)
abbrev cJ14_abs : ByteArray := prog_39_method_59_code
def yJ14_abs : MethodName := ⟨RJ14, "abs", "(I)I"⟩
def dkwJ14_abs_0 : List UInt8 := [26, 156, 0, 8, 26, 116, 167, 0, 4, 26, 172]
abbrev dktJ14_abs_0 : List UInt8 := dkwJ14_abs_0 ++ []
theorem dksJ14_abs_0 : cJ14_abs.data.toList.drop 0 = dktJ14_abs_0 := by decide +kernel
theorem dJ14_abs_0 : decode cJ14_abs 0 = .ok (.iload_n 0, 1) := dk_26 (dk_at dksJ14_abs_0 0 rfl rfl)
theorem dJ14_abs_1 : decode cJ14_abs 1 = .ok (.ifCond .ge 8, 3) := dk_156 0 8 (dk_at dksJ14_abs_0 1 rfl rfl)
theorem dJ14_abs_4 : decode cJ14_abs 4 = .ok (.iload_n 0, 1) := dk_26 (dk_at dksJ14_abs_0 4 rfl rfl)
theorem dJ14_abs_5 : decode cJ14_abs 5 = .ok (.ineg, 1) := dk_116 (dk_at dksJ14_abs_0 5 rfl rfl)
theorem dJ14_abs_6 : decode cJ14_abs 6 = .ok (.goto 4, 3) := dk_167 0 4 (dk_at dksJ14_abs_0 6 rfl rfl)
theorem dJ14_abs_9 : decode cJ14_abs 9 = .ok (.iload_n 0, 1) := dk_26 (dk_at dksJ14_abs_0 9 rfl rfl)
theorem dJ14_abs_10 : decode cJ14_abs 10 = .ok (.ireturn, 1) := dk_172 (dk_at dksJ14_abs_0 10 rfl rfl)
theorem q121 : (Jvm.Cond.initialized "java/lang/Math") ∈ lw_all := lw_g (lw_at lw_m1 20 rfl) rfl
theorem q528 : (Jvm.Cond.static ({ cls := "java/lang/Math", name := "max", desc := "(II)I" } : Jvm.MethodName)) ∈ lw_all := lw_g (lw_at lw_m2 187 rfl) rfl
theorem q529 : (Jvm.Cond.code ({ cls := "java/lang/Math", name := "max", desc := "(II)I" } : Jvm.MethodName) prog_39_method_65_code (2 : Nat) (Option.some Jvm.ClassFile.FieldType.int)) ∈ lw_all := lw_g (lw_at lw_m2 188 rfl) rfl
theorem q546 : (Jvm.Cond.static ({ cls := "java/lang/Math", name := "min", desc := "(II)I" } : Jvm.MethodName)) ∈ lw_all := lw_g (lw_at lw_m2 205 rfl) rfl
theorem q547 : (Jvm.Cond.code ({ cls := "java/lang/Math", name := "min", desc := "(II)I" } : Jvm.MethodName) prog_39_method_69_code (2 : Nat) (Option.some Jvm.ClassFile.FieldType.int)) ∈ lw_all := lw_g (lw_at lw_m2 206 rfl) rfl
theorem q1613 : (Jvm.Cond.static ({ cls := "java/lang/Math", name := "floorMod", desc := "(II)I" } : Jvm.MethodName)) ∈ lw_all := lw_g (lw_at lw_m7 72 rfl) rfl
theorem q1614 : (Jvm.Cond.code ({ cls := "java/lang/Math", name := "floorMod", desc := "(II)I" } : Jvm.MethodName) prog_39_method_50_code (3 : Nat) (Option.some Jvm.ClassFile.FieldType.int)) ∈ lw_all := lw_g (lw_at lw_m7 73 rfl) rfl
theorem q1692 : (Jvm.Cond.static ({ cls := "java/lang/Math", name := "abs", desc := "(I)I" } : Jvm.MethodName)) ∈ lw_all := lw_g (lw_at lw_m7 151 rfl) rfl
theorem q1693 : (Jvm.Cond.code ({ cls := "java/lang/Math", name := "abs", desc := "(I)I" } : Jvm.MethodName) prog_39_method_59_code (1 : Nat) (Option.some Jvm.ClassFile.FieldType.int)) ∈ lw_all := lw_g (lw_at lw_m7 152 rfl) rfl

/-! java/util/Arrays -/
set_option maxRecDepth 100000
def RJ15 : String := "java/util/Arrays"
abbrev cJ15_copyOf : ByteArray := prog_56_method_121_code
def yJ15_copyOf : MethodName := ⟨RJ15, "copyOf", "([BI)[B"⟩
def dkwJ15_copyOf_1 : List UInt8 := [27, 184, 1, 48, 184, 0, 150, 44, 176]
abbrev dktJ15_copyOf_1 : List UInt8 := dkwJ15_copyOf_1 ++ []
def dkwJ15_copyOf_0 : List UInt8 := [27, 42, 190, 160, 0, 11, 42, 182, 1, 54, 192, 1, 55, 176, 27, 188, 8, 77, 42, 3, 44, 3, 42, 190]
abbrev dktJ15_copyOf_0 : List UInt8 := dkwJ15_copyOf_0 ++ dktJ15_copyOf_1
theorem dksJ15_copyOf_0 : cJ15_copyOf.data.toList.drop 0 = dktJ15_copyOf_0 := by decide +kernel
theorem dksJ15_copyOf_1 : cJ15_copyOf.data.toList.drop 24 = dktJ15_copyOf_1 := dk_seg dksJ15_copyOf_0 24 rfl rfl
theorem dJ15_copyOf_0 : decode cJ15_copyOf 0 = .ok (.iload_n 1, 1) := dk_27 (dk_at dksJ15_copyOf_0 0 rfl rfl)
theorem dJ15_copyOf_1 : decode cJ15_copyOf 1 = .ok (.aload_n 0, 1) := dk_42 (dk_at dksJ15_copyOf_0 1 rfl rfl)
theorem dJ15_copyOf_2 : decode cJ15_copyOf 2 = .ok (.arraylength, 1) := dk_190 (dk_at dksJ15_copyOf_0 2 rfl rfl)
theorem dJ15_copyOf_3 : decode cJ15_copyOf 3 = .ok (.if_icmp .ne 11, 3) := dk_160 0 11 (dk_at dksJ15_copyOf_0 3 rfl rfl)
theorem dJ15_copyOf_6 : decode cJ15_copyOf 6 = .ok (.aload_n 0, 1) := dk_42 (dk_at dksJ15_copyOf_0 6 rfl rfl)
theorem dJ15_copyOf_7 : decode cJ15_copyOf 7 = .ok (.invokevirtual 310, 3) := dk_182 1 54 (dk_at dksJ15_copyOf_0 7 rfl rfl)
theorem dJ15_copyOf_10 : decode cJ15_copyOf 10 = .ok (.checkcast 311, 3) := dk_192 1 55 (dk_at dksJ15_copyOf_0 10 rfl rfl)
theorem dJ15_copyOf_13 : decode cJ15_copyOf 13 = .ok (.areturn, 1) := dk_176 (dk_at dksJ15_copyOf_0 13 rfl rfl)
theorem dJ15_copyOf_14 : decode cJ15_copyOf 14 = .ok (.iload_n 1, 1) := dk_27 (dk_at dksJ15_copyOf_0 14 rfl rfl)
theorem dJ15_copyOf_15 : decode cJ15_copyOf 15 = .ok (.newarray .byte, 2) := dk_188_8 (dk_at dksJ15_copyOf_0 15 rfl rfl)
theorem dJ15_copyOf_17 : decode cJ15_copyOf 17 = .ok (.astore_n 2, 1) := dk_77 (dk_at dksJ15_copyOf_0 17 rfl rfl)
theorem dJ15_copyOf_18 : decode cJ15_copyOf 18 = .ok (.aload_n 0, 1) := dk_42 (dk_at dksJ15_copyOf_0 18 rfl rfl)
theorem dJ15_copyOf_19 : decode cJ15_copyOf 19 = .ok (.iconst 0, 1) := dk_3 (dk_at dksJ15_copyOf_0 19 rfl rfl)
theorem dJ15_copyOf_20 : decode cJ15_copyOf 20 = .ok (.aload_n 2, 1) := dk_44 (dk_at dksJ15_copyOf_0 20 rfl rfl)
theorem dJ15_copyOf_21 : decode cJ15_copyOf 21 = .ok (.iconst 0, 1) := dk_3 (dk_at dksJ15_copyOf_0 21 rfl rfl)
theorem dJ15_copyOf_22 : decode cJ15_copyOf 22 = .ok (.aload_n 0, 1) := dk_42 (dk_at dksJ15_copyOf_0 22 rfl rfl)
theorem dJ15_copyOf_23 : decode cJ15_copyOf 23 = .ok (.arraylength, 1) := dk_190 (dk_at dksJ15_copyOf_0 23 rfl rfl)
theorem dJ15_copyOf_24 : decode cJ15_copyOf 24 = .ok (.iload_n 1, 1) := dk_27 (dk_at dksJ15_copyOf_1 0 rfl rfl)
theorem dJ15_copyOf_25 : decode cJ15_copyOf 25 = .ok (.invokestatic 304, 3) := dk_184 1 48 (dk_at dksJ15_copyOf_1 1 rfl rfl)
theorem dJ15_copyOf_28 : decode cJ15_copyOf 28 = .ok (.invokestatic 150, 3) := dk_184 0 150 (dk_at dksJ15_copyOf_1 4 rfl rfl)
theorem dJ15_copyOf_31 : decode cJ15_copyOf 31 = .ok (.aload_n 2, 1) := dk_44 (dk_at dksJ15_copyOf_1 7 rfl rfl)
theorem dJ15_copyOf_32 : decode cJ15_copyOf 32 = .ok (.areturn, 1) := dk_176 (dk_at dksJ15_copyOf_1 8 rfl rfl)
abbrev cJ15_copyOfRange : ByteArray := prog_56_method_132_code
def yJ15_copyOfRange : MethodName := ⟨RJ15, "copyOfRange", "([BII)[B"⟩
def dkwJ15_copyOfRange_1 : List UInt8 := [176]
abbrev dktJ15_copyOfRange_1 : List UInt8 := dkwJ15_copyOfRange_1 ++ []
def dkwJ15_copyOfRange_0 : List UInt8 := [27, 154, 0, 9, 28, 42, 190, 159, 0, 10, 42, 27, 28, 184, 1, 83, 176, 42, 182, 1, 54, 192, 1, 55]
abbrev dktJ15_copyOfRange_0 : List UInt8 := dkwJ15_copyOfRange_0 ++ dktJ15_copyOfRange_1
theorem dksJ15_copyOfRange_0 : cJ15_copyOfRange.data.toList.drop 0 = dktJ15_copyOfRange_0 := by decide +kernel
theorem dksJ15_copyOfRange_1 : cJ15_copyOfRange.data.toList.drop 24 = dktJ15_copyOfRange_1 := dk_seg dksJ15_copyOfRange_0 24 rfl rfl
theorem dJ15_copyOfRange_0 : decode cJ15_copyOfRange 0 = .ok (.iload_n 1, 1) := dk_27 (dk_at dksJ15_copyOfRange_0 0 rfl rfl)
theorem dJ15_copyOfRange_1 : decode cJ15_copyOfRange 1 = .ok (.ifCond .ne 9, 3) := dk_154 0 9 (dk_at dksJ15_copyOfRange_0 1 rfl rfl)
theorem dJ15_copyOfRange_4 : decode cJ15_copyOfRange 4 = .ok (.iload_n 2, 1) := dk_28 (dk_at dksJ15_copyOfRange_0 4 rfl rfl)
theorem dJ15_copyOfRange_5 : decode cJ15_copyOfRange 5 = .ok (.aload_n 0, 1) := dk_42 (dk_at dksJ15_copyOfRange_0 5 rfl rfl)
theorem dJ15_copyOfRange_6 : decode cJ15_copyOfRange 6 = .ok (.arraylength, 1) := dk_190 (dk_at dksJ15_copyOfRange_0 6 rfl rfl)
theorem dJ15_copyOfRange_7 : decode cJ15_copyOfRange 7 = .ok (.if_icmp .eq 10, 3) := dk_159 0 10 (dk_at dksJ15_copyOfRange_0 7 rfl rfl)
theorem dJ15_copyOfRange_10 : decode cJ15_copyOfRange 10 = .ok (.aload_n 0, 1) := dk_42 (dk_at dksJ15_copyOfRange_0 10 rfl rfl)
theorem dJ15_copyOfRange_11 : decode cJ15_copyOfRange 11 = .ok (.iload_n 1, 1) := dk_27 (dk_at dksJ15_copyOfRange_0 11 rfl rfl)
theorem dJ15_copyOfRange_12 : decode cJ15_copyOfRange 12 = .ok (.iload_n 2, 1) := dk_28 (dk_at dksJ15_copyOfRange_0 12 rfl rfl)
theorem dJ15_copyOfRange_13 : decode cJ15_copyOfRange 13 = .ok (.invokestatic 339, 3) := dk_184 1 83 (dk_at dksJ15_copyOfRange_0 13 rfl rfl)
theorem dJ15_copyOfRange_16 : decode cJ15_copyOfRange 16 = .ok (.areturn, 1) := dk_176 (dk_at dksJ15_copyOfRange_0 16 rfl rfl)
theorem dJ15_copyOfRange_17 : decode cJ15_copyOfRange 17 = .ok (.aload_n 0, 1) := dk_42 (dk_at dksJ15_copyOfRange_0 17 rfl rfl)
theorem dJ15_copyOfRange_18 : decode cJ15_copyOfRange 18 = .ok (.invokevirtual 310, 3) := dk_182 1 54 (dk_at dksJ15_copyOfRange_0 18 rfl rfl)
theorem dJ15_copyOfRange_21 : decode cJ15_copyOfRange 21 = .ok (.checkcast 311, 3) := dk_192 1 55 (dk_at dksJ15_copyOfRange_0 21 rfl rfl)
theorem dJ15_copyOfRange_24 : decode cJ15_copyOfRange 24 = .ok (.areturn, 1) := dk_176 (dk_at dksJ15_copyOfRange_1 0 rfl rfl)
abbrev cJ15_copyOfRangeByte : ByteArray := prog_56_method_133_code
def yJ15_copyOfRangeByte : MethodName := ⟨RJ15, "copyOfRangeByte", "([BII)[B"⟩
def dkwJ15_copyOfRangeByte_1 : List UInt8 := [184, 1, 48, 184, 0, 150, 25, 4, 176]
abbrev dktJ15_copyOfRangeByte_1 : List UInt8 := dkwJ15_copyOfRangeByte_1 ++ []
def dkwJ15_copyOfRangeByte_0 : List UInt8 := [27, 28, 184, 1, 87, 28, 27, 100, 62, 29, 188, 8, 58, 4, 42, 27, 25, 4, 3, 42, 190, 27, 100, 29]
abbrev dktJ15_copyOfRangeByte_0 : List UInt8 := dkwJ15_copyOfRangeByte_0 ++ dktJ15_copyOfRangeByte_1
theorem dksJ15_copyOfRangeByte_0 : cJ15_copyOfRangeByte.data.toList.drop 0 = dktJ15_copyOfRangeByte_0 := by decide +kernel
theorem dksJ15_copyOfRangeByte_1 : cJ15_copyOfRangeByte.data.toList.drop 24 = dktJ15_copyOfRangeByte_1 := dk_seg dksJ15_copyOfRangeByte_0 24 rfl rfl
theorem dJ15_copyOfRangeByte_0 : decode cJ15_copyOfRangeByte 0 = .ok (.iload_n 1, 1) := dk_27 (dk_at dksJ15_copyOfRangeByte_0 0 rfl rfl)
theorem dJ15_copyOfRangeByte_1 : decode cJ15_copyOfRangeByte 1 = .ok (.iload_n 2, 1) := dk_28 (dk_at dksJ15_copyOfRangeByte_0 1 rfl rfl)
theorem dJ15_copyOfRangeByte_2 : decode cJ15_copyOfRangeByte 2 = .ok (.invokestatic 343, 3) := dk_184 1 87 (dk_at dksJ15_copyOfRangeByte_0 2 rfl rfl)
theorem dJ15_copyOfRangeByte_5 : decode cJ15_copyOfRangeByte 5 = .ok (.iload_n 2, 1) := dk_28 (dk_at dksJ15_copyOfRangeByte_0 5 rfl rfl)
theorem dJ15_copyOfRangeByte_6 : decode cJ15_copyOfRangeByte 6 = .ok (.iload_n 1, 1) := dk_27 (dk_at dksJ15_copyOfRangeByte_0 6 rfl rfl)
theorem dJ15_copyOfRangeByte_7 : decode cJ15_copyOfRangeByte 7 = .ok (.isub, 1) := dk_100 (dk_at dksJ15_copyOfRangeByte_0 7 rfl rfl)
theorem dJ15_copyOfRangeByte_8 : decode cJ15_copyOfRangeByte 8 = .ok (.istore_n 3, 1) := dk_62 (dk_at dksJ15_copyOfRangeByte_0 8 rfl rfl)
theorem dJ15_copyOfRangeByte_9 : decode cJ15_copyOfRangeByte 9 = .ok (.iload_n 3, 1) := dk_29 (dk_at dksJ15_copyOfRangeByte_0 9 rfl rfl)
theorem dJ15_copyOfRangeByte_10 : decode cJ15_copyOfRangeByte 10 = .ok (.newarray .byte, 2) := dk_188_8 (dk_at dksJ15_copyOfRangeByte_0 10 rfl rfl)
theorem dJ15_copyOfRangeByte_12 : decode cJ15_copyOfRangeByte 12 = .ok (.astore 4, 2) := dk_58 4 (dk_at dksJ15_copyOfRangeByte_0 12 rfl rfl)
theorem dJ15_copyOfRangeByte_14 : decode cJ15_copyOfRangeByte 14 = .ok (.aload_n 0, 1) := dk_42 (dk_at dksJ15_copyOfRangeByte_0 14 rfl rfl)
theorem dJ15_copyOfRangeByte_15 : decode cJ15_copyOfRangeByte 15 = .ok (.iload_n 1, 1) := dk_27 (dk_at dksJ15_copyOfRangeByte_0 15 rfl rfl)
theorem dJ15_copyOfRangeByte_16 : decode cJ15_copyOfRangeByte 16 = .ok (.aload 4, 2) := dk_25 4 (dk_at dksJ15_copyOfRangeByte_0 16 rfl rfl)
theorem dJ15_copyOfRangeByte_18 : decode cJ15_copyOfRangeByte 18 = .ok (.iconst 0, 1) := dk_3 (dk_at dksJ15_copyOfRangeByte_0 18 rfl rfl)
theorem dJ15_copyOfRangeByte_19 : decode cJ15_copyOfRangeByte 19 = .ok (.aload_n 0, 1) := dk_42 (dk_at dksJ15_copyOfRangeByte_0 19 rfl rfl)
theorem dJ15_copyOfRangeByte_20 : decode cJ15_copyOfRangeByte 20 = .ok (.arraylength, 1) := dk_190 (dk_at dksJ15_copyOfRangeByte_0 20 rfl rfl)
theorem dJ15_copyOfRangeByte_21 : decode cJ15_copyOfRangeByte 21 = .ok (.iload_n 1, 1) := dk_27 (dk_at dksJ15_copyOfRangeByte_0 21 rfl rfl)
theorem dJ15_copyOfRangeByte_22 : decode cJ15_copyOfRangeByte 22 = .ok (.isub, 1) := dk_100 (dk_at dksJ15_copyOfRangeByte_0 22 rfl rfl)
theorem dJ15_copyOfRangeByte_23 : decode cJ15_copyOfRangeByte 23 = .ok (.iload_n 3, 1) := dk_29 (dk_at dksJ15_copyOfRangeByte_0 23 rfl rfl)
theorem dJ15_copyOfRangeByte_24 : decode cJ15_copyOfRangeByte 24 = .ok (.invokestatic 304, 3) := dk_184 1 48 (dk_at dksJ15_copyOfRangeByte_1 0 rfl rfl)
theorem dJ15_copyOfRangeByte_27 : decode cJ15_copyOfRangeByte 27 = .ok (.invokestatic 150, 3) := dk_184 0 150 (dk_at dksJ15_copyOfRangeByte_1 3 rfl rfl)
theorem dJ15_copyOfRangeByte_30 : decode cJ15_copyOfRangeByte 30 = .ok (.aload 4, 2) := dk_25 4 (dk_at dksJ15_copyOfRangeByte_1 6 rfl rfl)
theorem dJ15_copyOfRangeByte_32 : decode cJ15_copyOfRangeByte 32 = .ok (.areturn, 1) := dk_176 (dk_at dksJ15_copyOfRangeByte_1 8 rfl rfl)
abbrev cJ15_checkLength : ByteArray := prog_56_method_131_code
def yJ15_checkLength : MethodName := ⟨RJ15, "checkLength", "(II)V"⟩
def dkwJ15_checkLength_1 : List UInt8 := [182, 0, 50, 27, 182, 0, 54, 182, 0, 61, 183, 0, 65, 191, 177]
abbrev dktJ15_checkLength_1 : List UInt8 := dkwJ15_checkLength_1 ++ []
def dkwJ15_checkLength_0 : List UInt8 := [27, 26, 162, 0, 35, 187, 0, 43, 89, 187, 0, 45, 89, 183, 0, 47, 26, 182, 0, 54, 19, 1, 81]
abbrev dktJ15_checkLength_0 : List UInt8 := dkwJ15_checkLength_0 ++ dktJ15_checkLength_1
theorem dksJ15_checkLength_0 : cJ15_checkLength.data.toList.drop 0 = dktJ15_checkLength_0 := by decide +kernel
theorem dksJ15_checkLength_1 : cJ15_checkLength.data.toList.drop 23 = dktJ15_checkLength_1 := dk_seg dksJ15_checkLength_0 23 rfl rfl
theorem dJ15_checkLength_0 : decode cJ15_checkLength 0 = .ok (.iload_n 1, 1) := dk_27 (dk_at dksJ15_checkLength_0 0 rfl rfl)
theorem dJ15_checkLength_1 : decode cJ15_checkLength 1 = .ok (.iload_n 0, 1) := dk_26 (dk_at dksJ15_checkLength_0 1 rfl rfl)
theorem dJ15_checkLength_2 : decode cJ15_checkLength 2 = .ok (.if_icmp .ge 35, 3) := dk_162 0 35 (dk_at dksJ15_checkLength_0 2 rfl rfl)
theorem dJ15_checkLength_5 : decode cJ15_checkLength 5 = .ok (.new 43, 3) := dk_187 0 43 (dk_at dksJ15_checkLength_0 5 rfl rfl)
theorem dJ15_checkLength_8 : decode cJ15_checkLength 8 = .ok (.dup, 1) := dk_89 (dk_at dksJ15_checkLength_0 8 rfl rfl)
theorem dJ15_checkLength_9 : decode cJ15_checkLength 9 = .ok (.new 45, 3) := dk_187 0 45 (dk_at dksJ15_checkLength_0 9 rfl rfl)
theorem dJ15_checkLength_12 : decode cJ15_checkLength 12 = .ok (.dup, 1) := dk_89 (dk_at dksJ15_checkLength_0 12 rfl rfl)
theorem dJ15_checkLength_13 : decode cJ15_checkLength 13 = .ok (.invokespecial 47, 3) := dk_183 0 47 (dk_at dksJ15_checkLength_0 13 rfl rfl)
theorem dJ15_checkLength_16 : decode cJ15_checkLength 16 = .ok (.iload_n 0, 1) := dk_26 (dk_at dksJ15_checkLength_0 16 rfl rfl)
theorem dJ15_checkLength_17 : decode cJ15_checkLength 17 = .ok (.invokevirtual 54, 3) := dk_182 0 54 (dk_at dksJ15_checkLength_0 17 rfl rfl)
theorem dJ15_checkLength_20 : decode cJ15_checkLength 20 = .ok (.ldc_w 337, 3) := dk_19 1 81 (dk_at dksJ15_checkLength_0 20 rfl rfl)
theorem dJ15_checkLength_23 : decode cJ15_checkLength 23 = .ok (.invokevirtual 50, 3) := dk_182 0 50 (dk_at dksJ15_checkLength_1 0 rfl rfl)
theorem dJ15_checkLength_26 : decode cJ15_checkLength 26 = .ok (.iload_n 1, 1) := dk_27 (dk_at dksJ15_checkLength_1 3 rfl rfl)
theorem dJ15_checkLength_27 : decode cJ15_checkLength 27 = .ok (.invokevirtual 54, 3) := dk_182 0 54 (dk_at dksJ15_checkLength_1 4 rfl rfl)
theorem dJ15_checkLength_30 : decode cJ15_checkLength 30 = .ok (.invokevirtual 61, 3) := dk_182 0 61 (dk_at dksJ15_checkLength_1 7 rfl rfl)
theorem dJ15_checkLength_33 : decode cJ15_checkLength 33 = .ok (.invokespecial 65, 3) := dk_183 0 65 (dk_at dksJ15_checkLength_1 10 rfl rfl)
theorem dJ15_checkLength_36 : decode cJ15_checkLength 36 = .ok (.athrow, 1) := dk_191 (dk_at dksJ15_checkLength_1 13 rfl rfl)
theorem dJ15_checkLength_37 : decode cJ15_checkLength 37 = .ok (.return_, 1) := dk_177 (dk_at dksJ15_checkLength_1 14 rfl rfl)
abbrev cJ15_copyOf_2 : ByteArray := prog_56_method_119_code
def yJ15_copyOf_2 : MethodName := ⟨RJ15, "copyOf", "([Ljava/lang/Object;I)[Ljava/lang/Object;"⟩
def dkwJ15_copyOf_2_0 : List UInt8 := [42, 27, 42, 182, 0, 86, 184, 1, 44, 176]
abbrev dktJ15_copyOf_2_0 : List UInt8 := dkwJ15_copyOf_2_0 ++ []
theorem dksJ15_copyOf_2_0 : cJ15_copyOf_2.data.toList.drop 0 = dktJ15_copyOf_2_0 := by decide +kernel
theorem dJ15_copyOf_2_0 : decode cJ15_copyOf_2 0 = .ok (.aload_n 0, 1) := dk_42 (dk_at dksJ15_copyOf_2_0 0 rfl rfl)
theorem dJ15_copyOf_2_1 : decode cJ15_copyOf_2 1 = .ok (.iload_n 1, 1) := dk_27 (dk_at dksJ15_copyOf_2_0 1 rfl rfl)
theorem dJ15_copyOf_2_2 : decode cJ15_copyOf_2 2 = .ok (.aload_n 0, 1) := dk_42 (dk_at dksJ15_copyOf_2_0 2 rfl rfl)
theorem dJ15_copyOf_2_3 : decode cJ15_copyOf_2 3 = .ok (.invokevirtual 86, 3) := dk_182 0 86 (dk_at dksJ15_copyOf_2_0 3 rfl rfl)
theorem dJ15_copyOf_2_6 : decode cJ15_copyOf_2 6 = .ok (.invokestatic 300, 3) := dk_184 1 44 (dk_at dksJ15_copyOf_2_0 6 rfl rfl)
theorem dJ15_copyOf_2_9 : decode cJ15_copyOf_2 9 = .ok (.areturn, 1) := dk_176 (dk_at dksJ15_copyOf_2_0 9 rfl rfl)
abbrev cJ15_copyOf_3 : ByteArray := prog_56_method_120_code
def yJ15_copyOf_3 : MethodName := ⟨RJ15, "copyOf", "([Ljava/lang/Object;ILjava/lang/Class;)[Ljava/lang/Object;"⟩
def dkwJ15_copyOf_3_1 : List UInt8 := [78, 42, 3, 45, 3, 42, 190, 27, 184, 1, 48, 184, 0, 150, 45, 176]
abbrev dktJ15_copyOf_3_1 : List UInt8 := dkwJ15_copyOf_3_1 ++ []
def dkwJ15_copyOf_3_0 : List UInt8 := [44, 18, 110, 166, 0, 10, 27, 189, 0, 2, 167, 0, 14, 44, 182, 0, 90, 27, 184, 0, 95, 192, 0, 110]
abbrev dktJ15_copyOf_3_0 : List UInt8 := dkwJ15_copyOf_3_0 ++ dktJ15_copyOf_3_1
theorem dksJ15_copyOf_3_0 : cJ15_copyOf_3.data.toList.drop 0 = dktJ15_copyOf_3_0 := by decide +kernel
theorem dksJ15_copyOf_3_1 : cJ15_copyOf_3.data.toList.drop 24 = dktJ15_copyOf_3_1 := dk_seg dksJ15_copyOf_3_0 24 rfl rfl
theorem dJ15_copyOf_3_0 : decode cJ15_copyOf_3 0 = .ok (.aload_n 2, 1) := dk_44 (dk_at dksJ15_copyOf_3_0 0 rfl rfl)
theorem dJ15_copyOf_3_1 : decode cJ15_copyOf_3 1 = .ok (.ldc 110, 2) := dk_18 110 (dk_at dksJ15_copyOf_3_0 1 rfl rfl)
theorem dJ15_copyOf_3_3 : decode cJ15_copyOf_3 3 = .ok (.if_acmp .ne 10, 3) := dk_166 0 10 (dk_at dksJ15_copyOf_3_0 3 rfl rfl)
theorem dJ15_copyOf_3_6 : decode cJ15_copyOf_3 6 = .ok (.iload_n 1, 1) := dk_27 (dk_at dksJ15_copyOf_3_0 6 rfl rfl)
theorem dJ15_copyOf_3_7 : decode cJ15_copyOf_3 7 = .ok (.anewarray 2, 3) := dk_189 0 2 (dk_at dksJ15_copyOf_3_0 7 rfl rfl)
theorem dJ15_copyOf_3_10 : decode cJ15_copyOf_3 10 = .ok (.goto 14, 3) := dk_167 0 14 (dk_at dksJ15_copyOf_3_0 10 rfl rfl)
theorem dJ15_copyOf_3_13 : decode cJ15_copyOf_3 13 = .ok (.aload_n 2, 1) := dk_44 (dk_at dksJ15_copyOf_3_0 13 rfl rfl)
theorem dJ15_copyOf_3_14 : decode cJ15_copyOf_3 14 = .ok (.invokevirtual 90, 3) := dk_182 0 90 (dk_at dksJ15_copyOf_3_0 14 rfl rfl)
theorem dJ15_copyOf_3_17 : decode cJ15_copyOf_3 17 = .ok (.iload_n 1, 1) := dk_27 (dk_at dksJ15_copyOf_3_0 17 rfl rfl)
theorem dJ15_copyOf_3_18 : decode cJ15_copyOf_3 18 = .ok (.invokestatic 95, 3) := dk_184 0 95 (dk_at dksJ15_copyOf_3_0 18 rfl rfl)
theorem dJ15_copyOf_3_21 : decode cJ15_copyOf_3 21 = .ok (.checkcast 110, 3) := dk_192 0 110 (dk_at dksJ15_copyOf_3_0 21 rfl rfl)
theorem dJ15_copyOf_3_24 : decode cJ15_copyOf_3 24 = .ok (.astore_n 3, 1) := dk_78 (dk_at dksJ15_copyOf_3_1 0 rfl rfl)
theorem dJ15_copyOf_3_25 : decode cJ15_copyOf_3 25 = .ok (.aload_n 0, 1) := dk_42 (dk_at dksJ15_copyOf_3_1 1 rfl rfl)
theorem dJ15_copyOf_3_26 : decode cJ15_copyOf_3 26 = .ok (.iconst 0, 1) := dk_3 (dk_at dksJ15_copyOf_3_1 2 rfl rfl)
theorem dJ15_copyOf_3_27 : decode cJ15_copyOf_3 27 = .ok (.aload_n 3, 1) := dk_45 (dk_at dksJ15_copyOf_3_1 3 rfl rfl)
theorem dJ15_copyOf_3_28 : decode cJ15_copyOf_3 28 = .ok (.iconst 0, 1) := dk_3 (dk_at dksJ15_copyOf_3_1 4 rfl rfl)
theorem dJ15_copyOf_3_29 : decode cJ15_copyOf_3 29 = .ok (.aload_n 0, 1) := dk_42 (dk_at dksJ15_copyOf_3_1 5 rfl rfl)
theorem dJ15_copyOf_3_30 : decode cJ15_copyOf_3 30 = .ok (.arraylength, 1) := dk_190 (dk_at dksJ15_copyOf_3_1 6 rfl rfl)
theorem dJ15_copyOf_3_31 : decode cJ15_copyOf_3 31 = .ok (.iload_n 1, 1) := dk_27 (dk_at dksJ15_copyOf_3_1 7 rfl rfl)
theorem dJ15_copyOf_3_32 : decode cJ15_copyOf_3 32 = .ok (.invokestatic 304, 3) := dk_184 1 48 (dk_at dksJ15_copyOf_3_1 8 rfl rfl)
theorem dJ15_copyOf_3_35 : decode cJ15_copyOf_3 35 = .ok (.invokestatic 150, 3) := dk_184 0 150 (dk_at dksJ15_copyOf_3_1 11 rfl rfl)
theorem dJ15_copyOf_3_38 : decode cJ15_copyOf_3 38 = .ok (.aload_n 3, 1) := dk_45 (dk_at dksJ15_copyOf_3_1 14 rfl rfl)
theorem dJ15_copyOf_3_39 : decode cJ15_copyOf_3 39 = .ok (.areturn, 1) := dk_176 (dk_at dksJ15_copyOf_3_1 15 rfl rfl)
abbrev cJ15_fill : ByteArray := prog_56_method_101_code
def yJ15_fill : MethodName := ⟨RJ15, "fill", "([JJ)V"⟩
def dkwJ15_fill_0 : List UInt8 := [3, 62, 42, 190, 54, 4, 29, 21, 4, 162, 0, 13, 42, 29, 31, 80, 132, 3, 1, 167, 255, 243, 177]
abbrev dktJ15_fill_0 : List UInt8 := dkwJ15_fill_0 ++ []
theorem dksJ15_fill_0 : cJ15_fill.data.toList.drop 0 = dktJ15_fill_0 := by decide +kernel
theorem dJ15_fill_0 : decode cJ15_fill 0 = .ok (.iconst 0, 1) := dk_3 (dk_at dksJ15_fill_0 0 rfl rfl)
theorem dJ15_fill_1 : decode cJ15_fill 1 = .ok (.istore_n 3, 1) := dk_62 (dk_at dksJ15_fill_0 1 rfl rfl)
theorem dJ15_fill_2 : decode cJ15_fill 2 = .ok (.aload_n 0, 1) := dk_42 (dk_at dksJ15_fill_0 2 rfl rfl)
theorem dJ15_fill_3 : decode cJ15_fill 3 = .ok (.arraylength, 1) := dk_190 (dk_at dksJ15_fill_0 3 rfl rfl)
theorem dJ15_fill_4 : decode cJ15_fill 4 = .ok (.istore 4, 2) := dk_54 4 (dk_at dksJ15_fill_0 4 rfl rfl)
theorem dJ15_fill_6 : decode cJ15_fill 6 = .ok (.iload_n 3, 1) := dk_29 (dk_at dksJ15_fill_0 6 rfl rfl)
theorem dJ15_fill_7 : decode cJ15_fill 7 = .ok (.iload 4, 2) := dk_21 4 (dk_at dksJ15_fill_0 7 rfl rfl)
theorem dJ15_fill_9 : decode cJ15_fill 9 = .ok (.if_icmp .ge 13, 3) := dk_162 0 13 (dk_at dksJ15_fill_0 9 rfl rfl)
theorem dJ15_fill_12 : decode cJ15_fill 12 = .ok (.aload_n 0, 1) := dk_42 (dk_at dksJ15_fill_0 12 rfl rfl)
theorem dJ15_fill_13 : decode cJ15_fill 13 = .ok (.iload_n 3, 1) := dk_29 (dk_at dksJ15_fill_0 13 rfl rfl)
theorem dJ15_fill_14 : decode cJ15_fill 14 = .ok (.lload_n 1, 1) := dk_31 (dk_at dksJ15_fill_0 14 rfl rfl)
theorem dJ15_fill_15 : decode cJ15_fill 15 = .ok (.lastore, 1) := dk_80 (dk_at dksJ15_fill_0 15 rfl rfl)
theorem dJ15_fill_16 : decode cJ15_fill 16 = .ok (.iinc 3 1, 3) := dk_132 3 1 (dk_at dksJ15_fill_0 16 rfl rfl)
theorem dJ15_fill_19 : decode cJ15_fill 19 = .ok (.goto (-13), 3) := dk_167 255 243 (dk_at dksJ15_fill_0 19 rfl rfl)
theorem dJ15_fill_22 : decode cJ15_fill 22 = .ok (.return_, 1) := dk_177 (dk_at dksJ15_fill_0 22 rfl rfl)
abbrev cJ15_fill_2 : ByteArray := prog_56_method_111_code
def yJ15_fill_2 : MethodName := ⟨RJ15, "fill", "([ZZ)V"⟩
def dkwJ15_fill_2_0 : List UInt8 := [3, 61, 42, 190, 62, 28, 29, 162, 0, 13, 42, 28, 27, 84, 132, 2, 1, 167, 255, 244, 177]
abbrev dktJ15_fill_2_0 : List UInt8 := dkwJ15_fill_2_0 ++ []
theorem dksJ15_fill_2_0 : cJ15_fill_2.data.toList.drop 0 = dktJ15_fill_2_0 := by decide +kernel
theorem dJ15_fill_2_0 : decode cJ15_fill_2 0 = .ok (.iconst 0, 1) := dk_3 (dk_at dksJ15_fill_2_0 0 rfl rfl)
theorem dJ15_fill_2_1 : decode cJ15_fill_2 1 = .ok (.istore_n 2, 1) := dk_61 (dk_at dksJ15_fill_2_0 1 rfl rfl)
theorem dJ15_fill_2_2 : decode cJ15_fill_2 2 = .ok (.aload_n 0, 1) := dk_42 (dk_at dksJ15_fill_2_0 2 rfl rfl)
theorem dJ15_fill_2_3 : decode cJ15_fill_2 3 = .ok (.arraylength, 1) := dk_190 (dk_at dksJ15_fill_2_0 3 rfl rfl)
theorem dJ15_fill_2_4 : decode cJ15_fill_2 4 = .ok (.istore_n 3, 1) := dk_62 (dk_at dksJ15_fill_2_0 4 rfl rfl)
theorem dJ15_fill_2_5 : decode cJ15_fill_2 5 = .ok (.iload_n 2, 1) := dk_28 (dk_at dksJ15_fill_2_0 5 rfl rfl)
theorem dJ15_fill_2_6 : decode cJ15_fill_2 6 = .ok (.iload_n 3, 1) := dk_29 (dk_at dksJ15_fill_2_0 6 rfl rfl)
theorem dJ15_fill_2_7 : decode cJ15_fill_2 7 = .ok (.if_icmp .ge 13, 3) := dk_162 0 13 (dk_at dksJ15_fill_2_0 7 rfl rfl)
theorem dJ15_fill_2_10 : decode cJ15_fill_2 10 = .ok (.aload_n 0, 1) := dk_42 (dk_at dksJ15_fill_2_0 10 rfl rfl)
theorem dJ15_fill_2_11 : decode cJ15_fill_2 11 = .ok (.iload_n 2, 1) := dk_28 (dk_at dksJ15_fill_2_0 11 rfl rfl)
theorem dJ15_fill_2_12 : decode cJ15_fill_2 12 = .ok (.iload_n 1, 1) := dk_27 (dk_at dksJ15_fill_2_0 12 rfl rfl)
theorem dJ15_fill_2_13 : decode cJ15_fill_2 13 = .ok (.bastore, 1) := dk_84 (dk_at dksJ15_fill_2_0 13 rfl rfl)
theorem dJ15_fill_2_14 : decode cJ15_fill_2 14 = .ok (.iinc 2 1, 3) := dk_132 2 1 (dk_at dksJ15_fill_2_0 14 rfl rfl)
theorem dJ15_fill_2_17 : decode cJ15_fill_2 17 = .ok (.goto (-12), 3) := dk_167 255 244 (dk_at dksJ15_fill_2_0 17 rfl rfl)
theorem dJ15_fill_2_20 : decode cJ15_fill_2 20 = .ok (.return_, 1) := dk_177 (dk_at dksJ15_fill_2_0 20 rfl rfl)
theorem q122 : (Jvm.Cond.initialized "java/util/Arrays") ∈ lw_all := lw_g (lw_at lw_m1 21 rfl) rfl
theorem q536 : (Jvm.Cond.static ({ cls := "java/util/Arrays", name := "copyOf", desc := "([BI)[B" } : Jvm.MethodName)) ∈ lw_all := lw_g (lw_at lw_m2 195 rfl) rfl
theorem q537 : (Jvm.Cond.code ({ cls := "java/util/Arrays", name := "copyOf", desc := "([BI)[B" } : Jvm.MethodName) prog_56_method_121_code (3 : Nat) (Option.some (Jvm.ClassFile.FieldType.array Jvm.ClassFile.FieldType.byte))) ∈ lw_all := lw_g (lw_at lw_m2 196 rfl) rfl
theorem q538 : (Jvm.Cond.methodLink "java/util/Arrays" (310 : Nat) ({ cls := "[B", name := "clone", desc := "()Ljava/lang/Object;" } : Jvm.MethodName)) ∈ lw_all := lw_g (lw_at lw_m2 197 rfl) rfl
theorem q544 : (Jvm.Cond.classLink "java/util/Arrays" (311 : Nat) "[B") ∈ lw_all := lw_g (lw_at lw_m2 203 rfl) rfl
theorem q545 : (Jvm.Cond.methodLink "java/util/Arrays" (304 : Nat) ({ cls := "java/lang/Math", name := "min", desc := "(II)I" } : Jvm.MethodName)) ∈ lw_all := lw_g (lw_at lw_m2 204 rfl) rfl
theorem q548 : (Jvm.Cond.methodLink "java/util/Arrays" (150 : Nat) ({ cls := "java/lang/System", name := "arraycopy", desc := "(Ljava/lang/Object;ILjava/lang/Object;II)V" } : Jvm.MethodName)) ∈ lw_all := lw_g (lw_at lw_m2 207 rfl) rfl
theorem q622 : (Jvm.Cond.static ({ cls := "java/util/Arrays", name := "copyOfRange", desc := "([BII)[B" } : Jvm.MethodName)) ∈ lw_all := lw_g (lw_at lw_m3 41 rfl) rfl
theorem q623 : (Jvm.Cond.code ({ cls := "java/util/Arrays", name := "copyOfRange", desc := "([BII)[B" } : Jvm.MethodName) prog_56_method_132_code (3 : Nat) (Option.some (Jvm.ClassFile.FieldType.array Jvm.ClassFile.FieldType.byte))) ∈ lw_all := lw_g (lw_at lw_m3 42 rfl) rfl
theorem q624 : (Jvm.Cond.methodLink "java/util/Arrays" (339 : Nat) ({ cls := "java/util/Arrays", name := "copyOfRangeByte", desc := "([BII)[B" } : Jvm.MethodName)) ∈ lw_all := lw_g (lw_at lw_m3 43 rfl) rfl
theorem q625 : (Jvm.Cond.static ({ cls := "java/util/Arrays", name := "copyOfRangeByte", desc := "([BII)[B" } : Jvm.MethodName)) ∈ lw_all := lw_g (lw_at lw_m3 44 rfl) rfl
theorem q626 : (Jvm.Cond.code ({ cls := "java/util/Arrays", name := "copyOfRangeByte", desc := "([BII)[B" } : Jvm.MethodName) prog_56_method_133_code (5 : Nat) (Option.some (Jvm.ClassFile.FieldType.array Jvm.ClassFile.FieldType.byte))) ∈ lw_all := lw_g (lw_at lw_m3 45 rfl) rfl
theorem q627 : (Jvm.Cond.methodLink "java/util/Arrays" (343 : Nat) ({ cls := "java/util/Arrays", name := "checkLength", desc := "(II)V" } : Jvm.MethodName)) ∈ lw_all := lw_g (lw_at lw_m3 46 rfl) rfl
theorem q628 : (Jvm.Cond.static ({ cls := "java/util/Arrays", name := "checkLength", desc := "(II)V" } : Jvm.MethodName)) ∈ lw_all := lw_g (lw_at lw_m3 47 rfl) rfl
theorem q629 : (Jvm.Cond.code ({ cls := "java/util/Arrays", name := "checkLength", desc := "(II)V" } : Jvm.MethodName) prog_56_method_131_code (2 : Nat) (Option.none : Option Jvm.ClassFile.FieldType)) ∈ lw_all := lw_g (lw_at lw_m3 48 rfl) rfl
theorem q789 : (Jvm.Cond.static ({ cls := "java/util/Arrays", name := "copyOf", desc := "([Ljava/lang/Object;I)[Ljava/lang/Object;" } : Jvm.MethodName)) ∈ lw_all := lw_g (lw_at lw_m3 208 rfl) rfl
theorem q790 : (Jvm.Cond.code ({ cls := "java/util/Arrays", name := "copyOf", desc := "([Ljava/lang/Object;I)[Ljava/lang/Object;" } : Jvm.MethodName) prog_56_method_119_code (2 : Nat) (Option.some (Jvm.ClassFile.FieldType.array (Jvm.ClassFile.FieldType.object "java/lang/Object")))) ∈ lw_all := lw_g (lw_at lw_m3 209 rfl) rfl
theorem q791 : (Jvm.Cond.methodLink "java/util/Arrays" (86 : Nat) ({ cls := "java/lang/Object", name := "getClass", desc := "()Ljava/lang/Class;" } : Jvm.MethodName)) ∈ lw_all := lw_g (lw_at lw_m3 210 rfl) rfl
theorem q826 : (Jvm.Cond.methodLink "java/util/Arrays" (300 : Nat) ({ cls := "java/util/Arrays", name := "copyOf", desc := "([Ljava/lang/Object;ILjava/lang/Class;)[Ljava/lang/Object;" } : Jvm.MethodName)) ∈ lw_all := lw_g (lw_at lw_m4 5 rfl) rfl
theorem q827 : (Jvm.Cond.static ({ cls := "java/util/Arrays", name := "copyOf", desc := "([Ljava/lang/Object;ILjava/lang/Class;)[Ljava/lang/Object;" } : Jvm.MethodName)) ∈ lw_all := lw_g (lw_at lw_m4 6 rfl) rfl
theorem q828 : (Jvm.Cond.code ({ cls := "java/util/Arrays", name := "copyOf", desc := "([Ljava/lang/Object;ILjava/lang/Class;)[Ljava/lang/Object;" } : Jvm.MethodName) prog_56_method_120_code (4 : Nat) (Option.some (Jvm.ClassFile.FieldType.array (Jvm.ClassFile.FieldType.object "java/lang/Object")))) ∈ lw_all := lw_g (lw_at lw_m4 7 rfl) rfl
theorem q829 : (Jvm.Cond.classLink "java/util/Arrays" (110 : Nat) "[Ljava/lang/Object;") ∈ lw_all := lw_g (lw_at lw_m4 8 rfl) rfl
theorem q831 : (Jvm.Cond.classLink "java/util/Arrays" (2 : Nat) "java/lang/Object") ∈ lw_all := lw_g (lw_at lw_m4 10 rfl) rfl
theorem q1381 : (Jvm.Cond.static ({ cls := "java/util/Arrays", name := "fill", desc := "([JJ)V" } : Jvm.MethodName)) ∈ lw_all := lw_g (lw_at lw_m6 80 rfl) rfl
theorem q1382 : (Jvm.Cond.code ({ cls := "java/util/Arrays", name := "fill", desc := "([JJ)V" } : Jvm.MethodName) prog_56_method_101_code (5 : Nat) (Option.none : Option Jvm.ClassFile.FieldType)) ∈ lw_all := lw_g (lw_at lw_m6 81 rfl) rfl
theorem q1632 : (Jvm.Cond.static ({ cls := "java/util/Arrays", name := "fill", desc := "([ZZ)V" } : Jvm.MethodName)) ∈ lw_all := lw_g (lw_at lw_m7 91 rfl) rfl
theorem q1633 : (Jvm.Cond.code ({ cls := "java/util/Arrays", name := "fill", desc := "([ZZ)V" } : Jvm.MethodName) prog_56_method_111_code (4 : Nat) (Option.none : Option Jvm.ClassFile.FieldType)) ∈ lw_all := lw_g (lw_at lw_m7 92 rfl) rfl

theorem q101 : (Jvm.Cond.initialized "ToldPowersLaw") ∈ lw_all := lw_g (lw_at lw_m1 0 rfl) rfl
set_option maxRecDepth 100000
theorem q152 : (Jvm.Cond.methodLink "ToldPowersLaw" (37 : Nat) ({ cls := "ToldPowers", name := "fault", desc := "(I)I" } : Jvm.MethodName)) ∈ lw_all := lw_g (lw_at lw_m1 51 rfl) rfl
theorem q176 : (Jvm.Cond.classLink "ToldPowersLaw" (7 : Nat) "ToldPowers") ∈ lw_all := lw_g (lw_at lw_m1 75 rfl) rfl
theorem q177 : (Jvm.Cond.methodLink "ToldPowersLaw" (9 : Nat) ({ cls := "ToldPowers", name := "<init>", desc := "()V" } : Jvm.MethodName)) ∈ lw_all := lw_g (lw_at lw_m1 76 rfl) rfl
theorem q278 : (Jvm.Cond.methodLink "ToldPowersLaw" (13 : Nat) ({ cls := "ToldPowers", name := "feed", desc := "(IIIII)I" } : Jvm.MethodName)) ∈ lw_all := lw_g (lw_at lw_m1 177 rfl) rfl
theorem q376 : (Jvm.Cond.methodLink "ToldPowersLaw" (18 : Nat) ({ cls := "ToldPowers", name := "end", desc := "(I)Z" } : Jvm.MethodName)) ∈ lw_all := lw_g (lw_at lw_m2 35 rfl) rfl
theorem q383 : (Jvm.Cond.methodLink "ToldPowersLaw" (23 : Nat) ({ cls := "ToldPowers", name := "form", desc := "(I)I" } : Jvm.MethodName)) ∈ lw_all := lw_g (lw_at lw_m2 42 rfl) rfl
theorem q894 : (Jvm.Cond.methodLink "ToldPowersLaw" (28 : Nat) ({ cls := "ToldPowers", name := "prove", desc := "(I)I" } : Jvm.MethodName)) ∈ lw_all := lw_g (lw_at lw_m4 73 rfl) rfl
theorem q1411 : (Jvm.Cond.methodLink "ToldPowersLaw" (32 : Nat) ({ cls := "ToldPowers", name := "identity", desc := "()I" } : Jvm.MethodName)) ∈ lw_all := lw_g (lw_at lw_m6 110 rfl) rfl
theorem q1536 : (Jvm.Cond.methodLink "ToldPowersLaw" (41 : Nat) ({ cls := "ToldPowers", name := "term", desc := "(III)I" } : Jvm.MethodName)) ∈ lw_all := lw_g (lw_at lw_m6 235 rfl) rfl
theorem q1551 : (Jvm.Cond.methodLink "ToldPowersLaw" (46 : Nat) ({ cls := "ToldPowers", name := "ways", desc := "(II)J" } : Jvm.MethodName)) ∈ lw_all := lw_g (lw_at lw_m7 10 rfl) rfl
theorem q1558 : (Jvm.Cond.methodLink "ToldPowersLaw" (51 : Nat) ({ cls := "ToldPowers", name := "unlike", desc := "(II)J" } : Jvm.MethodName)) ∈ lw_all := lw_g (lw_at lw_m7 17 rfl) rfl
theorem q1574 : (Jvm.Cond.methodLink "ToldPowersLaw" (57 : Nat) ({ cls := "ToldPowers", name := "way", desc := "(IIJI)I" } : Jvm.MethodName)) ∈ lw_all := lw_g (lw_at lw_m7 33 rfl) rfl
theorem q1584 : (Jvm.Cond.methodLink "ToldPowersLaw" (62 : Nat) ({ cls := "ToldPowers", name := "number", desc := "(IIIIIII)J" } : Jvm.MethodName)) ∈ lw_all := lw_g (lw_at lw_m7 43 rfl) rfl
theorem q1588 : (Jvm.Cond.methodLink "ToldPowersLaw" (67 : Nat) ({ cls := "ToldPowers", name := "missed", desc := "(IIII)I" } : Jvm.MethodName)) ∈ lw_all := lw_g (lw_at lw_m7 47 rfl) rfl
theorem q1595 : (Jvm.Cond.methodLink "ToldPowersLaw" (72 : Nat) ({ cls := "ToldPowers", name := "explained", desc := "(IIII)I" } : Jvm.MethodName)) ∈ lw_all := lw_g (lw_at lw_m7 54 rfl) rfl
theorem q1615 : (Jvm.Cond.methodLink "ToldPowersLaw" (76 : Nat) ({ cls := "ToldPowers", name := "full", desc := "(I)I" } : Jvm.MethodName)) ∈ lw_all := lw_g (lw_at lw_m7 74 rfl) rfl
theorem q1619 : (Jvm.Cond.methodLink "ToldPowersLaw" (80 : Nat) ({ cls := "ToldPowers", name := "met", desc := "(III)J" } : Jvm.MethodName)) ∈ lw_all := lw_g (lw_at lw_m7 78 rfl) rfl
theorem q1623 : (Jvm.Cond.methodLink "ToldPowersLaw" (85 : Nat) ({ cls := "ToldPowers", name := "meets", desc := "(IIII)I" } : Jvm.MethodName)) ∈ lw_all := lw_g (lw_at lw_m7 82 rfl) rfl
theorem q1634 : (Jvm.Cond.methodLink "ToldPowersLaw" (89 : Nat) ({ cls := "ToldPowers", name := "never", desc := "(III)I" } : Jvm.MethodName)) ∈ lw_all := lw_g (lw_at lw_m7 93 rfl) rfl
theorem q1638 : (Jvm.Cond.methodLink "ToldPowersLaw" (93 : Nat) ({ cls := "ToldPowers", name := "bars", desc := "(I)I" } : Jvm.MethodName)) ∈ lw_all := lw_g (lw_at lw_m7 97 rfl) rfl
theorem q1643 : (Jvm.Cond.methodLink "ToldPowersLaw" (97 : Nat) ({ cls := "ToldPowers", name := "many", desc := "(IIIZ)I" } : Jvm.MethodName)) ∈ lw_all := lw_g (lw_at lw_m7 102 rfl) rfl
theorem q1648 : (Jvm.Cond.methodLink "ToldPowersLaw" (102 : Nat) ({ cls := "ToldPowers", name := "greed", desc := "(III)I" } : Jvm.MethodName)) ∈ lw_all := lw_g (lw_at lw_m7 107 rfl) rfl
theorem q1655 : (Jvm.Cond.methodLink "ToldPowersLaw" (106 : Nat) ({ cls := "ToldPowers", name := "nearest", desc := "(II)I" } : Jvm.MethodName)) ∈ lw_all := lw_g (lw_at lw_m7 114 rfl) rfl
theorem q1756 : (Jvm.Cond.methodLink "ToldPowersLaw" (111 : Nat) ({ cls := "ToldPowers", name := "enough", desc := "(II)I" } : Jvm.MethodName)) ∈ lw_all := lw_g (lw_at lw_m7 215 rfl) rfl
theorem q1760 : (Jvm.Cond.methodLink "ToldPowersLaw" (115 : Nat) ({ cls := "ToldPowers", name := "join", desc := "(III)Z" } : Jvm.MethodName)) ∈ lw_all := lw_g (lw_at lw_m7 219 rfl) rfl
theorem q1769 : (Jvm.Cond.methodLink "ToldPowersLaw" (120 : Nat) ({ cls := "ToldPowers", name := "drop", desc := "(II)Z" } : Jvm.MethodName)) ∈ lw_all := lw_g (lw_at lw_m7 228 rfl) rfl
theorem q1773 : (Jvm.Cond.methodLink "ToldPowersLaw" (125 : Nat) ({ cls := "ToldPowers", name := "lead", desc := "(II)Z" } : Jvm.MethodName)) ∈ lw_all := lw_g (lw_at lw_m7 232 rfl) rfl
theorem q1777 : (Jvm.Cond.methodLink "ToldPowersLaw" (129 : Nat) ({ cls := "ToldPowers", name := "common", desc := "(IIIII)I" } : Jvm.MethodName)) ∈ lw_all := lw_g (lw_at lw_m7 236 rfl) rfl
theorem q1781 : (Jvm.Cond.methodLink "ToldPowersLaw" (141 : Nat) ({ cls := "ToldPowers", name := "spell", desc := "(I)I" } : Jvm.MethodName)) ∈ lw_all := lw_g (lw_at lw_m8 0 rfl) rfl
theorem q1857 : (Jvm.Cond.methodLink "ToldPowersLaw" (145 : Nat) ({ cls := "ToldPowers", name := "write", desc := "(III)I" } : Jvm.MethodName)) ∈ lw_all := lw_g (lw_at lw_m8 76 rfl) rfl
theorem q1863 : (Jvm.Cond.methodLink "ToldPowersLaw" (149 : Nat) ({ cls := "ToldPowers", name := "out", desc := "(I)I" } : Jvm.MethodName)) ∈ lw_all := lw_g (lw_at lw_m8 82 rfl) rfl
theorem q1868 : (Jvm.Cond.methodLink "ToldPowersLaw" (153 : Nat) ({ cls := "ToldPowers", name := "gap", desc := "(IIII)I" } : Jvm.MethodName)) ∈ lw_all := lw_g (lw_at lw_m8 87 rfl) rfl
theorem q1872 : (Jvm.Cond.methodLink "ToldPowersLaw" (157 : Nat) ({ cls := "ToldPowers", name := "rank", desc := "(IIII)I" } : Jvm.MethodName)) ∈ lw_all := lw_g (lw_at lw_m8 91 rfl) rfl
theorem q1894 : (Jvm.Cond.methodLink "ToldPowersLaw" (133 : Nat) ({ cls := "ToldPowers", name := "tried", desc := "(II)I" } : Jvm.MethodName)) ∈ lw_all := lw_g (lw_at lw_m8 113 rfl) rfl
theorem q1937 : (Jvm.Cond.methodLink "ToldPowersLaw" (137 : Nat) ({ cls := "ToldPowers", name := "side", desc := "(IIIIIII)J" } : Jvm.MethodName)) ∈ lw_all := lw_g (lw_at lw_m8 156 rfl) rfl
theorem q1946 : (Jvm.Cond.methodLink "ToldPowersLaw" (161 : Nat) ({ cls := "ToldPowers", name := "look", desc := "(I)I" } : Jvm.MethodName)) ∈ lw_all := lw_g (lw_at lw_m8 165 rfl) rfl
theorem q1950 : (Jvm.Cond.classLink "ToldPowersLaw" (10 : Nat) "ToldPowersModel") ∈ lw_all := lw_g (lw_at lw_m8 169 rfl) rfl
theorem q1952 : (Jvm.Cond.methodLink "ToldPowersLaw" (12 : Nat) ({ cls := "ToldPowersModel", name := "<init>", desc := "()V" } : Jvm.MethodName)) ∈ lw_all := lw_g (lw_at lw_m8 171 rfl) rfl
theorem q2108 : (Jvm.Cond.methodLink "ToldPowersLaw" (17 : Nat) ({ cls := "ToldPowersModel", name := "feed", desc := "(IIIII)I" } : Jvm.MethodName)) ∈ lw_all := lw_g (lw_at lw_m9 87 rfl) rfl
theorem q2116 : (Jvm.Cond.methodLink "ToldPowersLaw" (22 : Nat) ({ cls := "ToldPowersModel", name := "end", desc := "(I)Z" } : Jvm.MethodName)) ∈ lw_all := lw_g (lw_at lw_m9 95 rfl) rfl
theorem q2123 : (Jvm.Cond.methodLink "ToldPowersLaw" (40 : Nat) ({ cls := "ToldPowersModel", name := "fault", desc := "(I)I" } : Jvm.MethodName)) ∈ lw_all := lw_g (lw_at lw_m9 102 rfl) rfl
theorem q2127 : (Jvm.Cond.methodLink "ToldPowersLaw" (27 : Nat) ({ cls := "ToldPowersModel", name := "form", desc := "(I)I" } : Jvm.MethodName)) ∈ lw_all := lw_g (lw_at lw_m9 106 rfl) rfl
theorem q2232 : (Jvm.Cond.methodLink "ToldPowersLaw" (50 : Nat) ({ cls := "ToldPowersModel", name := "ways", desc := "(II)J" } : Jvm.MethodName)) ∈ lw_all := lw_g (lw_at lw_m9 211 rfl) rfl
theorem q2265 : (Jvm.Cond.methodLink "ToldPowersLaw" (54 : Nat) ({ cls := "ToldPowersModel", name := "unlike", desc := "(II)J" } : Jvm.MethodName)) ∈ lw_all := lw_g (lw_at lw_m10 4 rfl) rfl
theorem q2293 : (Jvm.Cond.methodLink "ToldPowersLaw" (61 : Nat) ({ cls := "ToldPowersModel", name := "way", desc := "(IIJI)I" } : Jvm.MethodName)) ∈ lw_all := lw_g (lw_at lw_m10 32 rfl) rfl
theorem q2306 : (Jvm.Cond.methodLink "ToldPowersLaw" (66 : Nat) ({ cls := "ToldPowersModel", name := "number", desc := "(IIIIIII)J" } : Jvm.MethodName)) ∈ lw_all := lw_g (lw_at lw_m10 45 rfl) rfl
theorem q2311 : (Jvm.Cond.methodLink "ToldPowersLaw" (31 : Nat) ({ cls := "ToldPowersModel", name := "prove", desc := "(I)I" } : Jvm.MethodName)) ∈ lw_all := lw_g (lw_at lw_m10 50 rfl) rfl
theorem q2328 : (Jvm.Cond.methodLink "ToldPowersLaw" (36 : Nat) ({ cls := "ToldPowersModel", name := "identity", desc := "()I" } : Jvm.MethodName)) ∈ lw_all := lw_g (lw_at lw_m10 67 rfl) rfl
theorem q2360 : (Jvm.Cond.methodLink "ToldPowersLaw" (136 : Nat) ({ cls := "ToldPowersModel", name := "tried", desc := "(II)I" } : Jvm.MethodName)) ∈ lw_all := lw_g (lw_at lw_m10 99 rfl) rfl
theorem q2397 : (Jvm.Cond.methodLink "ToldPowersLaw" (140 : Nat) ({ cls := "ToldPowersModel", name := "side", desc := "(IIIIIII)J" } : Jvm.MethodName)) ∈ lw_all := lw_g (lw_at lw_m10 136 rfl) rfl
theorem q2403 : (Jvm.Cond.methodLink "ToldPowersLaw" (45 : Nat) ({ cls := "ToldPowersModel", name := "term", desc := "(III)I" } : Jvm.MethodName)) ∈ lw_all := lw_g (lw_at lw_m10 142 rfl) rfl
theorem q2407 : (Jvm.Cond.methodLink "ToldPowersLaw" (71 : Nat) ({ cls := "ToldPowersModel", name := "missed", desc := "(IIII)I" } : Jvm.MethodName)) ∈ lw_all := lw_g (lw_at lw_m10 146 rfl) rfl
theorem q2414 : (Jvm.Cond.methodLink "ToldPowersLaw" (75 : Nat) ({ cls := "ToldPowersModel", name := "explained", desc := "(IIII)I" } : Jvm.MethodName)) ∈ lw_all := lw_g (lw_at lw_m10 153 rfl) rfl
theorem q2430 : (Jvm.Cond.methodLink "ToldPowersLaw" (79 : Nat) ({ cls := "ToldPowersModel", name := "full", desc := "(I)I" } : Jvm.MethodName)) ∈ lw_all := lw_g (lw_at lw_m10 169 rfl) rfl
theorem q2434 : (Jvm.Cond.methodLink "ToldPowersLaw" (84 : Nat) ({ cls := "ToldPowersModel", name := "met", desc := "(III)J" } : Jvm.MethodName)) ∈ lw_all := lw_g (lw_at lw_m10 173 rfl) rfl
theorem q2442 : (Jvm.Cond.methodLink "ToldPowersLaw" (88 : Nat) ({ cls := "ToldPowersModel", name := "meets", desc := "(IIII)I" } : Jvm.MethodName)) ∈ lw_all := lw_g (lw_at lw_m10 181 rfl) rfl
theorem q2446 : (Jvm.Cond.methodLink "ToldPowersLaw" (92 : Nat) ({ cls := "ToldPowersModel", name := "never", desc := "(III)I" } : Jvm.MethodName)) ∈ lw_all := lw_g (lw_at lw_m10 185 rfl) rfl
theorem q2450 : (Jvm.Cond.methodLink "ToldPowersLaw" (96 : Nat) ({ cls := "ToldPowersModel", name := "bars", desc := "(I)I" } : Jvm.MethodName)) ∈ lw_all := lw_g (lw_at lw_m10 189 rfl) rfl
theorem q2455 : (Jvm.Cond.methodLink "ToldPowersLaw" (101 : Nat) ({ cls := "ToldPowersModel", name := "many", desc := "(IIIZ)I" } : Jvm.MethodName)) ∈ lw_all := lw_g (lw_at lw_m10 194 rfl) rfl
theorem q2460 : (Jvm.Cond.methodLink "ToldPowersLaw" (105 : Nat) ({ cls := "ToldPowersModel", name := "greed", desc := "(III)I" } : Jvm.MethodName)) ∈ lw_all := lw_g (lw_at lw_m10 199 rfl) rfl
theorem q2464 : (Jvm.Cond.methodLink "ToldPowersLaw" (110 : Nat) ({ cls := "ToldPowersModel", name := "nearest", desc := "(II)I" } : Jvm.MethodName)) ∈ lw_all := lw_g (lw_at lw_m10 203 rfl) rfl
theorem q2468 : (Jvm.Cond.methodLink "ToldPowersLaw" (114 : Nat) ({ cls := "ToldPowersModel", name := "enough", desc := "(II)I" } : Jvm.MethodName)) ∈ lw_all := lw_g (lw_at lw_m10 207 rfl) rfl
theorem q2472 : (Jvm.Cond.methodLink "ToldPowersLaw" (119 : Nat) ({ cls := "ToldPowersModel", name := "join", desc := "(III)Z" } : Jvm.MethodName)) ∈ lw_all := lw_g (lw_at lw_m10 211 rfl) rfl
theorem q2477 : (Jvm.Cond.methodLink "ToldPowersLaw" (124 : Nat) ({ cls := "ToldPowersModel", name := "drop", desc := "(II)Z" } : Jvm.MethodName)) ∈ lw_all := lw_g (lw_at lw_m10 216 rfl) rfl
theorem q2481 : (Jvm.Cond.methodLink "ToldPowersLaw" (128 : Nat) ({ cls := "ToldPowersModel", name := "lead", desc := "(II)Z" } : Jvm.MethodName)) ∈ lw_all := lw_g (lw_at lw_m10 220 rfl) rfl
theorem q2485 : (Jvm.Cond.methodLink "ToldPowersLaw" (132 : Nat) ({ cls := "ToldPowersModel", name := "common", desc := "(IIIII)I" } : Jvm.MethodName)) ∈ lw_all := lw_g (lw_at lw_m10 224 rfl) rfl
theorem q2489 : (Jvm.Cond.methodLink "ToldPowersLaw" (156 : Nat) ({ cls := "ToldPowersModel", name := "gap", desc := "(IIII)I" } : Jvm.MethodName)) ∈ lw_all := lw_g (lw_at lw_m10 228 rfl) rfl
theorem q2493 : (Jvm.Cond.methodLink "ToldPowersLaw" (160 : Nat) ({ cls := "ToldPowersModel", name := "rank", desc := "(IIII)I" } : Jvm.MethodName)) ∈ lw_all := lw_g (lw_at lw_m10 232 rfl) rfl
theorem q2497 : (Jvm.Cond.methodLink "ToldPowersLaw" (144 : Nat) ({ cls := "ToldPowersModel", name := "spell", desc := "(I)I" } : Jvm.MethodName)) ∈ lw_all := lw_g (lw_at lw_m10 236 rfl) rfl
theorem q2519 : (Jvm.Cond.methodLink "ToldPowersLaw" (148 : Nat) ({ cls := "ToldPowersModel", name := "write", desc := "(III)I" } : Jvm.MethodName)) ∈ lw_all := lw_g (lw_at lw_m11 18 rfl) rfl
theorem q2524 : (Jvm.Cond.methodLink "ToldPowersLaw" (152 : Nat) ({ cls := "ToldPowersModel", name := "out", desc := "(I)I" } : Jvm.MethodName)) ∈ lw_all := lw_g (lw_at lw_m11 23 rfl) rfl
theorem q2528 : (Jvm.Cond.methodLink "ToldPowersLaw" (164 : Nat) ({ cls := "ToldPowersModel", name := "look", desc := "(I)I" } : Jvm.MethodName)) ∈ lw_all := lw_g (lw_at lw_m11 27 rfl) rfl
theorem q2532 : (Jvm.Cond.constantLong "ToldPowersLaw" (55 : Nat) (4294967295 : Int64)) ∈ lw_all := lw_g (lw_at lw_m11 31 rfl) rfl

theorem q104 : (Jvm.Cond.initialized "ToldPowers$Kind") ∈ lw_all := lw_g (lw_at lw_m1 3 rfl) rfl
set_option maxRecDepth 100000
theorem q186 : (Jvm.Cond.laysStatic "ToldPowers$Kind" "LINE" "LToldPowers$Kind;") ∈ lw_tbl := lw_at lw_m1 85 rfl
theorem q188 : (Jvm.Cond.laysStatic "ToldPowers$Kind" "SQUARE" "LToldPowers$Kind;") ∈ lw_tbl := lw_at lw_m1 87 rfl
theorem q190 : (Jvm.Cond.laysStatic "ToldPowers$Kind" "CUBE" "LToldPowers$Kind;") ∈ lw_tbl := lw_at lw_m1 89 rfl
theorem q192 : (Jvm.Cond.laysStatic "ToldPowers$Kind" "FOURTH" "LToldPowers$Kind;") ∈ lw_tbl := lw_at lw_m1 91 rfl
theorem q194 : (Jvm.Cond.laysStatic "ToldPowers$Kind" "THREE" "LToldPowers$Kind;") ∈ lw_tbl := lw_at lw_m1 93 rfl
theorem q742 : (Jvm.Cond.declares ({ cls := "ToldPowers$Kind", name := "of", desc := "(J)J" } : Jvm.MethodName)) ∈ lw_tbl := lw_at lw_m3 161 rfl
theorem q743 : (Jvm.Cond.sameMethod "ToldPowers$Kind" "ToldPowers$Kind" "of" "(J)J") ∈ lw_all := lw_g (lw_at lw_m3 162 rfl) rfl
theorem q1542 : (Jvm.Cond.sameMethod "ToldPowers$Kind" "java/lang/Enum" "ordinal" "()I") ∈ lw_all := lw_g (lw_at lw_m7 1 rfl) rfl
theorem q2551 : (Jvm.Cond.castable "ToldPowers$Kind" "java/lang/Object") ∈ lw_tbl := lw_at lw_m11 50 rfl

theorem q539 : (Jvm.Cond.sameMethod "[B" "java/lang/Object" "clone" "()Ljava/lang/Object;") ∈ lw_all := lw_g (lw_at lw_m2 198 rfl) rfl
set_option maxRecDepth 100000
theorem q542 : (Jvm.Cond.selects "[B" ({ cls := "[B", name := "clone", desc := "()Ljava/lang/Object;" } : Jvm.MethodName) ({ cls := "java/lang/Object", name := "clone", desc := "()Ljava/lang/Object;" } : Jvm.MethodName)) ∈ lw_all := lw_g (lw_at lw_m2 201 rfl) rfl
theorem q543 : (Jvm.Cond.castable "[B" "java/lang/Cloneable") ∈ lw_tbl := lw_at lw_m2 202 rfl
theorem q2602 : (Jvm.Cond.castable "[B" "java/lang/Object") ∈ lw_tbl := lw_at lw_m11 101 rfl

theorem q2605 : (Jvm.Cond.castable "[I" "java/lang/Object") ∈ lw_tbl := lw_at lw_m11 104 rfl
set_option maxRecDepth 100000

theorem q2603 : (Jvm.Cond.castable "[J" "java/lang/Object") ∈ lw_tbl := lw_at lw_m11 102 rfl
set_option maxRecDepth 100000

theorem q2599 : (Jvm.Cond.castable "[LToldPowers$Form;" "java/lang/Object") ∈ lw_tbl := lw_at lw_m11 98 rfl
set_option maxRecDepth 100000

theorem q2597 : (Jvm.Cond.castable "[LToldPowers$Kind;" "java/lang/Object") ∈ lw_tbl := lw_at lw_m11 96 rfl
set_option maxRecDepth 100000

theorem q2608 : (Jvm.Cond.castable "[LToldPowers$Sum;" "java/lang/Object") ∈ lw_tbl := lw_at lw_m11 107 rfl
set_option maxRecDepth 100000

theorem q2607 : (Jvm.Cond.castable "[LToldPowers$Term;" "java/lang/Object") ∈ lw_tbl := lw_at lw_m11 106 rfl
set_option maxRecDepth 100000

theorem q2594 : (Jvm.Cond.sameMethod "[Ljava/lang/Object;" "java/lang/Object" "getClass" "()Ljava/lang/Class;") ∈ lw_all := lw_g (lw_at lw_m11 93 rfl) rfl
set_option maxRecDepth 100000
theorem q2595 : (Jvm.Cond.selects "[Ljava/lang/Object;" ({ cls := "java/lang/Object", name := "getClass", desc := "()Ljava/lang/Class;" } : Jvm.MethodName) ({ cls := "java/lang/Object", name := "getClass", desc := "()Ljava/lang/Class;" } : Jvm.MethodName)) ∈ lw_all := lw_g (lw_at lw_m11 94 rfl) rfl
theorem q2606 : (Jvm.Cond.castable "[Ljava/lang/Object;" "java/lang/Object") ∈ lw_tbl := lw_at lw_m11 105 rfl

theorem q2598 : (Jvm.Cond.castable "[Ljava/lang/String;" "java/lang/Object") ∈ lw_tbl := lw_at lw_m11 97 rfl
set_option maxRecDepth 100000

theorem q2604 : (Jvm.Cond.castable "[Z" "java/lang/Object") ∈ lw_tbl := lw_at lw_m11 103 rfl
set_option maxRecDepth 100000

theorem q2600 : (Jvm.Cond.castable "[[J" "java/lang/Object") ∈ lw_tbl := lw_at lw_m11 99 rfl
set_option maxRecDepth 100000

theorem q2601 : (Jvm.Cond.castable "[[Z" "java/lang/Object") ∈ lw_tbl := lw_at lw_m11 100 rfl
set_option maxRecDepth 100000

theorem q1039 : (Jvm.Cond.interfaceMethod "java/lang/Comparable" "java/lang/Comparable" "compareTo" "(Ljava/lang/Object;)I") ∈ lw_tbl := lw_at lw_m4 218 rfl
set_option maxRecDepth 100000
theorem q1040 : (Jvm.Cond.declares ({ cls := "java/lang/Comparable", name := "compareTo", desc := "(Ljava/lang/Object;)I" } : Jvm.MethodName)) ∈ lw_tbl := lw_at lw_m4 219 rfl

theorem q136 : (Jvm.Cond.initialized "java/lang/Integer$IntegerCache") ∈ lw_all := lw_g (lw_at lw_m1 35 rfl) rfl
set_option maxRecDepth 100000
theorem q984 : (Jvm.Cond.laysStatic "java/lang/Integer$IntegerCache" "high" "I") ∈ lw_tbl := lw_at lw_m4 163 rfl
theorem q986 : (Jvm.Cond.laysStatic "java/lang/Integer$IntegerCache" "cache" "[Ljava/lang/Integer;") ∈ lw_tbl := lw_at lw_m4 165 rfl

theorem q112 : (Jvm.Cond.initialized "java/lang/System") ∈ lw_all := lw_g (lw_at lw_m1 11 rfl) rfl
set_option maxRecDepth 100000
theorem q373 : (Jvm.Cond.static ({ cls := "java/lang/System", name := "arraycopy", desc := "(Ljava/lang/Object;ILjava/lang/Object;II)V" } : Jvm.MethodName)) ∈ lw_all := lw_g (lw_at lw_m2 32 rfl) rfl
theorem q374 : (Jvm.Cond.native ({ cls := "java/lang/System", name := "arraycopy", desc := "(Ljava/lang/Object;ILjava/lang/Object;II)V" } : Jvm.MethodName)) ∈ lw_all := lw_g (lw_at lw_m2 33 rfl) rfl

theorem q1014 : (Jvm.Cond.interfaceMethod "java/util/Comparator" "java/util/Comparator" "compare" "(Ljava/lang/Object;Ljava/lang/Object;)I") ∈ lw_tbl := lw_at lw_m4 193 rfl
set_option maxRecDepth 100000
theorem q1015 : (Jvm.Cond.declares ({ cls := "java/util/Comparator", name := "compare", desc := "(Ljava/lang/Object;Ljava/lang/Object;)I" } : Jvm.MethodName)) ∈ lw_tbl := lw_at lw_m4 194 rfl

theorem q138 : (Jvm.Cond.initialized "jdk/internal/misc/UnsafeConstants") ∈ lw_all := lw_g (lw_at lw_m1 37 rfl) rfl
set_option maxRecDepth 100000
theorem q1171 : (Jvm.Cond.laysStatic "jdk/internal/misc/UnsafeConstants" "BIG_ENDIAN" "Z") ∈ lw_tbl := lw_at lw_m5 110 rfl

theorem q184 : (Jvm.Cond.arrayOver (Jvm.ClassFile.FieldType.object "ToldPowers$Kind")) ∈ lw_tbl := lw_at lw_m1 83 rfl
set_option maxRecDepth 100000
theorem q196 : (Jvm.Cond.arrayOver (Jvm.ClassFile.FieldType.object "java/lang/String")) ∈ lw_tbl := lw_at lw_m1 95 rfl
theorem q203 : (Jvm.Cond.arrayOver (Jvm.ClassFile.FieldType.object "ToldPowers$Form")) ∈ lw_tbl := lw_at lw_m1 102 rfl
theorem q205 : (Jvm.Cond.arrayOver (Jvm.ClassFile.FieldType.array Jvm.ClassFile.FieldType.long)) ∈ lw_tbl := lw_at lw_m1 104 rfl
theorem q207 : (Jvm.Cond.arrayOver (Jvm.ClassFile.FieldType.array Jvm.ClassFile.FieldType.boolean)) ∈ lw_tbl := lw_at lw_m1 106 rfl
theorem q275 : (Jvm.Cond.arrayClass Jvm.ClassFile.FieldType.byte) ∈ lw_all := lw_g (lw_at lw_m1 174 rfl) rfl
theorem q276 : (Jvm.Cond.arrayClass Jvm.ClassFile.FieldType.long) ∈ lw_all := lw_g (lw_at lw_m1 175 rfl) rfl
theorem q277 : (Jvm.Cond.arrayClass Jvm.ClassFile.FieldType.boolean) ∈ lw_all := lw_g (lw_at lw_m1 176 rfl) rfl
theorem q375 : (Jvm.Cond.arrayClass Jvm.ClassFile.FieldType.int) ∈ lw_all := lw_g (lw_at lw_m2 34 rfl) rfl
theorem q830 : (Jvm.Cond.arrayOver (Jvm.ClassFile.FieldType.object "java/lang/Object")) ∈ lw_tbl := lw_at lw_m4 9 rfl
theorem q865 : (Jvm.Cond.arrayOver (Jvm.ClassFile.FieldType.object "ToldPowers$Term")) ∈ lw_tbl := lw_at lw_m4 44 rfl
theorem q1420 : (Jvm.Cond.arrayOver (Jvm.ClassFile.FieldType.object "ToldPowers$Sum")) ∈ lw_tbl := lw_at lw_m6 119 rfl
