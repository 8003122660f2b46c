/-! java/util/AbstractQueue -/
set_option maxRecDepth 100000
def RJ27 : String := "java/util/AbstractQueue"
abbrev cJ27_init : ByteArray := prog_54_method_1_code
def yJ27_init : MethodName := ⟨RJ27, "<init>", "()V"⟩
theorem dJ27_init_0 : decode cJ27_init 0 = .ok (.aload_n 0, 1) := by decide +kernel
theorem dJ27_init_1 : decode cJ27_init 1 = .ok (.invokespecial 1, 3) := by decide +kernel
theorem dJ27_init_4 : decode cJ27_init 4 = .ok (.return_, 1) := by decide +kernel
theorem q148 : (Jvm.Cond.initialized "java/util/AbstractQueue") ∈ lw_all := lw_g (lw_at lw_m1 47 rfl) rfl
theorem q1668 : (Jvm.Cond.instanceMethod ({ cls := "java/util/AbstractQueue", name := "<init>", desc := "()V" } : Jvm.MethodName)) ∈ lw_all := lw_g (lw_at lw_m7 127 rfl) rfl
theorem q1669 : (Jvm.Cond.code ({ cls := "java/util/AbstractQueue", name := "<init>", desc := "()V" } : Jvm.MethodName) prog_54_method_1_code (1 : Nat) (Option.none : Option Jvm.ClassFile.FieldType)) ∈ lw_all := lw_g (lw_at lw_m7 128 rfl) rfl
theorem q1670 : (Jvm.Cond.methodLink "java/util/AbstractQueue" (1 : Nat) ({ cls := "java/util/AbstractCollection", name := "<init>", desc := "()V" } : Jvm.MethodName)) ∈ lw_all := lw_g (lw_at lw_m7 129 rfl) rfl

/-! java/util/PriorityQueue -/
set_option maxRecDepth 100000
abbrev cJ28_init : ByteArray := prog_64_method_1_code
def yJ28_init : MethodName := ⟨RJ28, "<init>", "()V"⟩
def dkwJ28_init_0 : List UInt8 := [42, 16, 11, 1, 183, 0, 3, 177]
abbrev dktJ28_init_0 : List UInt8 := dkwJ28_init_0 ++ []
theorem dksJ28_init_0 : cJ28_init.data.toList.drop 0 = dktJ28_init_0 := by decide +kernel
theorem dJ28_init_0 : decode cJ28_init 0 = .ok (.aload_n 0, 1) := dk_42 (dk_at dksJ28_init_0 0 rfl rfl)
theorem dJ28_init_1 : decode cJ28_init 1 = .ok (.bipush 11, 2) := dk_16 11 (dk_at dksJ28_init_0 1 rfl rfl)
theorem dJ28_init_3 : decode cJ28_init 3 = .ok (.aconst_null, 1) := dk_1 (dk_at dksJ28_init_0 3 rfl rfl)
theorem dJ28_init_4 : decode cJ28_init 4 = .ok (.invokespecial 3, 3) := dk_183 0 3 (dk_at dksJ28_init_0 4 rfl rfl)
theorem dJ28_init_7 : decode cJ28_init 7 = .ok (.return_, 1) := dk_177 (dk_at dksJ28_init_0 7 rfl rfl)
abbrev cJ28_init_2 : ByteArray := prog_64_method_4_code
def yJ28_init_2 : MethodName := ⟨RJ28, "<init>", "(ILjava/util/Comparator;)V"⟩
def dkwJ28_init_2_1 : List UInt8 := [181, 0, 17, 42, 44, 181, 0, 21, 177]
abbrev dktJ28_init_2_1 : List UInt8 := dkwJ28_init_2_1 ++ []
def dkwJ28_init_2_0 : List UInt8 := [42, 183, 0, 7, 27, 4, 162, 0, 11, 187, 0, 12, 89, 183, 0, 14, 191, 42, 27, 189, 0, 15]
abbrev dktJ28_init_2_0 : List UInt8 := dkwJ28_init_2_0 ++ dktJ28_init_2_1
theorem dksJ28_init_2_0 : cJ28_init_2.data.toList.drop 0 = dktJ28_init_2_0 := by decide +kernel
theorem dksJ28_init_2_1 : cJ28_init_2.data.toList.drop 22 = dktJ28_init_2_1 := dk_seg dksJ28_init_2_0 22 rfl rfl
theorem dJ28_init_2_0 : decode cJ28_init_2 0 = .ok (.aload_n 0, 1) := dk_42 (dk_at dksJ28_init_2_0 0 rfl rfl)
theorem dJ28_init_2_1 : decode cJ28_init_2 1 = .ok (.invokespecial 7, 3) := dk_183 0 7 (dk_at dksJ28_init_2_0 1 rfl rfl)
theorem dJ28_init_2_4 : decode cJ28_init_2 4 = .ok (.iload_n 1, 1) := dk_27 (dk_at dksJ28_init_2_0 4 rfl rfl)
theorem dJ28_init_2_5 : decode cJ28_init_2 5 = .ok (.iconst 1, 1) := dk_4 (dk_at dksJ28_init_2_0 5 rfl rfl)
theorem dJ28_init_2_6 : decode cJ28_init_2 6 = .ok (.if_icmp .ge 11, 3) := dk_162 0 11 (dk_at dksJ28_init_2_0 6 rfl rfl)
theorem dJ28_init_2_9 : decode cJ28_init_2 9 = .ok (.new 12, 3) := dk_187 0 12 (dk_at dksJ28_init_2_0 9 rfl rfl)
theorem dJ28_init_2_12 : decode cJ28_init_2 12 = .ok (.dup, 1) := dk_89 (dk_at dksJ28_init_2_0 12 rfl rfl)
theorem dJ28_init_2_13 : decode cJ28_init_2 13 = .ok (.invokespecial 14, 3) := dk_183 0 14 (dk_at dksJ28_init_2_0 13 rfl rfl)
theorem dJ28_init_2_16 : decode cJ28_init_2 16 = .ok (.athrow, 1) := dk_191 (dk_at dksJ28_init_2_0 16 rfl rfl)
theorem dJ28_init_2_17 : decode cJ28_init_2 17 = .ok (.aload_n 0, 1) := dk_42 (dk_at dksJ28_init_2_0 17 rfl rfl)
theorem dJ28_init_2_18 : decode cJ28_init_2 18 = .ok (.iload_n 1, 1) := dk_27 (dk_at dksJ28_init_2_0 18 rfl rfl)
theorem dJ28_init_2_19 : decode cJ28_init_2 19 = .ok (.anewarray 15, 3) := dk_189 0 15 (dk_at dksJ28_init_2_0 19 rfl rfl)
theorem dJ28_init_2_22 : decode cJ28_init_2 22 = .ok (.putfield 17, 3) := dk_181 0 17 (dk_at dksJ28_init_2_1 0 rfl rfl)
theorem dJ28_init_2_25 : decode cJ28_init_2 25 = .ok (.aload_n 0, 1) := dk_42 (dk_at dksJ28_init_2_1 3 rfl rfl)
theorem dJ28_init_2_26 : decode cJ28_init_2 26 = .ok (.aload_n 2, 1) := dk_44 (dk_at dksJ28_init_2_1 4 rfl rfl)
theorem dJ28_init_2_27 : decode cJ28_init_2 27 = .ok (.putfield 21, 3) := dk_181 0 21 (dk_at dksJ28_init_2_1 5 rfl rfl)
theorem dJ28_init_2_30 : decode cJ28_init_2 30 = .ok (.return_, 1) := dk_177 (dk_at dksJ28_init_2_1 8 rfl rfl)
abbrev cJ28_add : ByteArray := prog_64_method_13_code
def yJ28_add : MethodName := ⟨RJ28, "add", "(Ljava/lang/Object;)Z"⟩
def dkwJ28_add_0 : List UInt8 := [42, 43, 182, 0, 89, 172]
abbrev dktJ28_add_0 : List UInt8 := dkwJ28_add_0 ++ []
theorem dksJ28_add_0 : cJ28_add.data.toList.drop 0 = dktJ28_add_0 := by decide +kernel
theorem dJ28_add_0 : decode cJ28_add 0 = .ok (.aload_n 0, 1) := dk_42 (dk_at dksJ28_add_0 0 rfl rfl)
theorem dJ28_add_1 : decode cJ28_add 1 = .ok (.aload_n 1, 1) := dk_43 (dk_at dksJ28_add_0 1 rfl rfl)
theorem dJ28_add_2 : decode cJ28_add 2 = .ok (.invokevirtual 89, 3) := dk_182 0 89 (dk_at dksJ28_add_0 2 rfl rfl)
theorem dJ28_add_5 : decode cJ28_add 5 = .ok (.ireturn, 1) := dk_172 (dk_at dksJ28_add_0 5 rfl rfl)
abbrev cJ28_offer : ByteArray := prog_64_method_14_code
def yJ28_offer : MethodName := ⟨RJ28, "offer", "(Ljava/lang/Object;)Z"⟩
def dkwJ28_offer_2 : List UInt8 := [182, 0, 100, 42, 28, 4, 96, 181, 0, 58, 4, 172]
abbrev dktJ28_offer_2 : List UInt8 := dkwJ28_offer_2 ++ []
def dkwJ28_offer_1 : List UInt8 := [180, 0, 58, 61, 28, 42, 180, 0, 17, 190, 161, 0, 10, 42, 28, 4, 96, 182, 0, 96, 42, 28, 43]
abbrev dktJ28_offer_1 : List UInt8 := dkwJ28_offer_1 ++ dktJ28_offer_2
def dkwJ28_offer_0 : List UInt8 := [43, 199, 0, 11, 187, 0, 74, 89, 183, 0, 76, 191, 42, 89, 180, 0, 93, 4, 96, 181, 0, 93, 42]
abbrev dktJ28_offer_0 : List UInt8 := dkwJ28_offer_0 ++ dktJ28_offer_1
theorem dksJ28_offer_0 : cJ28_offer.data.toList.drop 0 = dktJ28_offer_0 := by decide +kernel
theorem dksJ28_offer_1 : cJ28_offer.data.toList.drop 23 = dktJ28_offer_1 := dk_seg dksJ28_offer_0 23 rfl rfl
theorem dksJ28_offer_2 : cJ28_offer.data.toList.drop 46 = dktJ28_offer_2 := dk_seg dksJ28_offer_1 23 rfl rfl
theorem dJ28_offer_0 : decode cJ28_offer 0 = .ok (.aload_n 1, 1) := dk_43 (dk_at dksJ28_offer_0 0 rfl rfl)
theorem dJ28_offer_1 : decode cJ28_offer 1 = .ok (.ifnonnull 11, 3) := dk_199 0 11 (dk_at dksJ28_offer_0 1 rfl rfl)
theorem dJ28_offer_4 : decode cJ28_offer 4 = .ok (.new 74, 3) := dk_187 0 74 (dk_at dksJ28_offer_0 4 rfl rfl)
theorem dJ28_offer_7 : decode cJ28_offer 7 = .ok (.dup, 1) := dk_89 (dk_at dksJ28_offer_0 7 rfl rfl)
theorem dJ28_offer_8 : decode cJ28_offer 8 = .ok (.invokespecial 76, 3) := dk_183 0 76 (dk_at dksJ28_offer_0 8 rfl rfl)
theorem dJ28_offer_11 : decode cJ28_offer 11 = .ok (.athrow, 1) := dk_191 (dk_at dksJ28_offer_0 11 rfl rfl)
theorem dJ28_offer_12 : decode cJ28_offer 12 = .ok (.aload_n 0, 1) := dk_42 (dk_at dksJ28_offer_0 12 rfl rfl)
theorem dJ28_offer_13 : decode cJ28_offer 13 = .ok (.dup, 1) := dk_89 (dk_at dksJ28_offer_0 13 rfl rfl)
theorem dJ28_offer_14 : decode cJ28_offer 14 = .ok (.getfield 93, 3) := dk_180 0 93 (dk_at dksJ28_offer_0 14 rfl rfl)
theorem dJ28_offer_17 : decode cJ28_offer 17 = .ok (.iconst 1, 1) := dk_4 (dk_at dksJ28_offer_0 17 rfl rfl)
theorem dJ28_offer_18 : decode cJ28_offer 18 = .ok (.iadd, 1) := dk_96 (dk_at dksJ28_offer_0 18 rfl rfl)
theorem dJ28_offer_19 : decode cJ28_offer 19 = .ok (.putfield 93, 3) := dk_181 0 93 (dk_at dksJ28_offer_0 19 rfl rfl)
theorem dJ28_offer_22 : decode cJ28_offer 22 = .ok (.aload_n 0, 1) := dk_42 (dk_at dksJ28_offer_0 22 rfl rfl)
theorem dJ28_offer_23 : decode cJ28_offer 23 = .ok (.getfield 58, 3) := dk_180 0 58 (dk_at dksJ28_offer_1 0 rfl rfl)
theorem dJ28_offer_26 : decode cJ28_offer 26 = .ok (.istore_n 2, 1) := dk_61 (dk_at dksJ28_offer_1 3 rfl rfl)
theorem dJ28_offer_27 : decode cJ28_offer 27 = .ok (.iload_n 2, 1) := dk_28 (dk_at dksJ28_offer_1 4 rfl rfl)
theorem dJ28_offer_28 : decode cJ28_offer 28 = .ok (.aload_n 0, 1) := dk_42 (dk_at dksJ28_offer_1 5 rfl rfl)
theorem dJ28_offer_29 : decode cJ28_offer 29 = .ok (.getfield 17, 3) := dk_180 0 17 (dk_at dksJ28_offer_1 6 rfl rfl)
theorem dJ28_offer_32 : decode cJ28_offer 32 = .ok (.arraylength, 1) := dk_190 (dk_at dksJ28_offer_1 9 rfl rfl)
theorem dJ28_offer_33 : decode cJ28_offer 33 = .ok (.if_icmp .lt 10, 3) := dk_161 0 10 (dk_at dksJ28_offer_1 10 rfl rfl)
theorem dJ28_offer_36 : decode cJ28_offer 36 = .ok (.aload_n 0, 1) := dk_42 (dk_at dksJ28_offer_1 13 rfl rfl)
theorem dJ28_offer_37 : decode cJ28_offer 37 = .ok (.iload_n 2, 1) := dk_28 (dk_at dksJ28_offer_1 14 rfl rfl)
theorem dJ28_offer_38 : decode cJ28_offer 38 = .ok (.iconst 1, 1) := dk_4 (dk_at dksJ28_offer_1 15 rfl rfl)
theorem dJ28_offer_39 : decode cJ28_offer 39 = .ok (.iadd, 1) := dk_96 (dk_at dksJ28_offer_1 16 rfl rfl)
theorem dJ28_offer_40 : decode cJ28_offer 40 = .ok (.invokevirtual 96, 3) := dk_182 0 96 (dk_at dksJ28_offer_1 17 rfl rfl)
theorem dJ28_offer_43 : decode cJ28_offer 43 = .ok (.aload_n 0, 1) := dk_42 (dk_at dksJ28_offer_1 20 rfl rfl)
theorem dJ28_offer_44 : decode cJ28_offer 44 = .ok (.iload_n 2, 1) := dk_28 (dk_at dksJ28_offer_1 21 rfl rfl)
theorem dJ28_offer_45 : decode cJ28_offer 45 = .ok (.aload_n 1, 1) := dk_43 (dk_at dksJ28_offer_1 22 rfl rfl)
theorem dJ28_offer_46 : decode cJ28_offer 46 = .ok (.invokevirtual 100, 3) := dk_182 0 100 (dk_at dksJ28_offer_2 0 rfl rfl)
theorem dJ28_offer_49 : decode cJ28_offer 49 = .ok (.aload_n 0, 1) := dk_42 (dk_at dksJ28_offer_2 3 rfl rfl)
theorem dJ28_offer_50 : decode cJ28_offer 50 = .ok (.iload_n 2, 1) := dk_28 (dk_at dksJ28_offer_2 4 rfl rfl)
theorem dJ28_offer_51 : decode cJ28_offer 51 = .ok (.iconst 1, 1) := dk_4 (dk_at dksJ28_offer_2 5 rfl rfl)
theorem dJ28_offer_52 : decode cJ28_offer 52 = .ok (.iadd, 1) := dk_96 (dk_at dksJ28_offer_2 6 rfl rfl)
theorem dJ28_offer_53 : decode cJ28_offer 53 = .ok (.putfield 58, 3) := dk_181 0 58 (dk_at dksJ28_offer_2 7 rfl rfl)
theorem dJ28_offer_56 : decode cJ28_offer 56 = .ok (.iconst 1, 1) := dk_4 (dk_at dksJ28_offer_2 10 rfl rfl)
theorem dJ28_offer_57 : decode cJ28_offer 57 = .ok (.ireturn, 1) := dk_172 (dk_at dksJ28_offer_2 11 rfl rfl)
abbrev cJ28_grow : ByteArray := prog_64_method_12_code
def yJ28_grow : MethodName := ⟨RJ28, "grow", "(I)V"⟩
def dkwJ28_grow_1 : List UInt8 := [122, 184, 0, 80, 62, 42, 42, 180, 0, 17, 29, 184, 0, 86, 181, 0, 17, 177]
abbrev dktJ28_grow_1 : List UInt8 := dkwJ28_grow_1 ++ []
def dkwJ28_grow_0 : List UInt8 := [42, 180, 0, 17, 190, 61, 28, 27, 28, 100, 28, 16, 64, 162, 0, 9, 28, 5, 96, 167, 0, 6, 28, 4]
abbrev dktJ28_grow_0 : List UInt8 := dkwJ28_grow_0 ++ dktJ28_grow_1
theorem dksJ28_grow_0 : cJ28_grow.data.toList.drop 0 = dktJ28_grow_0 := by decide +kernel
theorem dksJ28_grow_1 : cJ28_grow.data.toList.drop 24 = dktJ28_grow_1 := dk_seg dksJ28_grow_0 24 rfl rfl
theorem dJ28_grow_0 : decode cJ28_grow 0 = .ok (.aload_n 0, 1) := dk_42 (dk_at dksJ28_grow_0 0 rfl rfl)
theorem dJ28_grow_1 : decode cJ28_grow 1 = .ok (.getfield 17, 3) := dk_180 0 17 (dk_at dksJ28_grow_0 1 rfl rfl)
theorem dJ28_grow_4 : decode cJ28_grow 4 = .ok (.arraylength, 1) := dk_190 (dk_at dksJ28_grow_0 4 rfl rfl)
theorem dJ28_grow_5 : decode cJ28_grow 5 = .ok (.istore_n 2, 1) := dk_61 (dk_at dksJ28_grow_0 5 rfl rfl)
theorem dJ28_grow_6 : decode cJ28_grow 6 = .ok (.iload_n 2, 1) := dk_28 (dk_at dksJ28_grow_0 6 rfl rfl)
theorem dJ28_grow_7 : decode cJ28_grow 7 = .ok (.iload_n 1, 1) := dk_27 (dk_at dksJ28_grow_0 7 rfl rfl)
theorem dJ28_grow_8 : decode cJ28_grow 8 = .ok (.iload_n 2, 1) := dk_28 (dk_at dksJ28_grow_0 8 rfl rfl)
theorem dJ28_grow_9 : decode cJ28_grow 9 = .ok (.isub, 1) := dk_100 (dk_at dksJ28_grow_0 9 rfl rfl)
theorem dJ28_grow_10 : decode cJ28_grow 10 = .ok (.iload_n 2, 1) := dk_28 (dk_at dksJ28_grow_0 10 rfl rfl)
theorem dJ28_grow_11 : decode cJ28_grow 11 = .ok (.bipush 64, 2) := dk_16 64 (dk_at dksJ28_grow_0 11 rfl rfl)
theorem dJ28_grow_13 : decode cJ28_grow 13 = .ok (.if_icmp .ge 9, 3) := dk_162 0 9 (dk_at dksJ28_grow_0 13 rfl rfl)
theorem dJ28_grow_16 : decode cJ28_grow 16 = .ok (.iload_n 2, 1) := dk_28 (dk_at dksJ28_grow_0 16 rfl rfl)
theorem dJ28_grow_17 : decode cJ28_grow 17 = .ok (.iconst 2, 1) := dk_5 (dk_at dksJ28_grow_0 17 rfl rfl)
theorem dJ28_grow_18 : decode cJ28_grow 18 = .ok (.iadd, 1) := dk_96 (dk_at dksJ28_grow_0 18 rfl rfl)
theorem dJ28_grow_19 : decode cJ28_grow 19 = .ok (.goto 6, 3) := dk_167 0 6 (dk_at dksJ28_grow_0 19 rfl rfl)
theorem dJ28_grow_22 : decode cJ28_grow 22 = .ok (.iload_n 2, 1) := dk_28 (dk_at dksJ28_grow_0 22 rfl rfl)
theorem dJ28_grow_23 : decode cJ28_grow 23 = .ok (.iconst 1, 1) := dk_4 (dk_at dksJ28_grow_0 23 rfl rfl)
theorem dJ28_grow_24 : decode cJ28_grow 24 = .ok (.ishr, 1) := dk_122 (dk_at dksJ28_grow_1 0 rfl rfl)
theorem dJ28_grow_25 : decode cJ28_grow 25 = .ok (.invokestatic 80, 3) := dk_184 0 80 (dk_at dksJ28_grow_1 1 rfl rfl)
theorem dJ28_grow_28 : decode cJ28_grow 28 = .ok (.istore_n 3, 1) := dk_62 (dk_at dksJ28_grow_1 4 rfl rfl)
theorem dJ28_grow_29 : decode cJ28_grow 29 = .ok (.aload_n 0, 1) := dk_42 (dk_at dksJ28_grow_1 5 rfl rfl)
theorem dJ28_grow_30 : decode cJ28_grow 30 = .ok (.aload_n 0, 1) := dk_42 (dk_at dksJ28_grow_1 6 rfl rfl)
theorem dJ28_grow_31 : decode cJ28_grow 31 = .ok (.getfield 17, 3) := dk_180 0 17 (dk_at dksJ28_grow_1 7 rfl rfl)
theorem dJ28_grow_34 : decode cJ28_grow 34 = .ok (.iload_n 3, 1) := dk_29 (dk_at dksJ28_grow_1 10 rfl rfl)
theorem dJ28_grow_35 : decode cJ28_grow 35 = .ok (.invokestatic 86, 3) := dk_184 0 86 (dk_at dksJ28_grow_1 11 rfl rfl)
theorem dJ28_grow_38 : decode cJ28_grow 38 = .ok (.putfield 17, 3) := dk_181 0 17 (dk_at dksJ28_grow_1 14 rfl rfl)
theorem dJ28_grow_41 : decode cJ28_grow 41 = .ok (.return_, 1) := dk_177 (dk_at dksJ28_grow_1 17 rfl rfl)
abbrev cJ28_siftUp : ByteArray := prog_64_method_27_code
def yJ28_siftUp : MethodName := ⟨RJ28, "siftUp", "(ILjava/lang/Object;)V"⟩
def dkwJ28_siftUp_1 : List UInt8 := [44, 42, 180, 0, 17, 184, 0, 140, 177]
abbrev dktJ28_siftUp_1 : List UInt8 := dkwJ28_siftUp_1 ++ []
def dkwJ28_siftUp_0 : List UInt8 := [42, 180, 0, 21, 198, 0, 19, 27, 44, 42, 180, 0, 17, 42, 180, 0, 21, 184, 0, 136, 167, 0, 12, 27]
abbrev dktJ28_siftUp_0 : List UInt8 := dkwJ28_siftUp_0 ++ dktJ28_siftUp_1
theorem dksJ28_siftUp_0 : cJ28_siftUp.data.toList.drop 0 = dktJ28_siftUp_0 := by decide +kernel
theorem dksJ28_siftUp_1 : cJ28_siftUp.data.toList.drop 24 = dktJ28_siftUp_1 := dk_seg dksJ28_siftUp_0 24 rfl rfl
theorem dJ28_siftUp_0 : decode cJ28_siftUp 0 = .ok (.aload_n 0, 1) := dk_42 (dk_at dksJ28_siftUp_0 0 rfl rfl)
theorem dJ28_siftUp_1 : decode cJ28_siftUp 1 = .ok (.getfield 21, 3) := dk_180 0 21 (dk_at dksJ28_siftUp_0 1 rfl rfl)
theorem dJ28_siftUp_4 : decode cJ28_siftUp 4 = .ok (.ifnull 19, 3) := dk_198 0 19 (dk_at dksJ28_siftUp_0 4 rfl rfl)
theorem dJ28_siftUp_7 : decode cJ28_siftUp 7 = .ok (.iload_n 1, 1) := dk_27 (dk_at dksJ28_siftUp_0 7 rfl rfl)
theorem dJ28_siftUp_8 : decode cJ28_siftUp 8 = .ok (.aload_n 2, 1) := dk_44 (dk_at dksJ28_siftUp_0 8 rfl rfl)
theorem dJ28_siftUp_9 : decode cJ28_siftUp 9 = .ok (.aload_n 0, 1) := dk_42 (dk_at dksJ28_siftUp_0 9 rfl rfl)
theorem dJ28_siftUp_10 : decode cJ28_siftUp 10 = .ok (.getfield 17, 3) := dk_180 0 17 (dk_at dksJ28_siftUp_0 10 rfl rfl)
theorem dJ28_siftUp_13 : decode cJ28_siftUp 13 = .ok (.aload_n 0, 1) := dk_42 (dk_at dksJ28_siftUp_0 13 rfl rfl)
theorem dJ28_siftUp_14 : decode cJ28_siftUp 14 = .ok (.getfield 21, 3) := dk_180 0 21 (dk_at dksJ28_siftUp_0 14 rfl rfl)
theorem dJ28_siftUp_17 : decode cJ28_siftUp 17 = .ok (.invokestatic 136, 3) := dk_184 0 136 (dk_at dksJ28_siftUp_0 17 rfl rfl)
theorem dJ28_siftUp_20 : decode cJ28_siftUp 20 = .ok (.goto 12, 3) := dk_167 0 12 (dk_at dksJ28_siftUp_0 20 rfl rfl)
theorem dJ28_siftUp_23 : decode cJ28_siftUp 23 = .ok (.iload_n 1, 1) := dk_27 (dk_at dksJ28_siftUp_0 23 rfl rfl)
theorem dJ28_siftUp_24 : decode cJ28_siftUp 24 = .ok (.aload_n 2, 1) := dk_44 (dk_at dksJ28_siftUp_1 0 rfl rfl)
theorem dJ28_siftUp_25 : decode cJ28_siftUp 25 = .ok (.aload_n 0, 1) := dk_42 (dk_at dksJ28_siftUp_1 1 rfl rfl)
theorem dJ28_siftUp_26 : decode cJ28_siftUp 26 = .ok (.getfield 17, 3) := dk_180 0 17 (dk_at dksJ28_siftUp_1 2 rfl rfl)
theorem dJ28_siftUp_29 : decode cJ28_siftUp 29 = .ok (.invokestatic 140, 3) := dk_184 0 140 (dk_at dksJ28_siftUp_1 5 rfl rfl)
theorem dJ28_siftUp_32 : decode cJ28_siftUp 32 = .ok (.return_, 1) := dk_177 (dk_at dksJ28_siftUp_1 8 rfl rfl)
abbrev cJ28_siftUpUsingComparator : ByteArray := prog_64_method_29_code
def yJ28_siftUpUsingComparator : MethodName := ⟨RJ28, "siftUpUsingComparator", "(ILjava/lang/Object;[Ljava/lang/Object;Ljava/util/Comparator;)V"⟩
def dkwJ28_siftUpUsingComparator_2 : List UInt8 := [43, 83, 177]
abbrev dktJ28_siftUpUsingComparator_2 : List UInt8 := dkwJ28_siftUpUsingComparator_2 ++ []
def dkwJ28_siftUpUsingComparator_1 : List UInt8 := [185, 0, 149, 3, 0, 155, 0, 6, 167, 0, 14, 44, 26, 25, 5, 83, 21, 4, 59, 167, 255, 216, 44, 26]
abbrev dktJ28_siftUpUsingComparator_1 : List UInt8 := dkwJ28_siftUpUsingComparator_1 ++ dktJ28_siftUpUsingComparator_2
def dkwJ28_siftUpUsingComparator_0 : List UInt8 := [26, 158, 0, 42, 26, 4, 100, 4, 124, 54, 4, 44, 21, 4, 50, 58, 5, 45, 43, 25, 5]
abbrev dktJ28_siftUpUsingComparator_0 : List UInt8 := dkwJ28_siftUpUsingComparator_0 ++ dktJ28_siftUpUsingComparator_1
theorem dksJ28_siftUpUsingComparator_0 : cJ28_siftUpUsingComparator.data.toList.drop 0 = dktJ28_siftUpUsingComparator_0 := by decide +kernel
theorem dksJ28_siftUpUsingComparator_1 : cJ28_siftUpUsingComparator.data.toList.drop 21 = dktJ28_siftUpUsingComparator_1 := dk_seg dksJ28_siftUpUsingComparator_0 21 rfl rfl
theorem dksJ28_siftUpUsingComparator_2 : cJ28_siftUpUsingComparator.data.toList.drop 45 = dktJ28_siftUpUsingComparator_2 := dk_seg dksJ28_siftUpUsingComparator_1 24 rfl rfl
theorem dJ28_siftUpUsingComparator_0 : decode cJ28_siftUpUsingComparator 0 = .ok (.iload_n 0, 1) := dk_26 (dk_at dksJ28_siftUpUsingComparator_0 0 rfl rfl)
theorem dJ28_siftUpUsingComparator_1 : decode cJ28_siftUpUsingComparator 1 = .ok (.ifCond .le 42, 3) := dk_158 0 42 (dk_at dksJ28_siftUpUsingComparator_0 1 rfl rfl)
theorem dJ28_siftUpUsingComparator_4 : decode cJ28_siftUpUsingComparator 4 = .ok (.iload_n 0, 1) := dk_26 (dk_at dksJ28_siftUpUsingComparator_0 4 rfl rfl)
theorem dJ28_siftUpUsingComparator_5 : decode cJ28_siftUpUsingComparator 5 = .ok (.iconst 1, 1) := dk_4 (dk_at dksJ28_siftUpUsingComparator_0 5 rfl rfl)
theorem dJ28_siftUpUsingComparator_6 : decode cJ28_siftUpUsingComparator 6 = .ok (.isub, 1) := dk_100 (dk_at dksJ28_siftUpUsingComparator_0 6 rfl rfl)
theorem dJ28_siftUpUsingComparator_7 : decode cJ28_siftUpUsingComparator 7 = .ok (.iconst 1, 1) := dk_4 (dk_at dksJ28_siftUpUsingComparator_0 7 rfl rfl)
theorem dJ28_siftUpUsingComparator_8 : decode cJ28_siftUpUsingComparator 8 = .ok (.iushr, 1) := dk_124 (dk_at dksJ28_siftUpUsingComparator_0 8 rfl rfl)
theorem dJ28_siftUpUsingComparator_9 : decode cJ28_siftUpUsingComparator 9 = .ok (.istore 4, 2) := dk_54 4 (dk_at dksJ28_siftUpUsingComparator_0 9 rfl rfl)
theorem dJ28_siftUpUsingComparator_11 : decode cJ28_siftUpUsingComparator 11 = .ok (.aload_n 2, 1) := dk_44 (dk_at dksJ28_siftUpUsingComparator_0 11 rfl rfl)
theorem dJ28_siftUpUsingComparator_12 : decode cJ28_siftUpUsingComparator 12 = .ok (.iload 4, 2) := dk_21 4 (dk_at dksJ28_siftUpUsingComparator_0 12 rfl rfl)
theorem dJ28_siftUpUsingComparator_14 : decode cJ28_siftUpUsingComparator 14 = .ok (.aaload, 1) := dk_50 (dk_at dksJ28_siftUpUsingComparator_0 14 rfl rfl)
theorem dJ28_siftUpUsingComparator_15 : decode cJ28_siftUpUsingComparator 15 = .ok (.astore 5, 2) := dk_58 5 (dk_at dksJ28_siftUpUsingComparator_0 15 rfl rfl)
theorem dJ28_siftUpUsingComparator_17 : decode cJ28_siftUpUsingComparator 17 = .ok (.aload_n 3, 1) := dk_45 (dk_at dksJ28_siftUpUsingComparator_0 17 rfl rfl)
theorem dJ28_siftUpUsingComparator_18 : decode cJ28_siftUpUsingComparator 18 = .ok (.aload_n 1, 1) := dk_43 (dk_at dksJ28_siftUpUsingComparator_0 18 rfl rfl)
theorem dJ28_siftUpUsingComparator_19 : decode cJ28_siftUpUsingComparator 19 = .ok (.aload 5, 2) := dk_25 5 (dk_at dksJ28_siftUpUsingComparator_0 19 rfl rfl)
theorem dJ28_siftUpUsingComparator_21 : decode cJ28_siftUpUsingComparator 21 = .ok (.invokeinterface 149 3, 5) := by decide +kernel
theorem dJ28_siftUpUsingComparator_26 : decode cJ28_siftUpUsingComparator 26 = .ok (.ifCond .lt 6, 3) := dk_155 0 6 (dk_at dksJ28_siftUpUsingComparator_1 5 rfl rfl)
theorem dJ28_siftUpUsingComparator_29 : decode cJ28_siftUpUsingComparator 29 = .ok (.goto 14, 3) := dk_167 0 14 (dk_at dksJ28_siftUpUsingComparator_1 8 rfl rfl)
theorem dJ28_siftUpUsingComparator_32 : decode cJ28_siftUpUsingComparator 32 = .ok (.aload_n 2, 1) := dk_44 (dk_at dksJ28_siftUpUsingComparator_1 11 rfl rfl)
theorem dJ28_siftUpUsingComparator_33 : decode cJ28_siftUpUsingComparator 33 = .ok (.iload_n 0, 1) := dk_26 (dk_at dksJ28_siftUpUsingComparator_1 12 rfl rfl)
theorem dJ28_siftUpUsingComparator_34 : decode cJ28_siftUpUsingComparator 34 = .ok (.aload 5, 2) := dk_25 5 (dk_at dksJ28_siftUpUsingComparator_1 13 rfl rfl)
theorem dJ28_siftUpUsingComparator_36 : decode cJ28_siftUpUsingComparator 36 = .ok (.aastore, 1) := dk_83 (dk_at dksJ28_siftUpUsingComparator_1 15 rfl rfl)
theorem dJ28_siftUpUsingComparator_37 : decode cJ28_siftUpUsingComparator 37 = .ok (.iload 4, 2) := dk_21 4 (dk_at dksJ28_siftUpUsingComparator_1 16 rfl rfl)
theorem dJ28_siftUpUsingComparator_39 : decode cJ28_siftUpUsingComparator 39 = .ok (.istore_n 0, 1) := dk_59 (dk_at dksJ28_siftUpUsingComparator_1 18 rfl rfl)
theorem dJ28_siftUpUsingComparator_40 : decode cJ28_siftUpUsingComparator 40 = .ok (.goto (-40), 3) := dk_167 255 216 (dk_at dksJ28_siftUpUsingComparator_1 19 rfl rfl)
theorem dJ28_siftUpUsingComparator_43 : decode cJ28_siftUpUsingComparator 43 = .ok (.aload_n 2, 1) := dk_44 (dk_at dksJ28_siftUpUsingComparator_1 22 rfl rfl)
theorem dJ28_siftUpUsingComparator_44 : decode cJ28_siftUpUsingComparator 44 = .ok (.iload_n 0, 1) := dk_26 (dk_at dksJ28_siftUpUsingComparator_1 23 rfl rfl)
theorem dJ28_siftUpUsingComparator_45 : decode cJ28_siftUpUsingComparator 45 = .ok (.aload_n 1, 1) := dk_43 (dk_at dksJ28_siftUpUsingComparator_2 0 rfl rfl)
theorem dJ28_siftUpUsingComparator_46 : decode cJ28_siftUpUsingComparator 46 = .ok (.aastore, 1) := dk_83 (dk_at dksJ28_siftUpUsingComparator_2 1 rfl rfl)
theorem dJ28_siftUpUsingComparator_47 : decode cJ28_siftUpUsingComparator 47 = .ok (.return_, 1) := dk_177 (dk_at dksJ28_siftUpUsingComparator_2 2 rfl rfl)
abbrev cJ28_siftUpComparable : ByteArray := prog_64_method_28_code
def yJ28_siftUpComparable : MethodName := ⟨RJ28, "siftUpComparable", "(ILjava/lang/Object;[Ljava/lang/Object;)V"⟩
def dkwJ28_siftUpComparable_2 : List UInt8 := [44, 26, 45, 83, 177]
abbrev dktJ28_siftUpComparable_2 : List UInt8 := dkwJ28_siftUpComparable_2 ++ []
def dkwJ28_siftUpComparable_1 : List UInt8 := [25, 5, 185, 0, 146, 2, 0, 155, 0, 6, 167, 0, 14, 44, 26, 25, 5, 83, 21, 4, 59, 167, 255, 217]
abbrev dktJ28_siftUpComparable_1 : List UInt8 := dkwJ28_siftUpComparable_1 ++ dktJ28_siftUpComparable_2
def dkwJ28_siftUpComparable_0 : List UInt8 := [43, 192, 0, 144, 78, 26, 158, 0, 41, 26, 4, 100, 4, 124, 54, 4, 44, 21, 4, 50, 58, 5, 45]
abbrev dktJ28_siftUpComparable_0 : List UInt8 := dkwJ28_siftUpComparable_0 ++ dktJ28_siftUpComparable_1
theorem dksJ28_siftUpComparable_0 : cJ28_siftUpComparable.data.toList.drop 0 = dktJ28_siftUpComparable_0 := by decide +kernel
theorem dksJ28_siftUpComparable_1 : cJ28_siftUpComparable.data.toList.drop 23 = dktJ28_siftUpComparable_1 := dk_seg dksJ28_siftUpComparable_0 23 rfl rfl
theorem dksJ28_siftUpComparable_2 : cJ28_siftUpComparable.data.toList.drop 47 = dktJ28_siftUpComparable_2 := dk_seg dksJ28_siftUpComparable_1 24 rfl rfl
theorem dJ28_siftUpComparable_0 : decode cJ28_siftUpComparable 0 = .ok (.aload_n 1, 1) := dk_43 (dk_at dksJ28_siftUpComparable_0 0 rfl rfl)
theorem dJ28_siftUpComparable_1 : decode cJ28_siftUpComparable 1 = .ok (.checkcast 144, 3) := dk_192 0 144 (dk_at dksJ28_siftUpComparable_0 1 rfl rfl)
theorem dJ28_siftUpComparable_4 : decode cJ28_siftUpComparable 4 = .ok (.astore_n 3, 1) := dk_78 (dk_at dksJ28_siftUpComparable_0 4 rfl rfl)
theorem dJ28_siftUpComparable_5 : decode cJ28_siftUpComparable 5 = .ok (.iload_n 0, 1) := dk_26 (dk_at dksJ28_siftUpComparable_0 5 rfl rfl)
theorem dJ28_siftUpComparable_6 : decode cJ28_siftUpComparable 6 = .ok (.ifCond .le 41, 3) := dk_158 0 41 (dk_at dksJ28_siftUpComparable_0 6 rfl rfl)
theorem dJ28_siftUpComparable_9 : decode cJ28_siftUpComparable 9 = .ok (.iload_n 0, 1) := dk_26 (dk_at dksJ28_siftUpComparable_0 9 rfl rfl)
theorem dJ28_siftUpComparable_10 : decode cJ28_siftUpComparable 10 = .ok (.iconst 1, 1) := dk_4 (dk_at dksJ28_siftUpComparable_0 10 rfl rfl)
theorem dJ28_siftUpComparable_11 : decode cJ28_siftUpComparable 11 = .ok (.isub, 1) := dk_100 (dk_at dksJ28_siftUpComparable_0 11 rfl rfl)
theorem dJ28_siftUpComparable_12 : decode cJ28_siftUpComparable 12 = .ok (.iconst 1, 1) := dk_4 (dk_at dksJ28_siftUpComparable_0 12 rfl rfl)
theorem dJ28_siftUpComparable_13 : decode cJ28_siftUpComparable 13 = .ok (.iushr, 1) := dk_124 (dk_at dksJ28_siftUpComparable_0 13 rfl rfl)
theorem dJ28_siftUpComparable_14 : decode cJ28_siftUpComparable 14 = .ok (.istore 4, 2) := dk_54 4 (dk_at dksJ28_siftUpComparable_0 14 rfl rfl)
theorem dJ28_siftUpComparable_16 : decode cJ28_siftUpComparable 16 = .ok (.aload_n 2, 1) := dk_44 (dk_at dksJ28_siftUpComparable_0 16 rfl rfl)
theorem dJ28_siftUpComparable_17 : decode cJ28_siftUpComparable 17 = .ok (.iload 4, 2) := dk_21 4 (dk_at dksJ28_siftUpComparable_0 17 rfl rfl)
theorem dJ28_siftUpComparable_19 : decode cJ28_siftUpComparable 19 = .ok (.aaload, 1) := dk_50 (dk_at dksJ28_siftUpComparable_0 19 rfl rfl)
theorem dJ28_siftUpComparable_20 : decode cJ28_siftUpComparable 20 = .ok (.astore 5, 2) := dk_58 5 (dk_at dksJ28_siftUpComparable_0 20 rfl rfl)
theorem dJ28_siftUpComparable_22 : decode cJ28_siftUpComparable 22 = .ok (.aload_n 3, 1) := dk_45 (dk_at dksJ28_siftUpComparable_0 22 rfl rfl)
theorem dJ28_siftUpComparable_23 : decode cJ28_siftUpComparable 23 = .ok (.aload 5, 2) := dk_25 5 (dk_at dksJ28_siftUpComparable_1 0 rfl rfl)
theorem dJ28_siftUpComparable_25 : decode cJ28_siftUpComparable 25 = .ok (.invokeinterface 146 2, 5) := by decide +kernel
theorem dJ28_siftUpComparable_30 : decode cJ28_siftUpComparable 30 = .ok (.ifCond .lt 6, 3) := dk_155 0 6 (dk_at dksJ28_siftUpComparable_1 7 rfl rfl)
theorem dJ28_siftUpComparable_33 : decode cJ28_siftUpComparable 33 = .ok (.goto 14, 3) := dk_167 0 14 (dk_at dksJ28_siftUpComparable_1 10 rfl rfl)
theorem dJ28_siftUpComparable_36 : decode cJ28_siftUpComparable 36 = .ok (.aload_n 2, 1) := dk_44 (dk_at dksJ28_siftUpComparable_1 13 rfl rfl)
theorem dJ28_siftUpComparable_37 : decode cJ28_siftUpComparable 37 = .ok (.iload_n 0, 1) := dk_26 (dk_at dksJ28_siftUpComparable_1 14 rfl rfl)
theorem dJ28_siftUpComparable_38 : decode cJ28_siftUpComparable 38 = .ok (.aload 5, 2) := dk_25 5 (dk_at dksJ28_siftUpComparable_1 15 rfl rfl)
theorem dJ28_siftUpComparable_40 : decode cJ28_siftUpComparable 40 = .ok (.aastore, 1) := dk_83 (dk_at dksJ28_siftUpComparable_1 17 rfl rfl)
theorem dJ28_siftUpComparable_41 : decode cJ28_siftUpComparable 41 = .ok (.iload 4, 2) := dk_21 4 (dk_at dksJ28_siftUpComparable_1 18 rfl rfl)
theorem dJ28_siftUpComparable_43 : decode cJ28_siftUpComparable 43 = .ok (.istore_n 0, 1) := dk_59 (dk_at dksJ28_siftUpComparable_1 20 rfl rfl)
theorem dJ28_siftUpComparable_44 : decode cJ28_siftUpComparable 44 = .ok (.goto (-39), 3) := dk_167 255 217 (dk_at dksJ28_siftUpComparable_1 21 rfl rfl)
theorem dJ28_siftUpComparable_47 : decode cJ28_siftUpComparable 47 = .ok (.aload_n 2, 1) := dk_44 (dk_at dksJ28_siftUpComparable_2 0 rfl rfl)
theorem dJ28_siftUpComparable_48 : decode cJ28_siftUpComparable 48 = .ok (.iload_n 0, 1) := dk_26 (dk_at dksJ28_siftUpComparable_2 1 rfl rfl)
theorem dJ28_siftUpComparable_49 : decode cJ28_siftUpComparable 49 = .ok (.aload_n 3, 1) := dk_45 (dk_at dksJ28_siftUpComparable_2 2 rfl rfl)
theorem dJ28_siftUpComparable_50 : decode cJ28_siftUpComparable 50 = .ok (.aastore, 1) := dk_83 (dk_at dksJ28_siftUpComparable_2 3 rfl rfl)
theorem dJ28_siftUpComparable_51 : decode cJ28_siftUpComparable 51 = .ok (.return_, 1) := dk_177 (dk_at dksJ28_siftUpComparable_2 4 rfl rfl)
abbrev cJ28_size : ByteArray := prog_64_method_23_code
def yJ28_size : MethodName := ⟨RJ28, "size", "()I"⟩
theorem dJ28_size_0 : decode cJ28_size 0 = .ok (.aload_n 0, 1) := by decide +kernel
theorem dJ28_size_1 : decode cJ28_size 1 = .ok (.getfield 58, 3) := by decide +kernel
theorem dJ28_size_4 : decode cJ28_size 4 = .ok (.ireturn, 1) := by decide +kernel
abbrev cJ28_poll : ByteArray := prog_64_method_25_code
def yJ28_poll : MethodName := ⟨RJ28, "poll", "()Ljava/lang/Object;"⟩
def dkwJ28_poll_3 : List UInt8 := [43, 29, 25, 5, 184, 0, 129, 44, 176]
abbrev dktJ28_poll_3 : List UInt8 := dkwJ28_poll_3 ++ []
def dkwJ28_poll_2 : List UInt8 := [42, 180, 0, 21, 89, 58, 5, 199, 0, 14, 3, 25, 4, 43, 29, 184, 0, 125, 167, 0, 13, 3, 25, 4]
abbrev dktJ28_poll_2 : List UInt8 := dkwJ28_poll_2 ++ dktJ28_poll_3
def dkwJ28_poll_1 : List UInt8 := [42, 89, 180, 0, 58, 4, 100, 90, 181, 0, 58, 89, 62, 50, 58, 4, 43, 29, 1, 83, 29, 158, 0, 34]
abbrev dktJ28_poll_1 : List UInt8 := dkwJ28_poll_1 ++ dktJ28_poll_2
def dkwJ28_poll_0 : List UInt8 := [42, 180, 0, 17, 89, 76, 3, 50, 89, 77, 198, 0, 69, 42, 89, 180, 0, 93, 4, 96, 181, 0, 93, 43]
abbrev dktJ28_poll_0 : List UInt8 := dkwJ28_poll_0 ++ dktJ28_poll_1
theorem dksJ28_poll_0 : cJ28_poll.data.toList.drop 0 = dktJ28_poll_0 := by decide +kernel
theorem dksJ28_poll_1 : cJ28_poll.data.toList.drop 24 = dktJ28_poll_1 := dk_seg dksJ28_poll_0 24 rfl rfl
theorem dksJ28_poll_2 : cJ28_poll.data.toList.drop 48 = dktJ28_poll_2 := dk_seg dksJ28_poll_1 24 rfl rfl
theorem dksJ28_poll_3 : cJ28_poll.data.toList.drop 72 = dktJ28_poll_3 := dk_seg dksJ28_poll_2 24 rfl rfl
theorem dJ28_poll_0 : decode cJ28_poll 0 = .ok (.aload_n 0, 1) := dk_42 (dk_at dksJ28_poll_0 0 rfl rfl)
theorem dJ28_poll_1 : decode cJ28_poll 1 = .ok (.getfield 17, 3) := dk_180 0 17 (dk_at dksJ28_poll_0 1 rfl rfl)
theorem dJ28_poll_4 : decode cJ28_poll 4 = .ok (.dup, 1) := dk_89 (dk_at dksJ28_poll_0 4 rfl rfl)
theorem dJ28_poll_5 : decode cJ28_poll 5 = .ok (.astore_n 1, 1) := dk_76 (dk_at dksJ28_poll_0 5 rfl rfl)
theorem dJ28_poll_6 : decode cJ28_poll 6 = .ok (.iconst 0, 1) := dk_3 (dk_at dksJ28_poll_0 6 rfl rfl)
theorem dJ28_poll_7 : decode cJ28_poll 7 = .ok (.aaload, 1) := dk_50 (dk_at dksJ28_poll_0 7 rfl rfl)
theorem dJ28_poll_8 : decode cJ28_poll 8 = .ok (.dup, 1) := dk_89 (dk_at dksJ28_poll_0 8 rfl rfl)
theorem dJ28_poll_9 : decode cJ28_poll 9 = .ok (.astore_n 2, 1) := dk_77 (dk_at dksJ28_poll_0 9 rfl rfl)
theorem dJ28_poll_10 : decode cJ28_poll 10 = .ok (.ifnull 69, 3) := dk_198 0 69 (dk_at dksJ28_poll_0 10 rfl rfl)
theorem dJ28_poll_13 : decode cJ28_poll 13 = .ok (.aload_n 0, 1) := dk_42 (dk_at dksJ28_poll_0 13 rfl rfl)
theorem dJ28_poll_14 : decode cJ28_poll 14 = .ok (.dup, 1) := dk_89 (dk_at dksJ28_poll_0 14 rfl rfl)
theorem dJ28_poll_15 : decode cJ28_poll 15 = .ok (.getfield 93, 3) := dk_180 0 93 (dk_at dksJ28_poll_0 15 rfl rfl)
theorem dJ28_poll_18 : decode cJ28_poll 18 = .ok (.iconst 1, 1) := dk_4 (dk_at dksJ28_poll_0 18 rfl rfl)
theorem dJ28_poll_19 : decode cJ28_poll 19 = .ok (.iadd, 1) := dk_96 (dk_at dksJ28_poll_0 19 rfl rfl)
theorem dJ28_poll_20 : decode cJ28_poll 20 = .ok (.putfield 93, 3) := dk_181 0 93 (dk_at dksJ28_poll_0 20 rfl rfl)
theorem dJ28_poll_23 : decode cJ28_poll 23 = .ok (.aload_n 1, 1) := dk_43 (dk_at dksJ28_poll_0 23 rfl rfl)
theorem dJ28_poll_24 : decode cJ28_poll 24 = .ok (.aload_n 0, 1) := dk_42 (dk_at dksJ28_poll_1 0 rfl rfl)
theorem dJ28_poll_25 : decode cJ28_poll 25 = .ok (.dup, 1) := dk_89 (dk_at dksJ28_poll_1 1 rfl rfl)
theorem dJ28_poll_26 : decode cJ28_poll 26 = .ok (.getfield 58, 3) := dk_180 0 58 (dk_at dksJ28_poll_1 2 rfl rfl)
theorem dJ28_poll_29 : decode cJ28_poll 29 = .ok (.iconst 1, 1) := dk_4 (dk_at dksJ28_poll_1 5 rfl rfl)
theorem dJ28_poll_30 : decode cJ28_poll 30 = .ok (.isub, 1) := dk_100 (dk_at dksJ28_poll_1 6 rfl rfl)
theorem dJ28_poll_31 : decode cJ28_poll 31 = .ok (.dup_x1, 1) := dk_90 (dk_at dksJ28_poll_1 7 rfl rfl)
theorem dJ28_poll_32 : decode cJ28_poll 32 = .ok (.putfield 58, 3) := dk_181 0 58 (dk_at dksJ28_poll_1 8 rfl rfl)
theorem dJ28_poll_35 : decode cJ28_poll 35 = .ok (.dup, 1) := dk_89 (dk_at dksJ28_poll_1 11 rfl rfl)
theorem dJ28_poll_36 : decode cJ28_poll 36 = .ok (.istore_n 3, 1) := dk_62 (dk_at dksJ28_poll_1 12 rfl rfl)
theorem dJ28_poll_37 : decode cJ28_poll 37 = .ok (.aaload, 1) := dk_50 (dk_at dksJ28_poll_1 13 rfl rfl)
theorem dJ28_poll_38 : decode cJ28_poll 38 = .ok (.astore 4, 2) := dk_58 4 (dk_at dksJ28_poll_1 14 rfl rfl)
theorem dJ28_poll_40 : decode cJ28_poll 40 = .ok (.aload_n 1, 1) := dk_43 (dk_at dksJ28_poll_1 16 rfl rfl)
theorem dJ28_poll_41 : decode cJ28_poll 41 = .ok (.iload_n 3, 1) := dk_29 (dk_at dksJ28_poll_1 17 rfl rfl)
theorem dJ28_poll_42 : decode cJ28_poll 42 = .ok (.aconst_null, 1) := dk_1 (dk_at dksJ28_poll_1 18 rfl rfl)
theorem dJ28_poll_43 : decode cJ28_poll 43 = .ok (.aastore, 1) := dk_83 (dk_at dksJ28_poll_1 19 rfl rfl)
theorem dJ28_poll_44 : decode cJ28_poll 44 = .ok (.iload_n 3, 1) := dk_29 (dk_at dksJ28_poll_1 20 rfl rfl)
theorem dJ28_poll_45 : decode cJ28_poll 45 = .ok (.ifCond .le 34, 3) := dk_158 0 34 (dk_at dksJ28_poll_1 21 rfl rfl)
theorem dJ28_poll_48 : decode cJ28_poll 48 = .ok (.aload_n 0, 1) := dk_42 (dk_at dksJ28_poll_2 0 rfl rfl)
theorem dJ28_poll_49 : decode cJ28_poll 49 = .ok (.getfield 21, 3) := dk_180 0 21 (dk_at dksJ28_poll_2 1 rfl rfl)
theorem dJ28_poll_52 : decode cJ28_poll 52 = .ok (.dup, 1) := dk_89 (dk_at dksJ28_poll_2 4 rfl rfl)
theorem dJ28_poll_53 : decode cJ28_poll 53 = .ok (.astore 5, 2) := dk_58 5 (dk_at dksJ28_poll_2 5 rfl rfl)
theorem dJ28_poll_55 : decode cJ28_poll 55 = .ok (.ifnonnull 14, 3) := dk_199 0 14 (dk_at dksJ28_poll_2 7 rfl rfl)
theorem dJ28_poll_58 : decode cJ28_poll 58 = .ok (.iconst 0, 1) := dk_3 (dk_at dksJ28_poll_2 10 rfl rfl)
theorem dJ28_poll_59 : decode cJ28_poll 59 = .ok (.aload 4, 2) := dk_25 4 (dk_at dksJ28_poll_2 11 rfl rfl)
theorem dJ28_poll_61 : decode cJ28_poll 61 = .ok (.aload_n 1, 1) := dk_43 (dk_at dksJ28_poll_2 13 rfl rfl)
theorem dJ28_poll_62 : decode cJ28_poll 62 = .ok (.iload_n 3, 1) := dk_29 (dk_at dksJ28_poll_2 14 rfl rfl)
theorem dJ28_poll_63 : decode cJ28_poll 63 = .ok (.invokestatic 125, 3) := dk_184 0 125 (dk_at dksJ28_poll_2 15 rfl rfl)
theorem dJ28_poll_66 : decode cJ28_poll 66 = .ok (.goto 13, 3) := dk_167 0 13 (dk_at dksJ28_poll_2 18 rfl rfl)
theorem dJ28_poll_69 : decode cJ28_poll 69 = .ok (.iconst 0, 1) := dk_3 (dk_at dksJ28_poll_2 21 rfl rfl)
theorem dJ28_poll_70 : decode cJ28_poll 70 = .ok (.aload 4, 2) := dk_25 4 (dk_at dksJ28_poll_2 22 rfl rfl)
theorem dJ28_poll_72 : decode cJ28_poll 72 = .ok (.aload_n 1, 1) := dk_43 (dk_at dksJ28_poll_3 0 rfl rfl)
theorem dJ28_poll_73 : decode cJ28_poll 73 = .ok (.iload_n 3, 1) := dk_29 (dk_at dksJ28_poll_3 1 rfl rfl)
theorem dJ28_poll_74 : decode cJ28_poll 74 = .ok (.aload 5, 2) := dk_25 5 (dk_at dksJ28_poll_3 2 rfl rfl)
theorem dJ28_poll_76 : decode cJ28_poll 76 = .ok (.invokestatic 129, 3) := dk_184 0 129 (dk_at dksJ28_poll_3 4 rfl rfl)
theorem dJ28_poll_79 : decode cJ28_poll 79 = .ok (.aload_n 2, 1) := dk_44 (dk_at dksJ28_poll_3 7 rfl rfl)
theorem dJ28_poll_80 : decode cJ28_poll 80 = .ok (.areturn, 1) := dk_176 (dk_at dksJ28_poll_3 8 rfl rfl)
abbrev cJ28_siftDownComparable : ByteArray := prog_64_method_31_code
def yJ28_siftDownComparable : MethodName := ⟨RJ28, "siftDownComparable", "(ILjava/lang/Object;[Ljava/lang/Object;I)V"⟩
def dkwJ28_siftDownComparable_4 : List UInt8 := [25, 4, 83, 177]
abbrev dktJ28_siftDownComparable_4 : List UInt8 := dkwJ28_siftDownComparable_4 ++ []
def dkwJ28_siftDownComparable_3 : List UInt8 := [185, 0, 146, 2, 0, 157, 0, 6, 167, 0, 14, 44, 26, 25, 7, 83, 21, 6, 59, 167, 255, 176, 44, 26]
abbrev dktJ28_siftDownComparable_3 : List UInt8 := dkwJ28_siftDownComparable_3 ++ dktJ28_siftDownComparable_4
def dkwJ28_siftDownComparable_2 : List UInt8 := [21, 8, 50, 185, 0, 146, 2, 0, 158, 0, 12, 44, 21, 8, 89, 54, 6, 50, 58, 7, 25, 4, 25, 7]
abbrev dktJ28_siftDownComparable_2 : List UInt8 := dkwJ28_siftDownComparable_2 ++ dktJ28_siftDownComparable_3
def dkwJ28_siftDownComparable_1 : List UInt8 := [44, 21, 6, 50, 58, 7, 21, 6, 4, 96, 54, 8, 21, 8, 29, 162, 0, 29, 25, 7, 192, 0, 144, 44]
abbrev dktJ28_siftDownComparable_1 : List UInt8 := dkwJ28_siftDownComparable_1 ++ dktJ28_siftDownComparable_2
def dkwJ28_siftDownComparable_0 : List UInt8 := [43, 192, 0, 144, 58, 4, 29, 4, 124, 54, 5, 26, 21, 5, 162, 0, 80, 26, 4, 120, 4, 96, 54, 6]
abbrev dktJ28_siftDownComparable_0 : List UInt8 := dkwJ28_siftDownComparable_0 ++ dktJ28_siftDownComparable_1
theorem dksJ28_siftDownComparable_0 : cJ28_siftDownComparable.data.toList.drop 0 = dktJ28_siftDownComparable_0 := by decide +kernel
theorem dksJ28_siftDownComparable_1 : cJ28_siftDownComparable.data.toList.drop 24 = dktJ28_siftDownComparable_1 := dk_seg dksJ28_siftDownComparable_0 24 rfl rfl
theorem dksJ28_siftDownComparable_2 : cJ28_siftDownComparable.data.toList.drop 48 = dktJ28_siftDownComparable_2 := dk_seg dksJ28_siftDownComparable_1 24 rfl rfl
theorem dksJ28_siftDownComparable_3 : cJ28_siftDownComparable.data.toList.drop 72 = dktJ28_siftDownComparable_3 := dk_seg dksJ28_siftDownComparable_2 24 rfl rfl
theorem dksJ28_siftDownComparable_4 : cJ28_siftDownComparable.data.toList.drop 96 = dktJ28_siftDownComparable_4 := dk_seg dksJ28_siftDownComparable_3 24 rfl rfl
theorem dJ28_siftDownComparable_0 : decode cJ28_siftDownComparable 0 = .ok (.aload_n 1, 1) := dk_43 (dk_at dksJ28_siftDownComparable_0 0 rfl rfl)
theorem dJ28_siftDownComparable_1 : decode cJ28_siftDownComparable 1 = .ok (.checkcast 144, 3) := dk_192 0 144 (dk_at dksJ28_siftDownComparable_0 1 rfl rfl)
theorem dJ28_siftDownComparable_4 : decode cJ28_siftDownComparable 4 = .ok (.astore 4, 2) := dk_58 4 (dk_at dksJ28_siftDownComparable_0 4 rfl rfl)
theorem dJ28_siftDownComparable_6 : decode cJ28_siftDownComparable 6 = .ok (.iload_n 3, 1) := dk_29 (dk_at dksJ28_siftDownComparable_0 6 rfl rfl)
theorem dJ28_siftDownComparable_7 : decode cJ28_siftDownComparable 7 = .ok (.iconst 1, 1) := dk_4 (dk_at dksJ28_siftDownComparable_0 7 rfl rfl)
theorem dJ28_siftDownComparable_8 : decode cJ28_siftDownComparable 8 = .ok (.iushr, 1) := dk_124 (dk_at dksJ28_siftDownComparable_0 8 rfl rfl)
theorem dJ28_siftDownComparable_9 : decode cJ28_siftDownComparable 9 = .ok (.istore 5, 2) := dk_54 5 (dk_at dksJ28_siftDownComparable_0 9 rfl rfl)
theorem dJ28_siftDownComparable_11 : decode cJ28_siftDownComparable 11 = .ok (.iload_n 0, 1) := dk_26 (dk_at dksJ28_siftDownComparable_0 11 rfl rfl)
theorem dJ28_siftDownComparable_12 : decode cJ28_siftDownComparable 12 = .ok (.iload 5, 2) := dk_21 5 (dk_at dksJ28_siftDownComparable_0 12 rfl rfl)
theorem dJ28_siftDownComparable_14 : decode cJ28_siftDownComparable 14 = .ok (.if_icmp .ge 80, 3) := dk_162 0 80 (dk_at dksJ28_siftDownComparable_0 14 rfl rfl)
theorem dJ28_siftDownComparable_17 : decode cJ28_siftDownComparable 17 = .ok (.iload_n 0, 1) := dk_26 (dk_at dksJ28_siftDownComparable_0 17 rfl rfl)
theorem dJ28_siftDownComparable_18 : decode cJ28_siftDownComparable 18 = .ok (.iconst 1, 1) := dk_4 (dk_at dksJ28_siftDownComparable_0 18 rfl rfl)
theorem dJ28_siftDownComparable_19 : decode cJ28_siftDownComparable 19 = .ok (.ishl, 1) := dk_120 (dk_at dksJ28_siftDownComparable_0 19 rfl rfl)
theorem dJ28_siftDownComparable_20 : decode cJ28_siftDownComparable 20 = .ok (.iconst 1, 1) := dk_4 (dk_at dksJ28_siftDownComparable_0 20 rfl rfl)
theorem dJ28_siftDownComparable_21 : decode cJ28_siftDownComparable 21 = .ok (.iadd, 1) := dk_96 (dk_at dksJ28_siftDownComparable_0 21 rfl rfl)
theorem dJ28_siftDownComparable_22 : decode cJ28_siftDownComparable 22 = .ok (.istore 6, 2) := dk_54 6 (dk_at dksJ28_siftDownComparable_0 22 rfl rfl)
theorem dJ28_siftDownComparable_24 : decode cJ28_siftDownComparable 24 = .ok (.aload_n 2, 1) := dk_44 (dk_at dksJ28_siftDownComparable_1 0 rfl rfl)
theorem dJ28_siftDownComparable_25 : decode cJ28_siftDownComparable 25 = .ok (.iload 6, 2) := dk_21 6 (dk_at dksJ28_siftDownComparable_1 1 rfl rfl)
theorem dJ28_siftDownComparable_27 : decode cJ28_siftDownComparable 27 = .ok (.aaload, 1) := dk_50 (dk_at dksJ28_siftDownComparable_1 3 rfl rfl)
theorem dJ28_siftDownComparable_28 : decode cJ28_siftDownComparable 28 = .ok (.astore 7, 2) := dk_58 7 (dk_at dksJ28_siftDownComparable_1 4 rfl rfl)
theorem dJ28_siftDownComparable_30 : decode cJ28_siftDownComparable 30 = .ok (.iload 6, 2) := dk_21 6 (dk_at dksJ28_siftDownComparable_1 6 rfl rfl)
theorem dJ28_siftDownComparable_32 : decode cJ28_siftDownComparable 32 = .ok (.iconst 1, 1) := dk_4 (dk_at dksJ28_siftDownComparable_1 8 rfl rfl)
theorem dJ28_siftDownComparable_33 : decode cJ28_siftDownComparable 33 = .ok (.iadd, 1) := dk_96 (dk_at dksJ28_siftDownComparable_1 9 rfl rfl)
theorem dJ28_siftDownComparable_34 : decode cJ28_siftDownComparable 34 = .ok (.istore 8, 2) := dk_54 8 (dk_at dksJ28_siftDownComparable_1 10 rfl rfl)
theorem dJ28_siftDownComparable_36 : decode cJ28_siftDownComparable 36 = .ok (.iload 8, 2) := dk_21 8 (dk_at dksJ28_siftDownComparable_1 12 rfl rfl)
theorem dJ28_siftDownComparable_38 : decode cJ28_siftDownComparable 38 = .ok (.iload_n 3, 1) := dk_29 (dk_at dksJ28_siftDownComparable_1 14 rfl rfl)
theorem dJ28_siftDownComparable_39 : decode cJ28_siftDownComparable 39 = .ok (.if_icmp .ge 29, 3) := dk_162 0 29 (dk_at dksJ28_siftDownComparable_1 15 rfl rfl)
theorem dJ28_siftDownComparable_42 : decode cJ28_siftDownComparable 42 = .ok (.aload 7, 2) := dk_25 7 (dk_at dksJ28_siftDownComparable_1 18 rfl rfl)
theorem dJ28_siftDownComparable_44 : decode cJ28_siftDownComparable 44 = .ok (.checkcast 144, 3) := dk_192 0 144 (dk_at dksJ28_siftDownComparable_1 20 rfl rfl)
theorem dJ28_siftDownComparable_47 : decode cJ28_siftDownComparable 47 = .ok (.aload_n 2, 1) := dk_44 (dk_at dksJ28_siftDownComparable_1 23 rfl rfl)
theorem dJ28_siftDownComparable_48 : decode cJ28_siftDownComparable 48 = .ok (.iload 8, 2) := dk_21 8 (dk_at dksJ28_siftDownComparable_2 0 rfl rfl)
theorem dJ28_siftDownComparable_50 : decode cJ28_siftDownComparable 50 = .ok (.aaload, 1) := dk_50 (dk_at dksJ28_siftDownComparable_2 2 rfl rfl)
theorem dJ28_siftDownComparable_51 : decode cJ28_siftDownComparable 51 = .ok (.invokeinterface 146 2, 5) := by decide +kernel
theorem dJ28_siftDownComparable_56 : decode cJ28_siftDownComparable 56 = .ok (.ifCond .le 12, 3) := dk_158 0 12 (dk_at dksJ28_siftDownComparable_2 8 rfl rfl)
theorem dJ28_siftDownComparable_59 : decode cJ28_siftDownComparable 59 = .ok (.aload_n 2, 1) := dk_44 (dk_at dksJ28_siftDownComparable_2 11 rfl rfl)
theorem dJ28_siftDownComparable_60 : decode cJ28_siftDownComparable 60 = .ok (.iload 8, 2) := dk_21 8 (dk_at dksJ28_siftDownComparable_2 12 rfl rfl)
theorem dJ28_siftDownComparable_62 : decode cJ28_siftDownComparable 62 = .ok (.dup, 1) := dk_89 (dk_at dksJ28_siftDownComparable_2 14 rfl rfl)
theorem dJ28_siftDownComparable_63 : decode cJ28_siftDownComparable 63 = .ok (.istore 6, 2) := dk_54 6 (dk_at dksJ28_siftDownComparable_2 15 rfl rfl)
theorem dJ28_siftDownComparable_65 : decode cJ28_siftDownComparable 65 = .ok (.aaload, 1) := dk_50 (dk_at dksJ28_siftDownComparable_2 17 rfl rfl)
theorem dJ28_siftDownComparable_66 : decode cJ28_siftDownComparable 66 = .ok (.astore 7, 2) := dk_58 7 (dk_at dksJ28_siftDownComparable_2 18 rfl rfl)
theorem dJ28_siftDownComparable_68 : decode cJ28_siftDownComparable 68 = .ok (.aload 4, 2) := dk_25 4 (dk_at dksJ28_siftDownComparable_2 20 rfl rfl)
theorem dJ28_siftDownComparable_70 : decode cJ28_siftDownComparable 70 = .ok (.aload 7, 2) := dk_25 7 (dk_at dksJ28_siftDownComparable_2 22 rfl rfl)
theorem dJ28_siftDownComparable_72 : decode cJ28_siftDownComparable 72 = .ok (.invokeinterface 146 2, 5) := by decide +kernel
theorem dJ28_siftDownComparable_77 : decode cJ28_siftDownComparable 77 = .ok (.ifCond .gt 6, 3) := dk_157 0 6 (dk_at dksJ28_siftDownComparable_3 5 rfl rfl)
theorem dJ28_siftDownComparable_80 : decode cJ28_siftDownComparable 80 = .ok (.goto 14, 3) := dk_167 0 14 (dk_at dksJ28_siftDownComparable_3 8 rfl rfl)
theorem dJ28_siftDownComparable_83 : decode cJ28_siftDownComparable 83 = .ok (.aload_n 2, 1) := dk_44 (dk_at dksJ28_siftDownComparable_3 11 rfl rfl)
theorem dJ28_siftDownComparable_84 : decode cJ28_siftDownComparable 84 = .ok (.iload_n 0, 1) := dk_26 (dk_at dksJ28_siftDownComparable_3 12 rfl rfl)
theorem dJ28_siftDownComparable_85 : decode cJ28_siftDownComparable 85 = .ok (.aload 7, 2) := dk_25 7 (dk_at dksJ28_siftDownComparable_3 13 rfl rfl)
theorem dJ28_siftDownComparable_87 : decode cJ28_siftDownComparable 87 = .ok (.aastore, 1) := dk_83 (dk_at dksJ28_siftDownComparable_3 15 rfl rfl)
theorem dJ28_siftDownComparable_88 : decode cJ28_siftDownComparable 88 = .ok (.iload 6, 2) := dk_21 6 (dk_at dksJ28_siftDownComparable_3 16 rfl rfl)
theorem dJ28_siftDownComparable_90 : decode cJ28_siftDownComparable 90 = .ok (.istore_n 0, 1) := dk_59 (dk_at dksJ28_siftDownComparable_3 18 rfl rfl)
theorem dJ28_siftDownComparable_91 : decode cJ28_siftDownComparable 91 = .ok (.goto (-80), 3) := dk_167 255 176 (dk_at dksJ28_siftDownComparable_3 19 rfl rfl)
theorem dJ28_siftDownComparable_94 : decode cJ28_siftDownComparable 94 = .ok (.aload_n 2, 1) := dk_44 (dk_at dksJ28_siftDownComparable_3 22 rfl rfl)
theorem dJ28_siftDownComparable_95 : decode cJ28_siftDownComparable 95 = .ok (.iload_n 0, 1) := dk_26 (dk_at dksJ28_siftDownComparable_3 23 rfl rfl)
theorem dJ28_siftDownComparable_96 : decode cJ28_siftDownComparable 96 = .ok (.aload 4, 2) := dk_25 4 (dk_at dksJ28_siftDownComparable_4 0 rfl rfl)
theorem dJ28_siftDownComparable_98 : decode cJ28_siftDownComparable 98 = .ok (.aastore, 1) := dk_83 (dk_at dksJ28_siftDownComparable_4 2 rfl rfl)
theorem dJ28_siftDownComparable_99 : decode cJ28_siftDownComparable 99 = .ok (.return_, 1) := dk_177 (dk_at dksJ28_siftDownComparable_4 3 rfl rfl)
abbrev cJ28_siftDownUsingComparator : ByteArray := prog_64_method_32_code
def yJ28_siftDownUsingComparator : MethodName := ⟨RJ28, "siftDownUsingComparator", "(ILjava/lang/Object;[Ljava/lang/Object;ILjava/util/Comparator;)V"⟩
def dkwJ28_siftDownUsingComparator_4 : List UInt8 := [43, 83, 177]
abbrev dktJ28_siftDownUsingComparator_4 : List UInt8 := dkwJ28_siftDownUsingComparator_4 ++ []
def dkwJ28_siftDownUsingComparator_3 : List UInt8 := [185, 0, 149, 3, 0, 157, 0, 6, 167, 0, 14, 44, 26, 25, 7, 83, 21, 6, 59, 167, 255, 176, 44, 26]
abbrev dktJ28_siftDownUsingComparator_3 : List UInt8 := dkwJ28_siftDownUsingComparator_3 ++ dktJ28_siftDownUsingComparator_4
def dkwJ28_siftDownUsingComparator_2 : List UInt8 := [185, 0, 149, 3, 0, 158, 0, 12, 44, 21, 8, 89, 54, 6, 50, 58, 7, 25, 4, 43, 25, 7]
abbrev dktJ28_siftDownUsingComparator_2 : List UInt8 := dkwJ28_siftDownUsingComparator_2 ++ dktJ28_siftDownUsingComparator_3
def dkwJ28_siftDownUsingComparator_1 : List UInt8 := [21, 6, 4, 96, 54, 8, 21, 8, 29, 162, 0, 28, 25, 4, 25, 7, 44, 21, 8, 50]
abbrev dktJ28_siftDownUsingComparator_1 : List UInt8 := dkwJ28_siftDownUsingComparator_1 ++ dktJ28_siftDownUsingComparator_2
def dkwJ28_siftDownUsingComparator_0 : List UInt8 := [29, 4, 124, 54, 5, 26, 21, 5, 162, 0, 80, 26, 4, 120, 4, 96, 54, 6, 44, 21, 6, 50, 58, 7]
abbrev dktJ28_siftDownUsingComparator_0 : List UInt8 := dkwJ28_siftDownUsingComparator_0 ++ dktJ28_siftDownUsingComparator_1
theorem dksJ28_siftDownUsingComparator_0 : cJ28_siftDownUsingComparator.data.toList.drop 0 = dktJ28_siftDownUsingComparator_0 := by decide +kernel
theorem dksJ28_siftDownUsingComparator_1 : cJ28_siftDownUsingComparator.data.toList.drop 24 = dktJ28_siftDownUsingComparator_1 := dk_seg dksJ28_siftDownUsingComparator_0 24 rfl rfl
theorem dksJ28_siftDownUsingComparator_2 : cJ28_siftDownUsingComparator.data.toList.drop 44 = dktJ28_siftDownUsingComparator_2 := dk_seg dksJ28_siftDownUsingComparator_1 20 rfl rfl
theorem dksJ28_siftDownUsingComparator_3 : cJ28_siftDownUsingComparator.data.toList.drop 66 = dktJ28_siftDownUsingComparator_3 := dk_seg dksJ28_siftDownUsingComparator_2 22 rfl rfl
theorem dksJ28_siftDownUsingComparator_4 : cJ28_siftDownUsingComparator.data.toList.drop 90 = dktJ28_siftDownUsingComparator_4 := dk_seg dksJ28_siftDownUsingComparator_3 24 rfl rfl
theorem dJ28_siftDownUsingComparator_0 : decode cJ28_siftDownUsingComparator 0 = .ok (.iload_n 3, 1) := dk_29 (dk_at dksJ28_siftDownUsingComparator_0 0 rfl rfl)
theorem dJ28_siftDownUsingComparator_1 : decode cJ28_siftDownUsingComparator 1 = .ok (.iconst 1, 1) := dk_4 (dk_at dksJ28_siftDownUsingComparator_0 1 rfl rfl)
theorem dJ28_siftDownUsingComparator_2 : decode cJ28_siftDownUsingComparator 2 = .ok (.iushr, 1) := dk_124 (dk_at dksJ28_siftDownUsingComparator_0 2 rfl rfl)
theorem dJ28_siftDownUsingComparator_3 : decode cJ28_siftDownUsingComparator 3 = .ok (.istore 5, 2) := dk_54 5 (dk_at dksJ28_siftDownUsingComparator_0 3 rfl rfl)
theorem dJ28_siftDownUsingComparator_5 : decode cJ28_siftDownUsingComparator 5 = .ok (.iload_n 0, 1) := dk_26 (dk_at dksJ28_siftDownUsingComparator_0 5 rfl rfl)
theorem dJ28_siftDownUsingComparator_6 : decode cJ28_siftDownUsingComparator 6 = .ok (.iload 5, 2) := dk_21 5 (dk_at dksJ28_siftDownUsingComparator_0 6 rfl rfl)
theorem dJ28_siftDownUsingComparator_8 : decode cJ28_siftDownUsingComparator 8 = .ok (.if_icmp .ge 80, 3) := dk_162 0 80 (dk_at dksJ28_siftDownUsingComparator_0 8 rfl rfl)
theorem dJ28_siftDownUsingComparator_11 : decode cJ28_siftDownUsingComparator 11 = .ok (.iload_n 0, 1) := dk_26 (dk_at dksJ28_siftDownUsingComparator_0 11 rfl rfl)
theorem dJ28_siftDownUsingComparator_12 : decode cJ28_siftDownUsingComparator 12 = .ok (.iconst 1, 1) := dk_4 (dk_at dksJ28_siftDownUsingComparator_0 12 rfl rfl)
theorem dJ28_siftDownUsingComparator_13 : decode cJ28_siftDownUsingComparator 13 = .ok (.ishl, 1) := dk_120 (dk_at dksJ28_siftDownUsingComparator_0 13 rfl rfl)
theorem dJ28_siftDownUsingComparator_14 : decode cJ28_siftDownUsingComparator 14 = .ok (.iconst 1, 1) := dk_4 (dk_at dksJ28_siftDownUsingComparator_0 14 rfl rfl)
theorem dJ28_siftDownUsingComparator_15 : decode cJ28_siftDownUsingComparator 15 = .ok (.iadd, 1) := dk_96 (dk_at dksJ28_siftDownUsingComparator_0 15 rfl rfl)
theorem dJ28_siftDownUsingComparator_16 : decode cJ28_siftDownUsingComparator 16 = .ok (.istore 6, 2) := dk_54 6 (dk_at dksJ28_siftDownUsingComparator_0 16 rfl rfl)
theorem dJ28_siftDownUsingComparator_18 : decode cJ28_siftDownUsingComparator 18 = .ok (.aload_n 2, 1) := dk_44 (dk_at dksJ28_siftDownUsingComparator_0 18 rfl rfl)
theorem dJ28_siftDownUsingComparator_19 : decode cJ28_siftDownUsingComparator 19 = .ok (.iload 6, 2) := dk_21 6 (dk_at dksJ28_siftDownUsingComparator_0 19 rfl rfl)
theorem dJ28_siftDownUsingComparator_21 : decode cJ28_siftDownUsingComparator 21 = .ok (.aaload, 1) := dk_50 (dk_at dksJ28_siftDownUsingComparator_0 21 rfl rfl)
theorem dJ28_siftDownUsingComparator_22 : decode cJ28_siftDownUsingComparator 22 = .ok (.astore 7, 2) := dk_58 7 (dk_at dksJ28_siftDownUsingComparator_0 22 rfl rfl)
theorem dJ28_siftDownUsingComparator_24 : decode cJ28_siftDownUsingComparator 24 = .ok (.iload 6, 2) := dk_21 6 (dk_at dksJ28_siftDownUsingComparator_1 0 rfl rfl)
theorem dJ28_siftDownUsingComparator_26 : decode cJ28_siftDownUsingComparator 26 = .ok (.iconst 1, 1) := dk_4 (dk_at dksJ28_siftDownUsingComparator_1 2 rfl rfl)
theorem dJ28_siftDownUsingComparator_27 : decode cJ28_siftDownUsingComparator 27 = .ok (.iadd, 1) := dk_96 (dk_at dksJ28_siftDownUsingComparator_1 3 rfl rfl)
theorem dJ28_siftDownUsingComparator_28 : decode cJ28_siftDownUsingComparator 28 = .ok (.istore 8, 2) := dk_54 8 (dk_at dksJ28_siftDownUsingComparator_1 4 rfl rfl)
theorem dJ28_siftDownUsingComparator_30 : decode cJ28_siftDownUsingComparator 30 = .ok (.iload 8, 2) := dk_21 8 (dk_at dksJ28_siftDownUsingComparator_1 6 rfl rfl)
theorem dJ28_siftDownUsingComparator_32 : decode cJ28_siftDownUsingComparator 32 = .ok (.iload_n 3, 1) := dk_29 (dk_at dksJ28_siftDownUsingComparator_1 8 rfl rfl)
theorem dJ28_siftDownUsingComparator_33 : decode cJ28_siftDownUsingComparator 33 = .ok (.if_icmp .ge 28, 3) := dk_162 0 28 (dk_at dksJ28_siftDownUsingComparator_1 9 rfl rfl)
theorem dJ28_siftDownUsingComparator_36 : decode cJ28_siftDownUsingComparator 36 = .ok (.aload 4, 2) := dk_25 4 (dk_at dksJ28_siftDownUsingComparator_1 12 rfl rfl)
theorem dJ28_siftDownUsingComparator_38 : decode cJ28_siftDownUsingComparator 38 = .ok (.aload 7, 2) := dk_25 7 (dk_at dksJ28_siftDownUsingComparator_1 14 rfl rfl)
theorem dJ28_siftDownUsingComparator_40 : decode cJ28_siftDownUsingComparator 40 = .ok (.aload_n 2, 1) := dk_44 (dk_at dksJ28_siftDownUsingComparator_1 16 rfl rfl)
theorem dJ28_siftDownUsingComparator_41 : decode cJ28_siftDownUsingComparator 41 = .ok (.iload 8, 2) := dk_21 8 (dk_at dksJ28_siftDownUsingComparator_1 17 rfl rfl)
theorem dJ28_siftDownUsingComparator_43 : decode cJ28_siftDownUsingComparator 43 = .ok (.aaload, 1) := dk_50 (dk_at dksJ28_siftDownUsingComparator_1 19 rfl rfl)
theorem dJ28_siftDownUsingComparator_44 : decode cJ28_siftDownUsingComparator 44 = .ok (.invokeinterface 149 3, 5) := by decide +kernel
theorem dJ28_siftDownUsingComparator_49 : decode cJ28_siftDownUsingComparator 49 = .ok (.ifCond .le 12, 3) := dk_158 0 12 (dk_at dksJ28_siftDownUsingComparator_2 5 rfl rfl)
theorem dJ28_siftDownUsingComparator_52 : decode cJ28_siftDownUsingComparator 52 = .ok (.aload_n 2, 1) := dk_44 (dk_at dksJ28_siftDownUsingComparator_2 8 rfl rfl)
theorem dJ28_siftDownUsingComparator_53 : decode cJ28_siftDownUsingComparator 53 = .ok (.iload 8, 2) := dk_21 8 (dk_at dksJ28_siftDownUsingComparator_2 9 rfl rfl)
theorem dJ28_siftDownUsingComparator_55 : decode cJ28_siftDownUsingComparator 55 = .ok (.dup, 1) := dk_89 (dk_at dksJ28_siftDownUsingComparator_2 11 rfl rfl)
theorem dJ28_siftDownUsingComparator_56 : decode cJ28_siftDownUsingComparator 56 = .ok (.istore 6, 2) := dk_54 6 (dk_at dksJ28_siftDownUsingComparator_2 12 rfl rfl)
theorem dJ28_siftDownUsingComparator_58 : decode cJ28_siftDownUsingComparator 58 = .ok (.aaload, 1) := dk_50 (dk_at dksJ28_siftDownUsingComparator_2 14 rfl rfl)
theorem dJ28_siftDownUsingComparator_59 : decode cJ28_siftDownUsingComparator 59 = .ok (.astore 7, 2) := dk_58 7 (dk_at dksJ28_siftDownUsingComparator_2 15 rfl rfl)
theorem dJ28_siftDownUsingComparator_61 : decode cJ28_siftDownUsingComparator 61 = .ok (.aload 4, 2) := dk_25 4 (dk_at dksJ28_siftDownUsingComparator_2 17 rfl rfl)
theorem dJ28_siftDownUsingComparator_63 : decode cJ28_siftDownUsingComparator 63 = .ok (.aload_n 1, 1) := dk_43 (dk_at dksJ28_siftDownUsingComparator_2 19 rfl rfl)
theorem dJ28_siftDownUsingComparator_64 : decode cJ28_siftDownUsingComparator 64 = .ok (.aload 7, 2) := dk_25 7 (dk_at dksJ28_siftDownUsingComparator_2 20 rfl rfl)
theorem dJ28_siftDownUsingComparator_66 : decode cJ28_siftDownUsingComparator 66 = .ok (.invokeinterface 149 3, 5) := by decide +kernel
theorem dJ28_siftDownUsingComparator_71 : decode cJ28_siftDownUsingComparator 71 = .ok (.ifCond .gt 6, 3) := dk_157 0 6 (dk_at dksJ28_siftDownUsingComparator_3 5 rfl rfl)
theorem dJ28_siftDownUsingComparator_74 : decode cJ28_siftDownUsingComparator 74 = .ok (.goto 14, 3) := dk_167 0 14 (dk_at dksJ28_siftDownUsingComparator_3 8 rfl rfl)
theorem dJ28_siftDownUsingComparator_77 : decode cJ28_siftDownUsingComparator 77 = .ok (.aload_n 2, 1) := dk_44 (dk_at dksJ28_siftDownUsingComparator_3 11 rfl rfl)
theorem dJ28_siftDownUsingComparator_78 : decode cJ28_siftDownUsingComparator 78 = .ok (.iload_n 0, 1) := dk_26 (dk_at dksJ28_siftDownUsingComparator_3 12 rfl rfl)
theorem dJ28_siftDownUsingComparator_79 : decode cJ28_siftDownUsingComparator 79 = .ok (.aload 7, 2) := dk_25 7 (dk_at dksJ28_siftDownUsingComparator_3 13 rfl rfl)
theorem dJ28_siftDownUsingComparator_81 : decode cJ28_siftDownUsingComparator 81 = .ok (.aastore, 1) := dk_83 (dk_at dksJ28_siftDownUsingComparator_3 15 rfl rfl)
theorem dJ28_siftDownUsingComparator_82 : decode cJ28_siftDownUsingComparator 82 = .ok (.iload 6, 2) := dk_21 6 (dk_at dksJ28_siftDownUsingComparator_3 16 rfl rfl)
theorem dJ28_siftDownUsingComparator_84 : decode cJ28_siftDownUsingComparator 84 = .ok (.istore_n 0, 1) := dk_59 (dk_at dksJ28_siftDownUsingComparator_3 18 rfl rfl)
theorem dJ28_siftDownUsingComparator_85 : decode cJ28_siftDownUsingComparator 85 = .ok (.goto (-80), 3) := dk_167 255 176 (dk_at dksJ28_siftDownUsingComparator_3 19 rfl rfl)
theorem dJ28_siftDownUsingComparator_88 : decode cJ28_siftDownUsingComparator 88 = .ok (.aload_n 2, 1) := dk_44 (dk_at dksJ28_siftDownUsingComparator_3 22 rfl rfl)
theorem dJ28_siftDownUsingComparator_89 : decode cJ28_siftDownUsingComparator 89 = .ok (.iload_n 0, 1) := dk_26 (dk_at dksJ28_siftDownUsingComparator_3 23 rfl rfl)
theorem dJ28_siftDownUsingComparator_90 : decode cJ28_siftDownUsingComparator 90 = .ok (.aload_n 1, 1) := dk_43 (dk_at dksJ28_siftDownUsingComparator_4 0 rfl rfl)
theorem dJ28_siftDownUsingComparator_91 : decode cJ28_siftDownUsingComparator 91 = .ok (.aastore, 1) := dk_83 (dk_at dksJ28_siftDownUsingComparator_4 1 rfl rfl)
theorem dJ28_siftDownUsingComparator_92 : decode cJ28_siftDownUsingComparator 92 = .ok (.return_, 1) := dk_177 (dk_at dksJ28_siftDownUsingComparator_4 2 rfl rfl)
abbrev cJ28_peek : ByteArray := prog_64_method_15_code
def yJ28_peek : MethodName := ⟨RJ28, "peek", "()Ljava/lang/Object;"⟩
def dkwJ28_peek_0 : List UInt8 := [42, 180, 0, 17, 3, 50, 176]
abbrev dktJ28_peek_0 : List UInt8 := dkwJ28_peek_0 ++ []
theorem dksJ28_peek_0 : cJ28_peek.data.toList.drop 0 = dktJ28_peek_0 := by decide +kernel
theorem dJ28_peek_0 : decode cJ28_peek 0 = .ok (.aload_n 0, 1) := dk_42 (dk_at dksJ28_peek_0 0 rfl rfl)
theorem dJ28_peek_1 : decode cJ28_peek 1 = .ok (.getfield 17, 3) := dk_180 0 17 (dk_at dksJ28_peek_0 1 rfl rfl)
theorem dJ28_peek_4 : decode cJ28_peek 4 = .ok (.iconst 0, 1) := dk_3 (dk_at dksJ28_peek_0 4 rfl rfl)
theorem dJ28_peek_5 : decode cJ28_peek 5 = .ok (.aaload, 1) := dk_50 (dk_at dksJ28_peek_0 5 rfl rfl)
theorem dJ28_peek_6 : decode cJ28_peek 6 = .ok (.areturn, 1) := dk_176 (dk_at dksJ28_peek_0 6 rfl rfl)
theorem q149 : (Jvm.Cond.initialized "java/util/PriorityQueue") ∈ lw_all := lw_g (lw_at lw_m1 48 rfl) rfl
theorem q821 : (Jvm.Cond.selects "java/util/PriorityQueue" ({ cls := "java/lang/Object", name := "getClass", desc := "()Ljava/lang/Class;" } : Jvm.MethodName) ({ cls := "java/lang/Object", name := "getClass", desc := "()Ljava/lang/Class;" } : Jvm.MethodName)) ∈ lw_all := lw_g (lw_at lw_m4 0 rfl) rfl
theorem q1660 : (Jvm.Cond.instantiable "java/util/PriorityQueue" (4 : Nat)) ∈ lw_all := lw_g (lw_at lw_m7 119 rfl) rfl
theorem q1662 : (Jvm.Cond.instanceMethod ({ cls := "java/util/PriorityQueue", name := "<init>", desc := "()V" } : Jvm.MethodName)) ∈ lw_all := lw_g (lw_at lw_m7 121 rfl) rfl
theorem q1663 : (Jvm.Cond.code ({ cls := "java/util/PriorityQueue", name := "<init>", desc := "()V" } : Jvm.MethodName) prog_64_method_1_code (1 : Nat) (Option.none : Option Jvm.ClassFile.FieldType)) ∈ lw_all := lw_g (lw_at lw_m7 122 rfl) rfl
theorem q1664 : (Jvm.Cond.methodLink "java/util/PriorityQueue" (3 : Nat) ({ cls := "java/util/PriorityQueue", name := "<init>", desc := "(ILjava/util/Comparator;)V" } : Jvm.MethodName)) ∈ lw_all := lw_g (lw_at lw_m7 123 rfl) rfl
theorem q1665 : (Jvm.Cond.instanceMethod ({ cls := "java/util/PriorityQueue", name := "<init>", desc := "(ILjava/util/Comparator;)V" } : Jvm.MethodName)) ∈ lw_all := lw_g (lw_at lw_m7 124 rfl) rfl
theorem q1666 : (Jvm.Cond.code ({ cls := "java/util/PriorityQueue", name := "<init>", desc := "(ILjava/util/Comparator;)V" } : Jvm.MethodName) prog_64_method_4_code (3 : Nat) (Option.none : Option Jvm.ClassFile.FieldType)) ∈ lw_all := lw_g (lw_at lw_m7 125 rfl) rfl
theorem q1667 : (Jvm.Cond.methodLink "java/util/PriorityQueue" (7 : Nat) ({ cls := "java/util/AbstractQueue", name := "<init>", desc := "()V" } : Jvm.MethodName)) ∈ lw_all := lw_g (lw_at lw_m7 126 rfl) rfl
theorem q1671 : (Jvm.Cond.classLink "java/util/PriorityQueue" (15 : Nat) "java/lang/Object") ∈ lw_all := lw_g (lw_at lw_m7 130 rfl) rfl
theorem q1672 : (Jvm.Cond.fieldLink "java/util/PriorityQueue" (17 : Nat) "java/util/PriorityQueue" "queue" "[Ljava/lang/Object;") ∈ lw_all := lw_g (lw_at lw_m7 131 rfl) rfl
theorem q1673 : (Jvm.Cond.fieldLink "java/util/PriorityQueue" (58 : Nat) "java/util/PriorityQueue" "size" "I") ∈ lw_all := lw_g (lw_at lw_m7 132 rfl) rfl
theorem q1674 : (Jvm.Cond.fieldLink "java/util/PriorityQueue" (21 : Nat) "java/util/PriorityQueue" "comparator" "Ljava/util/Comparator;") ∈ lw_all := lw_g (lw_at lw_m7 133 rfl) rfl
theorem q1675 : (Jvm.Cond.fieldLink "java/util/PriorityQueue" (93 : Nat) "java/util/PriorityQueue" "modCount" "I") ∈ lw_all := lw_g (lw_at lw_m7 134 rfl) rfl
theorem q1676 : (Jvm.Cond.lays "java/util/PriorityQueue" "java/util/PriorityQueue" "queue" "[Ljava/lang/Object;") ∈ lw_all := lw_g (lw_at lw_m7 135 rfl) rfl
theorem q1677 : (Jvm.Cond.soleField "java/util/PriorityQueue" "queue") ∈ lw_all := lw_g (lw_at lw_m7 136 rfl) rfl
theorem q1678 : (Jvm.Cond.lays "java/util/PriorityQueue" "java/util/PriorityQueue" "size" "I") ∈ lw_all := lw_g (lw_at lw_m7 137 rfl) rfl
theorem q1679 : (Jvm.Cond.soleField "java/util/PriorityQueue" "size") ∈ lw_all := lw_g (lw_at lw_m7 138 rfl) rfl
theorem q1680 : (Jvm.Cond.laysFinal "java/util/PriorityQueue" "java/util/PriorityQueue" "comparator" "Ljava/util/Comparator;") ∈ lw_all := lw_g (lw_at lw_m7 139 rfl) rfl
theorem q1681 : (Jvm.Cond.soleField "java/util/PriorityQueue" "comparator") ∈ lw_all := lw_g (lw_at lw_m7 140 rfl) rfl
theorem q1682 : (Jvm.Cond.lays "java/util/PriorityQueue" "java/util/PriorityQueue" "modCount" "I") ∈ lw_all := lw_g (lw_at lw_m7 141 rfl) rfl
theorem q1683 : (Jvm.Cond.soleField "java/util/PriorityQueue" "modCount") ∈ lw_all := lw_g (lw_at lw_m7 142 rfl) rfl
theorem q1684 : (Jvm.Cond.superclass "java/util/PriorityQueue" "java/util/AbstractQueue") ∈ lw_all := lw_g (lw_at lw_m7 143 rfl) rfl
theorem q1703 : (Jvm.Cond.instanceMethod ({ cls := "java/util/PriorityQueue", name := "add", desc := "(Ljava/lang/Object;)Z" } : Jvm.MethodName)) ∈ lw_all := lw_g (lw_at lw_m7 162 rfl) rfl
theorem q1704 : (Jvm.Cond.selects "java/util/PriorityQueue" ({ cls := "java/util/PriorityQueue", name := "add", desc := "(Ljava/lang/Object;)Z" } : Jvm.MethodName) ({ cls := "java/util/PriorityQueue", name := "add", desc := "(Ljava/lang/Object;)Z" } : Jvm.MethodName)) ∈ lw_all := lw_g (lw_at lw_m7 163 rfl) rfl
theorem q1705 : (Jvm.Cond.code ({ cls := "java/util/PriorityQueue", name := "add", desc := "(Ljava/lang/Object;)Z" } : Jvm.MethodName) prog_64_method_13_code (2 : Nat) (Option.some Jvm.ClassFile.FieldType.boolean)) ∈ lw_all := lw_g (lw_at lw_m7 164 rfl) rfl
theorem q1706 : (Jvm.Cond.methodLink "java/util/PriorityQueue" (89 : Nat) ({ cls := "java/util/PriorityQueue", name := "offer", desc := "(Ljava/lang/Object;)Z" } : Jvm.MethodName)) ∈ lw_all := lw_g (lw_at lw_m7 165 rfl) rfl
theorem q1707 : (Jvm.Cond.instanceMethod ({ cls := "java/util/PriorityQueue", name := "offer", desc := "(Ljava/lang/Object;)Z" } : Jvm.MethodName)) ∈ lw_all := lw_g (lw_at lw_m7 166 rfl) rfl
theorem q1708 : (Jvm.Cond.selects "java/util/PriorityQueue" ({ cls := "java/util/PriorityQueue", name := "offer", desc := "(Ljava/lang/Object;)Z" } : Jvm.MethodName) ({ cls := "java/util/PriorityQueue", name := "offer", desc := "(Ljava/lang/Object;)Z" } : Jvm.MethodName)) ∈ lw_all := lw_g (lw_at lw_m7 167 rfl) rfl
theorem q1709 : (Jvm.Cond.code ({ cls := "java/util/PriorityQueue", name := "offer", desc := "(Ljava/lang/Object;)Z" } : Jvm.MethodName) prog_64_method_14_code (3 : Nat) (Option.some Jvm.ClassFile.FieldType.boolean)) ∈ lw_all := lw_g (lw_at lw_m7 168 rfl) rfl
theorem q1710 : (Jvm.Cond.classLink "java/util/PriorityQueue" (74 : Nat) "java/lang/NullPointerException") ∈ lw_all := lw_g (lw_at lw_m7 169 rfl) rfl
theorem q1711 : (Jvm.Cond.methodLink "java/util/PriorityQueue" (76 : Nat) ({ cls := "java/lang/NullPointerException", name := "<init>", desc := "()V" } : Jvm.MethodName)) ∈ lw_all := lw_g (lw_at lw_m7 170 rfl) rfl
theorem q1712 : (Jvm.Cond.methodLink "java/util/PriorityQueue" (96 : Nat) ({ cls := "java/util/PriorityQueue", name := "grow", desc := "(I)V" } : Jvm.MethodName)) ∈ lw_all := lw_g (lw_at lw_m7 171 rfl) rfl
theorem q1713 : (Jvm.Cond.privateMethod ({ cls := "java/util/PriorityQueue", name := "grow", desc := "(I)V" } : Jvm.MethodName)) ∈ lw_tbl := lw_at lw_m7 172 rfl
theorem q1714 : (Jvm.Cond.instanceMethod ({ cls := "java/util/PriorityQueue", name := "grow", desc := "(I)V" } : Jvm.MethodName)) ∈ lw_all := lw_g (lw_at lw_m7 173 rfl) rfl
theorem q1715 : (Jvm.Cond.code ({ cls := "java/util/PriorityQueue", name := "grow", desc := "(I)V" } : Jvm.MethodName) prog_64_method_12_code (4 : Nat) (Option.none : Option Jvm.ClassFile.FieldType)) ∈ lw_all := lw_g (lw_at lw_m7 174 rfl) rfl
theorem q1716 : (Jvm.Cond.methodLink "java/util/PriorityQueue" (80 : Nat) ({ cls := "jdk/internal/util/ArraysSupport", name := "newLength", desc := "(III)I" } : Jvm.MethodName)) ∈ lw_all := lw_g (lw_at lw_m7 175 rfl) rfl
theorem q1717 : (Jvm.Cond.methodLink "java/util/PriorityQueue" (86 : Nat) ({ cls := "java/util/Arrays", name := "copyOf", desc := "([Ljava/lang/Object;I)[Ljava/lang/Object;" } : Jvm.MethodName)) ∈ lw_all := lw_g (lw_at lw_m7 176 rfl) rfl
theorem q1718 : (Jvm.Cond.methodLink "java/util/PriorityQueue" (100 : Nat) ({ cls := "java/util/PriorityQueue", name := "siftUp", desc := "(ILjava/lang/Object;)V" } : Jvm.MethodName)) ∈ lw_all := lw_g (lw_at lw_m7 177 rfl) rfl
theorem q1719 : (Jvm.Cond.privateMethod ({ cls := "java/util/PriorityQueue", name := "siftUp", desc := "(ILjava/lang/Object;)V" } : Jvm.MethodName)) ∈ lw_tbl := lw_at lw_m7 178 rfl
theorem q1720 : (Jvm.Cond.instanceMethod ({ cls := "java/util/PriorityQueue", name := "siftUp", desc := "(ILjava/lang/Object;)V" } : Jvm.MethodName)) ∈ lw_all := lw_g (lw_at lw_m7 179 rfl) rfl
theorem q1721 : (Jvm.Cond.code ({ cls := "java/util/PriorityQueue", name := "siftUp", desc := "(ILjava/lang/Object;)V" } : Jvm.MethodName) prog_64_method_27_code (3 : Nat) (Option.none : Option Jvm.ClassFile.FieldType)) ∈ lw_all := lw_g (lw_at lw_m7 180 rfl) rfl
theorem q1722 : (Jvm.Cond.methodLink "java/util/PriorityQueue" (136 : Nat) ({ cls := "java/util/PriorityQueue", name := "siftUpUsingComparator", desc := "(ILjava/lang/Object;[Ljava/lang/Object;Ljava/util/Comparator;)V" } : Jvm.MethodName)) ∈ lw_all := lw_g (lw_at lw_m7 181 rfl) rfl
theorem q1723 : (Jvm.Cond.static ({ cls := "java/util/PriorityQueue", name := "siftUpUsingComparator", desc := "(ILjava/lang/Object;[Ljava/lang/Object;Ljava/util/Comparator;)V" } : Jvm.MethodName)) ∈ lw_all := lw_g (lw_at lw_m7 182 rfl) rfl
theorem q1724 : (Jvm.Cond.code ({ cls := "java/util/PriorityQueue", name := "siftUpUsingComparator", desc := "(ILjava/lang/Object;[Ljava/lang/Object;Ljava/util/Comparator;)V" } : Jvm.MethodName) prog_64_method_29_code (6 : Nat) (Option.none : Option Jvm.ClassFile.FieldType)) ∈ lw_all := lw_g (lw_at lw_m7 183 rfl) rfl
theorem q1725 : (Jvm.Cond.interfaceEntry "java/util/PriorityQueue" (149 : Nat)) ∈ lw_tbl := lw_at lw_m7 184 rfl
theorem q1726 : (Jvm.Cond.methodLink "java/util/PriorityQueue" (149 : Nat) ({ cls := "java/util/Comparator", name := "compare", desc := "(Ljava/lang/Object;Ljava/lang/Object;)I" } : Jvm.MethodName)) ∈ lw_all := lw_g (lw_at lw_m7 185 rfl) rfl
theorem q1727 : (Jvm.Cond.methodLink "java/util/PriorityQueue" (140 : Nat) ({ cls := "java/util/PriorityQueue", name := "siftUpComparable", desc := "(ILjava/lang/Object;[Ljava/lang/Object;)V" } : Jvm.MethodName)) ∈ lw_all := lw_g (lw_at lw_m7 186 rfl) rfl
theorem q1728 : (Jvm.Cond.static ({ cls := "java/util/PriorityQueue", name := "siftUpComparable", desc := "(ILjava/lang/Object;[Ljava/lang/Object;)V" } : Jvm.MethodName)) ∈ lw_all := lw_g (lw_at lw_m7 187 rfl) rfl
theorem q1729 : (Jvm.Cond.code ({ cls := "java/util/PriorityQueue", name := "siftUpComparable", desc := "(ILjava/lang/Object;[Ljava/lang/Object;)V" } : Jvm.MethodName) prog_64_method_28_code (6 : Nat) (Option.none : Option Jvm.ClassFile.FieldType)) ∈ lw_all := lw_g (lw_at lw_m7 188 rfl) rfl
theorem q1730 : (Jvm.Cond.classLink "java/util/PriorityQueue" (144 : Nat) "java/lang/Comparable") ∈ lw_all := lw_g (lw_at lw_m7 189 rfl) rfl
theorem q1731 : (Jvm.Cond.interfaceEntry "java/util/PriorityQueue" (146 : Nat)) ∈ lw_tbl := lw_at lw_m7 190 rfl
theorem q1732 : (Jvm.Cond.methodLink "java/util/PriorityQueue" (146 : Nat) ({ cls := "java/lang/Comparable", name := "compareTo", desc := "(Ljava/lang/Object;)I" } : Jvm.MethodName)) ∈ lw_all := lw_g (lw_at lw_m7 191 rfl) rfl
theorem q1734 : (Jvm.Cond.sameMethod "java/util/PriorityQueue" "java/util/AbstractCollection" "isEmpty" "()Z") ∈ lw_all := lw_g (lw_at lw_m7 193 rfl) rfl
theorem q1736 : (Jvm.Cond.selects "java/util/PriorityQueue" ({ cls := "java/util/PriorityQueue", name := "isEmpty", desc := "()Z" } : Jvm.MethodName) ({ cls := "java/util/AbstractCollection", name := "isEmpty", desc := "()Z" } : Jvm.MethodName)) ∈ lw_all := lw_g (lw_at lw_m7 195 rfl) rfl
theorem q1743 : (Jvm.Cond.selects "java/util/PriorityQueue" ({ cls := "java/util/AbstractCollection", name := "size", desc := "()I" } : Jvm.MethodName) ({ cls := "java/util/PriorityQueue", name := "size", desc := "()I" } : Jvm.MethodName)) ∈ lw_all := lw_g (lw_at lw_m7 202 rfl) rfl
theorem q1744 : (Jvm.Cond.instanceMethod ({ cls := "java/util/PriorityQueue", name := "size", desc := "()I" } : Jvm.MethodName)) ∈ lw_all := lw_g (lw_at lw_m7 203 rfl) rfl
theorem q1745 : (Jvm.Cond.code ({ cls := "java/util/PriorityQueue", name := "size", desc := "()I" } : Jvm.MethodName) prog_64_method_23_code (1 : Nat) (Option.some Jvm.ClassFile.FieldType.int)) ∈ lw_all := lw_g (lw_at lw_m7 204 rfl) rfl
theorem q1747 : (Jvm.Cond.instanceMethod ({ cls := "java/util/PriorityQueue", name := "poll", desc := "()Ljava/lang/Object;" } : Jvm.MethodName)) ∈ lw_all := lw_g (lw_at lw_m7 206 rfl) rfl
theorem q1748 : (Jvm.Cond.selects "java/util/PriorityQueue" ({ cls := "java/util/PriorityQueue", name := "poll", desc := "()Ljava/lang/Object;" } : Jvm.MethodName) ({ cls := "java/util/PriorityQueue", name := "poll", desc := "()Ljava/lang/Object;" } : Jvm.MethodName)) ∈ lw_all := lw_g (lw_at lw_m7 207 rfl) rfl
theorem q1749 : (Jvm.Cond.code ({ cls := "java/util/PriorityQueue", name := "poll", desc := "()Ljava/lang/Object;" } : Jvm.MethodName) prog_64_method_25_code (6 : Nat) (Option.some (Jvm.ClassFile.FieldType.object "java/lang/Object"))) ∈ lw_all := lw_g (lw_at lw_m7 208 rfl) rfl
theorem q1750 : (Jvm.Cond.methodLink "java/util/PriorityQueue" (125 : Nat) ({ cls := "java/util/PriorityQueue", name := "siftDownComparable", desc := "(ILjava/lang/Object;[Ljava/lang/Object;I)V" } : Jvm.MethodName)) ∈ lw_all := lw_g (lw_at lw_m7 209 rfl) rfl
theorem q1751 : (Jvm.Cond.static ({ cls := "java/util/PriorityQueue", name := "siftDownComparable", desc := "(ILjava/lang/Object;[Ljava/lang/Object;I)V" } : Jvm.MethodName)) ∈ lw_all := lw_g (lw_at lw_m7 210 rfl) rfl
theorem q1752 : (Jvm.Cond.code ({ cls := "java/util/PriorityQueue", name := "siftDownComparable", desc := "(ILjava/lang/Object;[Ljava/lang/Object;I)V" } : Jvm.MethodName) prog_64_method_31_code (9 : Nat) (Option.none : Option Jvm.ClassFile.FieldType)) ∈ lw_all := lw_g (lw_at lw_m7 211 rfl) rfl
theorem q1753 : (Jvm.Cond.methodLink "java/util/PriorityQueue" (129 : Nat) ({ cls := "java/util/PriorityQueue", name := "siftDownUsingComparator", desc := "(ILjava/lang/Object;[Ljava/lang/Object;ILjava/util/Comparator;)V" } : Jvm.MethodName)) ∈ lw_all := lw_g (lw_at lw_m7 212 rfl) rfl
theorem q1754 : (Jvm.Cond.static ({ cls := "java/util/PriorityQueue", name := "siftDownUsingComparator", desc := "(ILjava/lang/Object;[Ljava/lang/Object;ILjava/util/Comparator;)V" } : Jvm.MethodName)) ∈ lw_all := lw_g (lw_at lw_m7 213 rfl) rfl
theorem q1755 : (Jvm.Cond.code ({ cls := "java/util/PriorityQueue", name := "siftDownUsingComparator", desc := "(ILjava/lang/Object;[Ljava/lang/Object;ILjava/util/Comparator;)V" } : Jvm.MethodName) prog_64_method_32_code (9 : Nat) (Option.none : Option Jvm.ClassFile.FieldType)) ∈ lw_all := lw_g (lw_at lw_m7 214 rfl) rfl
theorem q1891 : (Jvm.Cond.instanceMethod ({ cls := "java/util/PriorityQueue", name := "peek", desc := "()Ljava/lang/Object;" } : Jvm.MethodName)) ∈ lw_all := lw_g (lw_at lw_m8 110 rfl) rfl
theorem q1892 : (Jvm.Cond.selects "java/util/PriorityQueue" ({ cls := "java/util/PriorityQueue", name := "peek", desc := "()Ljava/lang/Object;" } : Jvm.MethodName) ({ cls := "java/util/PriorityQueue", name := "peek", desc := "()Ljava/lang/Object;" } : Jvm.MethodName)) ∈ lw_all := lw_g (lw_at lw_m8 111 rfl) rfl
theorem q1893 : (Jvm.Cond.code ({ cls := "java/util/PriorityQueue", name := "peek", desc := "()Ljava/lang/Object;" } : Jvm.MethodName) prog_64_method_15_code (1 : Nat) (Option.some (Jvm.ClassFile.FieldType.object "java/lang/Object"))) ∈ lw_all := lw_g (lw_at lw_m8 112 rfl) rfl
theorem q2581 : (Jvm.Cond.castable "java/util/PriorityQueue" "java/lang/Object") ∈ lw_tbl := lw_at lw_m11 80 rfl

/-! java/util/AbstractCollection -/
set_option maxRecDepth 100000
def RJ7 : String := "java/util/AbstractCollection"
abbrev cJ7_init : ByteArray := prog_51_method_1_code
def yJ7_init : MethodName := ⟨RJ7, "<init>", "()V"⟩
theorem dJ7_init_0 : decode cJ7_init 0 = .ok (.aload_n 0, 1) := by decide +kernel
theorem dJ7_init_1 : decode cJ7_init 1 = .ok (.invokespecial 1, 3) := by decide +kernel
theorem dJ7_init_4 : decode cJ7_init 4 = .ok (.return_, 1) := by decide +kernel
abbrev cJ7_isEmpty : ByteArray := prog_51_method_4_code
def yJ7_isEmpty : MethodName := ⟨RJ7, "isEmpty", "()Z"⟩
def dkwJ7_isEmpty_0 : List UInt8 := [42, 182, 0, 7, 154, 0, 7, 4, 167, 0, 4, 3, 172]
abbrev dktJ7_isEmpty_0 : List UInt8 := dkwJ7_isEmpty_0 ++ []
theorem dksJ7_isEmpty_0 : cJ7_isEmpty.data.toList.drop 0 = dktJ7_isEmpty_0 := by decide +kernel
theorem dJ7_isEmpty_0 : decode cJ7_isEmpty 0 = .ok (.aload_n 0, 1) := dk_42 (dk_at dksJ7_isEmpty_0 0 rfl rfl)
theorem dJ7_isEmpty_1 : decode cJ7_isEmpty 1 = .ok (.invokevirtual 7, 3) := dk_182 0 7 (dk_at dksJ7_isEmpty_0 1 rfl rfl)
theorem dJ7_isEmpty_4 : decode cJ7_isEmpty 4 = .ok (.ifCond .ne 7, 3) := dk_154 0 7 (dk_at dksJ7_isEmpty_0 4 rfl rfl)
theorem dJ7_isEmpty_7 : decode cJ7_isEmpty 7 = .ok (.iconst 1, 1) := dk_4 (dk_at dksJ7_isEmpty_0 7 rfl rfl)
theorem dJ7_isEmpty_8 : decode cJ7_isEmpty 8 = .ok (.goto 4, 3) := dk_167 0 4 (dk_at dksJ7_isEmpty_0 8 rfl rfl)
theorem dJ7_isEmpty_11 : decode cJ7_isEmpty 11 = .ok (.iconst 0, 1) := dk_3 (dk_at dksJ7_isEmpty_0 11 rfl rfl)
theorem dJ7_isEmpty_12 : decode cJ7_isEmpty 12 = .ok (.ireturn, 1) := dk_172 (dk_at dksJ7_isEmpty_0 12 rfl rfl)
theorem q114 : (Jvm.Cond.initialized "java/util/AbstractCollection") ∈ lw_all := lw_g (lw_at lw_m1 13 rfl) rfl
theorem q433 : (Jvm.Cond.instanceMethod ({ cls := "java/util/AbstractCollection", name := "<init>", desc := "()V" } : Jvm.MethodName)) ∈ lw_all := lw_g (lw_at lw_m2 92 rfl) rfl
theorem q434 : (Jvm.Cond.code ({ cls := "java/util/AbstractCollection", name := "<init>", desc := "()V" } : Jvm.MethodName) prog_51_method_1_code (1 : Nat) (Option.none : Option Jvm.ClassFile.FieldType)) ∈ lw_all := lw_g (lw_at lw_m2 93 rfl) rfl
theorem q435 : (Jvm.Cond.methodLink "java/util/AbstractCollection" (1 : Nat) ({ cls := "java/lang/Object", name := "<init>", desc := "()V" } : Jvm.MethodName)) ∈ lw_all := lw_g (lw_at lw_m2 94 rfl) rfl
theorem q1735 : (Jvm.Cond.declares ({ cls := "java/util/AbstractCollection", name := "isEmpty", desc := "()Z" } : Jvm.MethodName)) ∈ lw_tbl := lw_at lw_m7 194 rfl
theorem q1737 : (Jvm.Cond.instanceMethod ({ cls := "java/util/AbstractCollection", name := "isEmpty", desc := "()Z" } : Jvm.MethodName)) ∈ lw_all := lw_g (lw_at lw_m7 196 rfl) rfl
theorem q1738 : (Jvm.Cond.code ({ cls := "java/util/AbstractCollection", name := "isEmpty", desc := "()Z" } : Jvm.MethodName) prog_51_method_4_code (1 : Nat) (Option.some Jvm.ClassFile.FieldType.boolean)) ∈ lw_all := lw_g (lw_at lw_m7 197 rfl) rfl
theorem q1739 : (Jvm.Cond.methodLink "java/util/AbstractCollection" (7 : Nat) ({ cls := "java/util/AbstractCollection", name := "size", desc := "()I" } : Jvm.MethodName)) ∈ lw_all := lw_g (lw_at lw_m7 198 rfl) rfl
theorem q1740 : (Jvm.Cond.declares ({ cls := "java/util/AbstractCollection", name := "size", desc := "()I" } : Jvm.MethodName)) ∈ lw_tbl := lw_at lw_m7 199 rfl
theorem q1741 : (Jvm.Cond.sameMethod "java/util/AbstractCollection" "java/util/AbstractCollection" "size" "()I") ∈ lw_all := lw_g (lw_at lw_m7 200 rfl) rfl

/-! java/util/AbstractList -/
set_option maxRecDepth 100000
def RJ8 : String := "java/util/AbstractList"
abbrev cJ8_init : ByteArray := prog_52_method_1_code
def yJ8_init : MethodName := ⟨RJ8, "<init>", "()V"⟩
def dkwJ8_init_0 : List UInt8 := [42, 183, 0, 1, 42, 3, 181, 0, 7, 177]
abbrev dktJ8_init_0 : List UInt8 := dkwJ8_init_0 ++ []
theorem dksJ8_init_0 : cJ8_init.data.toList.drop 0 = dktJ8_init_0 := by decide +kernel
theorem dJ8_init_0 : decode cJ8_init 0 = .ok (.aload_n 0, 1) := dk_42 (dk_at dksJ8_init_0 0 rfl rfl)
theorem dJ8_init_1 : decode cJ8_init 1 = .ok (.invokespecial 1, 3) := dk_183 0 1 (dk_at dksJ8_init_0 1 rfl rfl)
theorem dJ8_init_4 : decode cJ8_init 4 = .ok (.aload_n 0, 1) := dk_42 (dk_at dksJ8_init_0 4 rfl rfl)
theorem dJ8_init_5 : decode cJ8_init 5 = .ok (.iconst 0, 1) := dk_3 (dk_at dksJ8_init_0 5 rfl rfl)
theorem dJ8_init_6 : decode cJ8_init 6 = .ok (.putfield 7, 3) := dk_181 0 7 (dk_at dksJ8_init_0 6 rfl rfl)
theorem dJ8_init_9 : decode cJ8_init 9 = .ok (.return_, 1) := dk_177 (dk_at dksJ8_init_0 9 rfl rfl)
theorem q115 : (Jvm.Cond.initialized "java/util/AbstractList") ∈ lw_all := lw_g (lw_at lw_m1 14 rfl) rfl
theorem q430 : (Jvm.Cond.instanceMethod ({ cls := "java/util/AbstractList", name := "<init>", desc := "()V" } : Jvm.MethodName)) ∈ lw_all := lw_g (lw_at lw_m2 89 rfl) rfl
theorem q431 : (Jvm.Cond.code ({ cls := "java/util/AbstractList", name := "<init>", desc := "()V" } : Jvm.MethodName) prog_52_method_1_code (1 : Nat) (Option.none : Option Jvm.ClassFile.FieldType)) ∈ lw_all := lw_g (lw_at lw_m2 90 rfl) rfl
theorem q432 : (Jvm.Cond.methodLink "java/util/AbstractList" (1 : Nat) ({ cls := "java/util/AbstractCollection", name := "<init>", desc := "()V" } : Jvm.MethodName)) ∈ lw_all := lw_g (lw_at lw_m2 91 rfl) rfl
theorem q440 : (Jvm.Cond.fieldLink "java/util/AbstractList" (7 : Nat) "java/util/AbstractList" "modCount" "I") ∈ lw_all := lw_g (lw_at lw_m2 99 rfl) rfl
theorem q448 : (Jvm.Cond.soleField "java/util/AbstractList" "modCount") ∈ lw_all := lw_g (lw_at lw_m2 107 rfl) rfl

/-! java/util/ArrayList -/
set_option maxRecDepth 100000
abbrev cJ9_init : ByteArray := prog_55_method_2_code
def yJ9_init : MethodName := ⟨RJ9, "<init>", "()V"⟩
def dkwJ9_init_0 : List UInt8 := [42, 183, 0, 1, 42, 178, 0, 39, 181, 0, 9, 177]
abbrev dktJ9_init_0 : List UInt8 := dkwJ9_init_0 ++ []
theorem dksJ9_init_0 : cJ9_init.data.toList.drop 0 = dktJ9_init_0 := by decide +kernel
theorem dJ9_init_0 : decode cJ9_init 0 = .ok (.aload_n 0, 1) := dk_42 (dk_at dksJ9_init_0 0 rfl rfl)
theorem dJ9_init_1 : decode cJ9_init 1 = .ok (.invokespecial 1, 3) := dk_183 0 1 (dk_at dksJ9_init_0 1 rfl rfl)
theorem dJ9_init_4 : decode cJ9_init 4 = .ok (.aload_n 0, 1) := dk_42 (dk_at dksJ9_init_0 4 rfl rfl)
theorem dJ9_init_5 : decode cJ9_init 5 = .ok (.getstatic 39, 3) := dk_178 0 39 (dk_at dksJ9_init_0 5 rfl rfl)
theorem dJ9_init_8 : decode cJ9_init 8 = .ok (.putfield 9, 3) := dk_181 0 9 (dk_at dksJ9_init_0 8 rfl rfl)
theorem dJ9_init_11 : decode cJ9_init 11 = .ok (.return_, 1) := dk_177 (dk_at dksJ9_init_0 11 rfl rfl)
abbrev cJ9_add : ByteArray := prog_55_method_25_code
def yJ9_add : MethodName := ⟨RJ9, "add", "(Ljava/lang/Object;)Z"⟩
def dkwJ9_add_1 : List UInt8 := [172]
abbrev dktJ9_add_1 : List UInt8 := dkwJ9_add_1 ++ []
def dkwJ9_add_0 : List UInt8 := [42, 89, 180, 0, 63, 4, 96, 181, 0, 63, 42, 43, 42, 180, 0, 9, 42, 180, 0, 48, 182, 0, 131, 4]
abbrev dktJ9_add_0 : List UInt8 := dkwJ9_add_0 ++ dktJ9_add_1
theorem dksJ9_add_0 : cJ9_add.data.toList.drop 0 = dktJ9_add_0 := by decide +kernel
theorem dksJ9_add_1 : cJ9_add.data.toList.drop 24 = dktJ9_add_1 := dk_seg dksJ9_add_0 24 rfl rfl
theorem dJ9_add_0 : decode cJ9_add 0 = .ok (.aload_n 0, 1) := dk_42 (dk_at dksJ9_add_0 0 rfl rfl)
theorem dJ9_add_1 : decode cJ9_add 1 = .ok (.dup, 1) := dk_89 (dk_at dksJ9_add_0 1 rfl rfl)
theorem dJ9_add_2 : decode cJ9_add 2 = .ok (.getfield 63, 3) := dk_180 0 63 (dk_at dksJ9_add_0 2 rfl rfl)
theorem dJ9_add_5 : decode cJ9_add 5 = .ok (.iconst 1, 1) := dk_4 (dk_at dksJ9_add_0 5 rfl rfl)
theorem dJ9_add_6 : decode cJ9_add 6 = .ok (.iadd, 1) := dk_96 (dk_at dksJ9_add_0 6 rfl rfl)
theorem dJ9_add_7 : decode cJ9_add 7 = .ok (.putfield 63, 3) := dk_181 0 63 (dk_at dksJ9_add_0 7 rfl rfl)
theorem dJ9_add_10 : decode cJ9_add 10 = .ok (.aload_n 0, 1) := dk_42 (dk_at dksJ9_add_0 10 rfl rfl)
theorem dJ9_add_11 : decode cJ9_add 11 = .ok (.aload_n 1, 1) := dk_43 (dk_at dksJ9_add_0 11 rfl rfl)
theorem dJ9_add_12 : decode cJ9_add 12 = .ok (.aload_n 0, 1) := dk_42 (dk_at dksJ9_add_0 12 rfl rfl)
theorem dJ9_add_13 : decode cJ9_add 13 = .ok (.getfield 9, 3) := dk_180 0 9 (dk_at dksJ9_add_0 13 rfl rfl)
theorem dJ9_add_16 : decode cJ9_add 16 = .ok (.aload_n 0, 1) := dk_42 (dk_at dksJ9_add_0 16 rfl rfl)
theorem dJ9_add_17 : decode cJ9_add 17 = .ok (.getfield 48, 3) := dk_180 0 48 (dk_at dksJ9_add_0 17 rfl rfl)
theorem dJ9_add_20 : decode cJ9_add 20 = .ok (.invokevirtual 131, 3) := dk_182 0 131 (dk_at dksJ9_add_0 20 rfl rfl)
theorem dJ9_add_23 : decode cJ9_add 23 = .ok (.iconst 1, 1) := dk_4 (dk_at dksJ9_add_0 23 rfl rfl)
theorem dJ9_add_24 : decode cJ9_add 24 = .ok (.ireturn, 1) := dk_172 (dk_at dksJ9_add_1 0 rfl rfl)
abbrev cJ9_add_2 : ByteArray := prog_55_method_24_code
def yJ9_add_2 : MethodName := ⟨RJ9, "add", "(Ljava/lang/Object;[Ljava/lang/Object;I)V"⟩
def dkwJ9_add_2_0 : List UInt8 := [29, 44, 190, 160, 0, 8, 42, 182, 0, 129, 77, 44, 29, 43, 83, 42, 29, 4, 96, 181, 0, 48, 177]
abbrev dktJ9_add_2_0 : List UInt8 := dkwJ9_add_2_0 ++ []
theorem dksJ9_add_2_0 : cJ9_add_2.data.toList.drop 0 = dktJ9_add_2_0 := by decide +kernel
theorem dJ9_add_2_0 : decode cJ9_add_2 0 = .ok (.iload_n 3, 1) := dk_29 (dk_at dksJ9_add_2_0 0 rfl rfl)
theorem dJ9_add_2_1 : decode cJ9_add_2 1 = .ok (.aload_n 2, 1) := dk_44 (dk_at dksJ9_add_2_0 1 rfl rfl)
theorem dJ9_add_2_2 : decode cJ9_add_2 2 = .ok (.arraylength, 1) := dk_190 (dk_at dksJ9_add_2_0 2 rfl rfl)
theorem dJ9_add_2_3 : decode cJ9_add_2 3 = .ok (.if_icmp .ne 8, 3) := dk_160 0 8 (dk_at dksJ9_add_2_0 3 rfl rfl)
theorem dJ9_add_2_6 : decode cJ9_add_2 6 = .ok (.aload_n 0, 1) := dk_42 (dk_at dksJ9_add_2_0 6 rfl rfl)
theorem dJ9_add_2_7 : decode cJ9_add_2 7 = .ok (.invokevirtual 129, 3) := dk_182 0 129 (dk_at dksJ9_add_2_0 7 rfl rfl)
theorem dJ9_add_2_10 : decode cJ9_add_2 10 = .ok (.astore_n 2, 1) := dk_77 (dk_at dksJ9_add_2_0 10 rfl rfl)
theorem dJ9_add_2_11 : decode cJ9_add_2 11 = .ok (.aload_n 2, 1) := dk_44 (dk_at dksJ9_add_2_0 11 rfl rfl)
theorem dJ9_add_2_12 : decode cJ9_add_2 12 = .ok (.iload_n 3, 1) := dk_29 (dk_at dksJ9_add_2_0 12 rfl rfl)
theorem dJ9_add_2_13 : decode cJ9_add_2 13 = .ok (.aload_n 1, 1) := dk_43 (dk_at dksJ9_add_2_0 13 rfl rfl)
theorem dJ9_add_2_14 : decode cJ9_add_2 14 = .ok (.aastore, 1) := dk_83 (dk_at dksJ9_add_2_0 14 rfl rfl)
theorem dJ9_add_2_15 : decode cJ9_add_2 15 = .ok (.aload_n 0, 1) := dk_42 (dk_at dksJ9_add_2_0 15 rfl rfl)
theorem dJ9_add_2_16 : decode cJ9_add_2 16 = .ok (.iload_n 3, 1) := dk_29 (dk_at dksJ9_add_2_0 16 rfl rfl)
theorem dJ9_add_2_17 : decode cJ9_add_2 17 = .ok (.iconst 1, 1) := dk_4 (dk_at dksJ9_add_2_0 17 rfl rfl)
theorem dJ9_add_2_18 : decode cJ9_add_2 18 = .ok (.iadd, 1) := dk_96 (dk_at dksJ9_add_2_0 18 rfl rfl)
theorem dJ9_add_2_19 : decode cJ9_add_2 19 = .ok (.putfield 48, 3) := dk_181 0 48 (dk_at dksJ9_add_2_0 19 rfl rfl)
theorem dJ9_add_2_22 : decode cJ9_add_2 22 = .ok (.return_, 1) := dk_177 (dk_at dksJ9_add_2_0 22 rfl rfl)
abbrev cJ9_grow : ByteArray := prog_55_method_7_code
def yJ9_grow : MethodName := ⟨RJ9, "grow", "()[Ljava/lang/Object;"⟩
def dkwJ9_grow_0 : List UInt8 := [42, 42, 180, 0, 48, 4, 96, 182, 0, 69, 176]
abbrev dktJ9_grow_0 : List UInt8 := dkwJ9_grow_0 ++ []
theorem dksJ9_grow_0 : cJ9_grow.data.toList.drop 0 = dktJ9_grow_0 := by decide +kernel
theorem dJ9_grow_0 : decode cJ9_grow 0 = .ok (.aload_n 0, 1) := dk_42 (dk_at dksJ9_grow_0 0 rfl rfl)
theorem dJ9_grow_1 : decode cJ9_grow 1 = .ok (.aload_n 0, 1) := dk_42 (dk_at dksJ9_grow_0 1 rfl rfl)
theorem dJ9_grow_2 : decode cJ9_grow 2 = .ok (.getfield 48, 3) := dk_180 0 48 (dk_at dksJ9_grow_0 2 rfl rfl)
theorem dJ9_grow_5 : decode cJ9_grow 5 = .ok (.iconst 1, 1) := dk_4 (dk_at dksJ9_grow_0 5 rfl rfl)
theorem dJ9_grow_6 : decode cJ9_grow 6 = .ok (.iadd, 1) := dk_96 (dk_at dksJ9_grow_0 6 rfl rfl)
theorem dJ9_grow_7 : decode cJ9_grow 7 = .ok (.invokevirtual 69, 3) := dk_182 0 69 (dk_at dksJ9_grow_0 7 rfl rfl)
theorem dJ9_grow_10 : decode cJ9_grow 10 = .ok (.areturn, 1) := dk_176 (dk_at dksJ9_grow_0 10 rfl rfl)
abbrev cJ9_grow_2 : ByteArray := prog_55_method_6_code
def yJ9_grow_2 : MethodName := ⟨RJ9, "grow", "(I)[Ljava/lang/Object;"⟩
def dkwJ9_grow_2_2 : List UInt8 := [27, 184, 0, 79, 189, 0, 7, 90, 181, 0, 9, 176]
abbrev dktJ9_grow_2_2 : List UInt8 := dkwJ9_grow_2_2 ++ []
def dkwJ9_grow_2_1 : List UInt8 := [28, 4, 122, 184, 0, 73, 62, 42, 42, 180, 0, 9, 29, 184, 0, 66, 90, 181, 0, 9, 176, 42, 16, 10]
abbrev dktJ9_grow_2_1 : List UInt8 := dkwJ9_grow_2_1 ++ dktJ9_grow_2_2
def dkwJ9_grow_2_0 : List UInt8 := [42, 180, 0, 9, 190, 61, 28, 157, 0, 13, 42, 180, 0, 9, 178, 0, 39, 165, 0, 28, 28, 27, 28, 100]
abbrev dktJ9_grow_2_0 : List UInt8 := dkwJ9_grow_2_0 ++ dktJ9_grow_2_1
theorem dksJ9_grow_2_0 : cJ9_grow_2.data.toList.drop 0 = dktJ9_grow_2_0 := by decide +kernel
theorem dksJ9_grow_2_1 : cJ9_grow_2.data.toList.drop 24 = dktJ9_grow_2_1 := dk_seg dksJ9_grow_2_0 24 rfl rfl
theorem dksJ9_grow_2_2 : cJ9_grow_2.data.toList.drop 48 = dktJ9_grow_2_2 := dk_seg dksJ9_grow_2_1 24 rfl rfl
theorem dJ9_grow_2_0 : decode cJ9_grow_2 0 = .ok (.aload_n 0, 1) := dk_42 (dk_at dksJ9_grow_2_0 0 rfl rfl)
theorem dJ9_grow_2_1 : decode cJ9_grow_2 1 = .ok (.getfield 9, 3) := dk_180 0 9 (dk_at dksJ9_grow_2_0 1 rfl rfl)
theorem dJ9_grow_2_4 : decode cJ9_grow_2 4 = .ok (.arraylength, 1) := dk_190 (dk_at dksJ9_grow_2_0 4 rfl rfl)
theorem dJ9_grow_2_5 : decode cJ9_grow_2 5 = .ok (.istore_n 2, 1) := dk_61 (dk_at dksJ9_grow_2_0 5 rfl rfl)
theorem dJ9_grow_2_6 : decode cJ9_grow_2 6 = .ok (.iload_n 2, 1) := dk_28 (dk_at dksJ9_grow_2_0 6 rfl rfl)
theorem dJ9_grow_2_7 : decode cJ9_grow_2 7 = .ok (.ifCond .gt 13, 3) := dk_157 0 13 (dk_at dksJ9_grow_2_0 7 rfl rfl)
theorem dJ9_grow_2_10 : decode cJ9_grow_2 10 = .ok (.aload_n 0, 1) := dk_42 (dk_at dksJ9_grow_2_0 10 rfl rfl)
theorem dJ9_grow_2_11 : decode cJ9_grow_2 11 = .ok (.getfield 9, 3) := dk_180 0 9 (dk_at dksJ9_grow_2_0 11 rfl rfl)
theorem dJ9_grow_2_14 : decode cJ9_grow_2 14 = .ok (.getstatic 39, 3) := dk_178 0 39 (dk_at dksJ9_grow_2_0 14 rfl rfl)
theorem dJ9_grow_2_17 : decode cJ9_grow_2 17 = .ok (.if_acmp .eq 28, 3) := dk_165 0 28 (dk_at dksJ9_grow_2_0 17 rfl rfl)
theorem dJ9_grow_2_20 : decode cJ9_grow_2 20 = .ok (.iload_n 2, 1) := dk_28 (dk_at dksJ9_grow_2_0 20 rfl rfl)
theorem dJ9_grow_2_21 : decode cJ9_grow_2 21 = .ok (.iload_n 1, 1) := dk_27 (dk_at dksJ9_grow_2_0 21 rfl rfl)
theorem dJ9_grow_2_22 : decode cJ9_grow_2 22 = .ok (.iload_n 2, 1) := dk_28 (dk_at dksJ9_grow_2_0 22 rfl rfl)
theorem dJ9_grow_2_23 : decode cJ9_grow_2 23 = .ok (.isub, 1) := dk_100 (dk_at dksJ9_grow_2_0 23 rfl rfl)
theorem dJ9_grow_2_24 : decode cJ9_grow_2 24 = .ok (.iload_n 2, 1) := dk_28 (dk_at dksJ9_grow_2_1 0 rfl rfl)
theorem dJ9_grow_2_25 : decode cJ9_grow_2 25 = .ok (.iconst 1, 1) := dk_4 (dk_at dksJ9_grow_2_1 1 rfl rfl)
theorem dJ9_grow_2_26 : decode cJ9_grow_2 26 = .ok (.ishr, 1) := dk_122 (dk_at dksJ9_grow_2_1 2 rfl rfl)
theorem dJ9_grow_2_27 : decode cJ9_grow_2 27 = .ok (.invokestatic 73, 3) := dk_184 0 73 (dk_at dksJ9_grow_2_1 3 rfl rfl)
theorem dJ9_grow_2_30 : decode cJ9_grow_2 30 = .ok (.istore_n 3, 1) := dk_62 (dk_at dksJ9_grow_2_1 6 rfl rfl)
theorem dJ9_grow_2_31 : decode cJ9_grow_2 31 = .ok (.aload_n 0, 1) := dk_42 (dk_at dksJ9_grow_2_1 7 rfl rfl)
theorem dJ9_grow_2_32 : decode cJ9_grow_2 32 = .ok (.aload_n 0, 1) := dk_42 (dk_at dksJ9_grow_2_1 8 rfl rfl)
theorem dJ9_grow_2_33 : decode cJ9_grow_2 33 = .ok (.getfield 9, 3) := dk_180 0 9 (dk_at dksJ9_grow_2_1 9 rfl rfl)
theorem dJ9_grow_2_36 : decode cJ9_grow_2 36 = .ok (.iload_n 3, 1) := dk_29 (dk_at dksJ9_grow_2_1 12 rfl rfl)
theorem dJ9_grow_2_37 : decode cJ9_grow_2 37 = .ok (.invokestatic 66, 3) := dk_184 0 66 (dk_at dksJ9_grow_2_1 13 rfl rfl)
theorem dJ9_grow_2_40 : decode cJ9_grow_2 40 = .ok (.dup_x1, 1) := dk_90 (dk_at dksJ9_grow_2_1 16 rfl rfl)
theorem dJ9_grow_2_41 : decode cJ9_grow_2 41 = .ok (.putfield 9, 3) := dk_181 0 9 (dk_at dksJ9_grow_2_1 17 rfl rfl)
theorem dJ9_grow_2_44 : decode cJ9_grow_2 44 = .ok (.areturn, 1) := dk_176 (dk_at dksJ9_grow_2_1 20 rfl rfl)
theorem dJ9_grow_2_45 : decode cJ9_grow_2 45 = .ok (.aload_n 0, 1) := dk_42 (dk_at dksJ9_grow_2_1 21 rfl rfl)
theorem dJ9_grow_2_46 : decode cJ9_grow_2 46 = .ok (.bipush 10, 2) := dk_16 10 (dk_at dksJ9_grow_2_1 22 rfl rfl)
theorem dJ9_grow_2_48 : decode cJ9_grow_2 48 = .ok (.iload_n 1, 1) := dk_27 (dk_at dksJ9_grow_2_2 0 rfl rfl)
theorem dJ9_grow_2_49 : decode cJ9_grow_2 49 = .ok (.invokestatic 79, 3) := dk_184 0 79 (dk_at dksJ9_grow_2_2 1 rfl rfl)
theorem dJ9_grow_2_52 : decode cJ9_grow_2 52 = .ok (.anewarray 7, 3) := dk_189 0 7 (dk_at dksJ9_grow_2_2 4 rfl rfl)
theorem dJ9_grow_2_55 : decode cJ9_grow_2 55 = .ok (.dup_x1, 1) := dk_90 (dk_at dksJ9_grow_2_2 7 rfl rfl)
theorem dJ9_grow_2_56 : decode cJ9_grow_2 56 = .ok (.putfield 9, 3) := dk_181 0 9 (dk_at dksJ9_grow_2_2 8 rfl rfl)
theorem dJ9_grow_2_59 : decode cJ9_grow_2 59 = .ok (.areturn, 1) := dk_176 (dk_at dksJ9_grow_2_2 11 rfl rfl)
abbrev cJ9_size : ByteArray := prog_55_method_8_code
def yJ9_size : MethodName := ⟨RJ9, "size", "()I"⟩
theorem dJ9_size_0 : decode cJ9_size 0 = .ok (.aload_n 0, 1) := by decide +kernel
theorem dJ9_size_1 : decode cJ9_size 1 = .ok (.getfield 48, 3) := by decide +kernel
theorem dJ9_size_4 : decode cJ9_size 4 = .ok (.ireturn, 1) := by decide +kernel
abbrev cJ9_get : ByteArray := prog_55_method_20_code
def yJ9_get : MethodName := ⟨RJ9, "get", "(I)Ljava/lang/Object;"⟩
def dkwJ9_get_0 : List UInt8 := [27, 42, 180, 0, 48, 184, 0, 118, 87, 42, 27, 182, 0, 123, 176]
abbrev dktJ9_get_0 : List UInt8 := dkwJ9_get_0 ++ []
theorem dksJ9_get_0 : cJ9_get.data.toList.drop 0 = dktJ9_get_0 := by decide +kernel
theorem dJ9_get_0 : decode cJ9_get 0 = .ok (.iload_n 1, 1) := dk_27 (dk_at dksJ9_get_0 0 rfl rfl)
theorem dJ9_get_1 : decode cJ9_get 1 = .ok (.aload_n 0, 1) := dk_42 (dk_at dksJ9_get_0 1 rfl rfl)
theorem dJ9_get_2 : decode cJ9_get 2 = .ok (.getfield 48, 3) := dk_180 0 48 (dk_at dksJ9_get_0 2 rfl rfl)
theorem dJ9_get_5 : decode cJ9_get 5 = .ok (.invokestatic 118, 3) := dk_184 0 118 (dk_at dksJ9_get_0 5 rfl rfl)
theorem dJ9_get_8 : decode cJ9_get 8 = .ok (.pop, 1) := dk_87 (dk_at dksJ9_get_0 8 rfl rfl)
theorem dJ9_get_9 : decode cJ9_get 9 = .ok (.aload_n 0, 1) := dk_42 (dk_at dksJ9_get_0 9 rfl rfl)
theorem dJ9_get_10 : decode cJ9_get 10 = .ok (.iload_n 1, 1) := dk_27 (dk_at dksJ9_get_0 10 rfl rfl)
theorem dJ9_get_11 : decode cJ9_get 11 = .ok (.invokevirtual 123, 3) := dk_182 0 123 (dk_at dksJ9_get_0 11 rfl rfl)
theorem dJ9_get_14 : decode cJ9_get 14 = .ok (.areturn, 1) := dk_176 (dk_at dksJ9_get_0 14 rfl rfl)
abbrev cJ9_elementData : ByteArray := prog_55_method_18_code
def yJ9_elementData : MethodName := ⟨RJ9, "elementData", "(I)Ljava/lang/Object;"⟩
def dkwJ9_elementData_0 : List UInt8 := [42, 180, 0, 9, 27, 50, 176]
abbrev dktJ9_elementData_0 : List UInt8 := dkwJ9_elementData_0 ++ []
theorem dksJ9_elementData_0 : cJ9_elementData.data.toList.drop 0 = dktJ9_elementData_0 := by decide +kernel
theorem dJ9_elementData_0 : decode cJ9_elementData 0 = .ok (.aload_n 0, 1) := dk_42 (dk_at dksJ9_elementData_0 0 rfl rfl)
theorem dJ9_elementData_1 : decode cJ9_elementData 1 = .ok (.getfield 9, 3) := dk_180 0 9 (dk_at dksJ9_elementData_0 1 rfl rfl)
theorem dJ9_elementData_4 : decode cJ9_elementData 4 = .ok (.iload_n 1, 1) := dk_27 (dk_at dksJ9_elementData_0 4 rfl rfl)
theorem dJ9_elementData_5 : decode cJ9_elementData 5 = .ok (.aaload, 1) := dk_50 (dk_at dksJ9_elementData_0 5 rfl rfl)
theorem dJ9_elementData_6 : decode cJ9_elementData 6 = .ok (.areturn, 1) := dk_176 (dk_at dksJ9_elementData_0 6 rfl rfl)
theorem q116 : (Jvm.Cond.initialized "java/util/ArrayList") ∈ lw_all := lw_g (lw_at lw_m1 15 rfl) rfl
theorem q425 : (Jvm.Cond.instantiable "java/util/ArrayList" (3 : Nat)) ∈ lw_all := lw_g (lw_at lw_m2 84 rfl) rfl
theorem q427 : (Jvm.Cond.instanceMethod ({ cls := "java/util/ArrayList", name := "<init>", desc := "()V" } : Jvm.MethodName)) ∈ lw_all := lw_g (lw_at lw_m2 86 rfl) rfl
theorem q428 : (Jvm.Cond.code ({ cls := "java/util/ArrayList", name := "<init>", desc := "()V" } : Jvm.MethodName) prog_55_method_2_code (1 : Nat) (Option.none : Option Jvm.ClassFile.FieldType)) ∈ lw_all := lw_g (lw_at lw_m2 87 rfl) rfl
theorem q429 : (Jvm.Cond.methodLink "java/util/ArrayList" (1 : Nat) ({ cls := "java/util/AbstractList", name := "<init>", desc := "()V" } : Jvm.MethodName)) ∈ lw_all := lw_g (lw_at lw_m2 88 rfl) rfl
theorem q436 : (Jvm.Cond.fieldLink "java/util/ArrayList" (39 : Nat) "java/util/ArrayList" "DEFAULTCAPACITY_EMPTY_ELEMENTDATA" "[Ljava/lang/Object;") ∈ lw_all := lw_g (lw_at lw_m2 95 rfl) rfl
theorem q437 : (Jvm.Cond.laysStatic "java/util/ArrayList" "DEFAULTCAPACITY_EMPTY_ELEMENTDATA" "[Ljava/lang/Object;") ∈ lw_tbl := lw_at lw_m2 96 rfl
theorem q438 : (Jvm.Cond.fieldLink "java/util/ArrayList" (9 : Nat) "java/util/ArrayList" "elementData" "[Ljava/lang/Object;") ∈ lw_all := lw_g (lw_at lw_m2 97 rfl) rfl
theorem q439 : (Jvm.Cond.fieldLink "java/util/ArrayList" (48 : Nat) "java/util/ArrayList" "size" "I") ∈ lw_all := lw_g (lw_at lw_m2 98 rfl) rfl
theorem q441 : (Jvm.Cond.fieldLink "java/util/ArrayList" (63 : Nat) "java/util/ArrayList" "modCount" "I") ∈ lw_all := lw_g (lw_at lw_m2 100 rfl) rfl
theorem q442 : (Jvm.Cond.sameField "java/util/ArrayList" "java/util/AbstractList" "modCount" "I") ∈ lw_all := lw_g (lw_at lw_m2 101 rfl) rfl
theorem q443 : (Jvm.Cond.lays "java/util/ArrayList" "java/util/ArrayList" "elementData" "[Ljava/lang/Object;") ∈ lw_all := lw_g (lw_at lw_m2 102 rfl) rfl
theorem q444 : (Jvm.Cond.soleField "java/util/ArrayList" "elementData") ∈ lw_all := lw_g (lw_at lw_m2 103 rfl) rfl
theorem q445 : (Jvm.Cond.lays "java/util/ArrayList" "java/util/ArrayList" "size" "I") ∈ lw_all := lw_g (lw_at lw_m2 104 rfl) rfl
theorem q446 : (Jvm.Cond.soleField "java/util/ArrayList" "size") ∈ lw_all := lw_g (lw_at lw_m2 105 rfl) rfl
theorem q447 : (Jvm.Cond.lays "java/util/ArrayList" "java/util/AbstractList" "modCount" "I") ∈ lw_all := lw_g (lw_at lw_m2 106 rfl) rfl
theorem q449 : (Jvm.Cond.superclass "java/util/ArrayList" "java/util/AbstractList") ∈ lw_all := lw_g (lw_at lw_m2 108 rfl) rfl
theorem q772 : (Jvm.Cond.instanceMethod ({ cls := "java/util/ArrayList", name := "add", desc := "(Ljava/lang/Object;)Z" } : Jvm.MethodName)) ∈ lw_all := lw_g (lw_at lw_m3 191 rfl) rfl
theorem q773 : (Jvm.Cond.selects "java/util/ArrayList" ({ cls := "java/util/ArrayList", name := "add", desc := "(Ljava/lang/Object;)Z" } : Jvm.MethodName) ({ cls := "java/util/ArrayList", name := "add", desc := "(Ljava/lang/Object;)Z" } : Jvm.MethodName)) ∈ lw_all := lw_g (lw_at lw_m3 192 rfl) rfl
theorem q774 : (Jvm.Cond.code ({ cls := "java/util/ArrayList", name := "add", desc := "(Ljava/lang/Object;)Z" } : Jvm.MethodName) prog_55_method_25_code (2 : Nat) (Option.some Jvm.ClassFile.FieldType.boolean)) ∈ lw_all := lw_g (lw_at lw_m3 193 rfl) rfl
theorem q775 : (Jvm.Cond.methodLink "java/util/ArrayList" (131 : Nat) ({ cls := "java/util/ArrayList", name := "add", desc := "(Ljava/lang/Object;[Ljava/lang/Object;I)V" } : Jvm.MethodName)) ∈ lw_all := lw_g (lw_at lw_m3 194 rfl) rfl
theorem q776 : (Jvm.Cond.privateMethod ({ cls := "java/util/ArrayList", name := "add", desc := "(Ljava/lang/Object;[Ljava/lang/Object;I)V" } : Jvm.MethodName)) ∈ lw_tbl := lw_at lw_m3 195 rfl
theorem q777 : (Jvm.Cond.instanceMethod ({ cls := "java/util/ArrayList", name := "add", desc := "(Ljava/lang/Object;[Ljava/lang/Object;I)V" } : Jvm.MethodName)) ∈ lw_all := lw_g (lw_at lw_m3 196 rfl) rfl
theorem q778 : (Jvm.Cond.code ({ cls := "java/util/ArrayList", name := "add", desc := "(Ljava/lang/Object;[Ljava/lang/Object;I)V" } : Jvm.MethodName) prog_55_method_24_code (4 : Nat) (Option.none : Option Jvm.ClassFile.FieldType)) ∈ lw_all := lw_g (lw_at lw_m3 197 rfl) rfl
theorem q779 : (Jvm.Cond.methodLink "java/util/ArrayList" (129 : Nat) ({ cls := "java/util/ArrayList", name := "grow", desc := "()[Ljava/lang/Object;" } : Jvm.MethodName)) ∈ lw_all := lw_g (lw_at lw_m3 198 rfl) rfl
theorem q780 : (Jvm.Cond.privateMethod ({ cls := "java/util/ArrayList", name := "grow", desc := "()[Ljava/lang/Object;" } : Jvm.MethodName)) ∈ lw_tbl := lw_at lw_m3 199 rfl
theorem q781 : (Jvm.Cond.instanceMethod ({ cls := "java/util/ArrayList", name := "grow", desc := "()[Ljava/lang/Object;" } : Jvm.MethodName)) ∈ lw_all := lw_g (lw_at lw_m3 200 rfl) rfl
theorem q782 : (Jvm.Cond.code ({ cls := "java/util/ArrayList", name := "grow", desc := "()[Ljava/lang/Object;" } : Jvm.MethodName) prog_55_method_7_code (1 : Nat) (Option.some (Jvm.ClassFile.FieldType.array (Jvm.ClassFile.FieldType.object "java/lang/Object")))) ∈ lw_all := lw_g (lw_at lw_m3 201 rfl) rfl
theorem q783 : (Jvm.Cond.methodLink "java/util/ArrayList" (69 : Nat) ({ cls := "java/util/ArrayList", name := "grow", desc := "(I)[Ljava/lang/Object;" } : Jvm.MethodName)) ∈ lw_all := lw_g (lw_at lw_m3 202 rfl) rfl
theorem q784 : (Jvm.Cond.privateMethod ({ cls := "java/util/ArrayList", name := "grow", desc := "(I)[Ljava/lang/Object;" } : Jvm.MethodName)) ∈ lw_tbl := lw_at lw_m3 203 rfl
theorem q785 : (Jvm.Cond.instanceMethod ({ cls := "java/util/ArrayList", name := "grow", desc := "(I)[Ljava/lang/Object;" } : Jvm.MethodName)) ∈ lw_all := lw_g (lw_at lw_m3 204 rfl) rfl
theorem q786 : (Jvm.Cond.code ({ cls := "java/util/ArrayList", name := "grow", desc := "(I)[Ljava/lang/Object;" } : Jvm.MethodName) prog_55_method_6_code (4 : Nat) (Option.some (Jvm.ClassFile.FieldType.array (Jvm.ClassFile.FieldType.object "java/lang/Object")))) ∈ lw_all := lw_g (lw_at lw_m3 205 rfl) rfl
theorem q787 : (Jvm.Cond.methodLink "java/util/ArrayList" (73 : Nat) ({ cls := "jdk/internal/util/ArraysSupport", name := "newLength", desc := "(III)I" } : Jvm.MethodName)) ∈ lw_all := lw_g (lw_at lw_m3 206 rfl) rfl
theorem q788 : (Jvm.Cond.methodLink "java/util/ArrayList" (66 : Nat) ({ cls := "java/util/Arrays", name := "copyOf", desc := "([Ljava/lang/Object;I)[Ljava/lang/Object;" } : Jvm.MethodName)) ∈ lw_all := lw_g (lw_at lw_m3 207 rfl) rfl
theorem q820 : (Jvm.Cond.selects "java/util/ArrayList" ({ cls := "java/lang/Object", name := "getClass", desc := "()Ljava/lang/Class;" } : Jvm.MethodName) ({ cls := "java/lang/Object", name := "getClass", desc := "()Ljava/lang/Class;" } : Jvm.MethodName)) ∈ lw_all := lw_g (lw_at lw_m3 239 rfl) rfl
theorem q832 : (Jvm.Cond.methodLink "java/util/ArrayList" (79 : Nat) ({ cls := "java/lang/Math", name := "max", desc := "(II)I" } : Jvm.MethodName)) ∈ lw_all := lw_g (lw_at lw_m4 11 rfl) rfl
theorem q833 : (Jvm.Cond.classLink "java/util/ArrayList" (7 : Nat) "java/lang/Object") ∈ lw_all := lw_g (lw_at lw_m4 12 rfl) rfl
theorem q862 : (Jvm.Cond.instanceMethod ({ cls := "java/util/ArrayList", name := "size", desc := "()I" } : Jvm.MethodName)) ∈ lw_all := lw_g (lw_at lw_m4 41 rfl) rfl
theorem q863 : (Jvm.Cond.selects "java/util/ArrayList" ({ cls := "java/util/ArrayList", name := "size", desc := "()I" } : Jvm.MethodName) ({ cls := "java/util/ArrayList", name := "size", desc := "()I" } : Jvm.MethodName)) ∈ lw_all := lw_g (lw_at lw_m4 42 rfl) rfl
theorem q864 : (Jvm.Cond.code ({ cls := "java/util/ArrayList", name := "size", desc := "()I" } : Jvm.MethodName) prog_55_method_8_code (1 : Nat) (Option.some Jvm.ClassFile.FieldType.int)) ∈ lw_all := lw_g (lw_at lw_m4 43 rfl) rfl
theorem q867 : (Jvm.Cond.instanceMethod ({ cls := "java/util/ArrayList", name := "get", desc := "(I)Ljava/lang/Object;" } : Jvm.MethodName)) ∈ lw_all := lw_g (lw_at lw_m4 46 rfl) rfl
theorem q868 : (Jvm.Cond.selects "java/util/ArrayList" ({ cls := "java/util/ArrayList", name := "get", desc := "(I)Ljava/lang/Object;" } : Jvm.MethodName) ({ cls := "java/util/ArrayList", name := "get", desc := "(I)Ljava/lang/Object;" } : Jvm.MethodName)) ∈ lw_all := lw_g (lw_at lw_m4 47 rfl) rfl
theorem q869 : (Jvm.Cond.code ({ cls := "java/util/ArrayList", name := "get", desc := "(I)Ljava/lang/Object;" } : Jvm.MethodName) prog_55_method_20_code (2 : Nat) (Option.some (Jvm.ClassFile.FieldType.object "java/lang/Object"))) ∈ lw_all := lw_g (lw_at lw_m4 48 rfl) rfl
theorem q870 : (Jvm.Cond.methodLink "java/util/ArrayList" (118 : Nat) ({ cls := "java/util/Objects", name := "checkIndex", desc := "(II)I" } : Jvm.MethodName)) ∈ lw_all := lw_g (lw_at lw_m4 49 rfl) rfl
theorem q874 : (Jvm.Cond.methodLink "java/util/ArrayList" (123 : Nat) ({ cls := "java/util/ArrayList", name := "elementData", desc := "(I)Ljava/lang/Object;" } : Jvm.MethodName)) ∈ lw_all := lw_g (lw_at lw_m4 53 rfl) rfl
theorem q875 : (Jvm.Cond.instanceMethod ({ cls := "java/util/ArrayList", name := "elementData", desc := "(I)Ljava/lang/Object;" } : Jvm.MethodName)) ∈ lw_all := lw_g (lw_at lw_m4 54 rfl) rfl
theorem q876 : (Jvm.Cond.selects "java/util/ArrayList" ({ cls := "java/util/ArrayList", name := "elementData", desc := "(I)Ljava/lang/Object;" } : Jvm.MethodName) ({ cls := "java/util/ArrayList", name := "elementData", desc := "(I)Ljava/lang/Object;" } : Jvm.MethodName)) ∈ lw_all := lw_g (lw_at lw_m4 55 rfl) rfl
theorem q877 : (Jvm.Cond.code ({ cls := "java/util/ArrayList", name := "elementData", desc := "(I)Ljava/lang/Object;" } : Jvm.MethodName) prog_55_method_18_code (2 : Nat) (Option.some (Jvm.ClassFile.FieldType.object "java/lang/Object"))) ∈ lw_all := lw_g (lw_at lw_m4 56 rfl) rfl
theorem q1742 : (Jvm.Cond.selects "java/util/ArrayList" ({ cls := "java/util/AbstractCollection", name := "size", desc := "()I" } : Jvm.MethodName) ({ cls := "java/util/ArrayList", name := "size", desc := "()I" } : Jvm.MethodName)) ∈ lw_all := lw_g (lw_at lw_m7 201 rfl) rfl
theorem q2565 : (Jvm.Cond.castable "java/util/ArrayList" "java/lang/Object") ∈ lw_tbl := lw_at lw_m11 64 rfl

/-! java/util/Objects -/
set_option maxRecDepth 100000
def RJ18 : String := "java/util/Objects"
abbrev cJ18_checkIndex : ByteArray := prog_63_method_17_code
def yJ18_checkIndex : MethodName := ⟨RJ18, "checkIndex", "(II)I"⟩
def dkwJ18_checkIndex_0 : List UInt8 := [26, 27, 1, 184, 0, 105, 172]
abbrev dktJ18_checkIndex_0 : List UInt8 := dkwJ18_checkIndex_0 ++ []
theorem dksJ18_checkIndex_0 : cJ18_checkIndex.data.toList.drop 0 = dktJ18_checkIndex_0 := by decide +kernel
theorem dJ18_checkIndex_0 : decode cJ18_checkIndex 0 = .ok (.iload_n 0, 1) := dk_26 (dk_at dksJ18_checkIndex_0 0 rfl rfl)
theorem dJ18_checkIndex_1 : decode cJ18_checkIndex 1 = .ok (.iload_n 1, 1) := dk_27 (dk_at dksJ18_checkIndex_0 1 rfl rfl)
theorem dJ18_checkIndex_2 : decode cJ18_checkIndex 2 = .ok (.aconst_null, 1) := dk_1 (dk_at dksJ18_checkIndex_0 2 rfl rfl)
theorem dJ18_checkIndex_3 : decode cJ18_checkIndex 3 = .ok (.invokestatic 105, 3) := dk_184 0 105 (dk_at dksJ18_checkIndex_0 3 rfl rfl)
theorem dJ18_checkIndex_6 : decode cJ18_checkIndex 6 = .ok (.ireturn, 1) := dk_172 (dk_at dksJ18_checkIndex_0 6 rfl rfl)
abbrev cJ18_requireNonNull : ByteArray := prog_63_method_10_code
def yJ18_requireNonNull : MethodName := ⟨RJ18, "requireNonNull", "(Ljava/lang/Object;)Ljava/lang/Object;"⟩
def dkwJ18_requireNonNull_0 : List UInt8 := [42, 199, 0, 11, 187, 0, 84, 89, 183, 0, 86, 191, 42, 176]
abbrev dktJ18_requireNonNull_0 : List UInt8 := dkwJ18_requireNonNull_0 ++ []
theorem dksJ18_requireNonNull_0 : cJ18_requireNonNull.data.toList.drop 0 = dktJ18_requireNonNull_0 := by decide +kernel
theorem dJ18_requireNonNull_0 : decode cJ18_requireNonNull 0 = .ok (.aload_n 0, 1) := dk_42 (dk_at dksJ18_requireNonNull_0 0 rfl rfl)
theorem dJ18_requireNonNull_1 : decode cJ18_requireNonNull 1 = .ok (.ifnonnull 11, 3) := dk_199 0 11 (dk_at dksJ18_requireNonNull_0 1 rfl rfl)
theorem dJ18_requireNonNull_4 : decode cJ18_requireNonNull 4 = .ok (.new 84, 3) := dk_187 0 84 (dk_at dksJ18_requireNonNull_0 4 rfl rfl)
theorem dJ18_requireNonNull_7 : decode cJ18_requireNonNull 7 = .ok (.dup, 1) := dk_89 (dk_at dksJ18_requireNonNull_0 7 rfl rfl)
theorem dJ18_requireNonNull_8 : decode cJ18_requireNonNull 8 = .ok (.invokespecial 86, 3) := dk_183 0 86 (dk_at dksJ18_requireNonNull_0 8 rfl rfl)
theorem dJ18_requireNonNull_11 : decode cJ18_requireNonNull 11 = .ok (.athrow, 1) := dk_191 (dk_at dksJ18_requireNonNull_0 11 rfl rfl)
theorem dJ18_requireNonNull_12 : decode cJ18_requireNonNull 12 = .ok (.aload_n 0, 1) := dk_42 (dk_at dksJ18_requireNonNull_0 12 rfl rfl)
theorem dJ18_requireNonNull_13 : decode cJ18_requireNonNull 13 = .ok (.areturn, 1) := dk_176 (dk_at dksJ18_requireNonNull_0 13 rfl rfl)
theorem q128 : (Jvm.Cond.initialized "java/util/Objects") ∈ lw_all := lw_g (lw_at lw_m1 27 rfl) rfl
theorem q871 : (Jvm.Cond.static ({ cls := "java/util/Objects", name := "checkIndex", desc := "(II)I" } : Jvm.MethodName)) ∈ lw_all := lw_g (lw_at lw_m4 50 rfl) rfl
theorem q872 : (Jvm.Cond.code ({ cls := "java/util/Objects", name := "checkIndex", desc := "(II)I" } : Jvm.MethodName) prog_63_method_17_code (2 : Nat) (Option.some Jvm.ClassFile.FieldType.int)) ∈ lw_all := lw_g (lw_at lw_m4 51 rfl) rfl
theorem q873 : (Jvm.Cond.methodLink "java/util/Objects" (105 : Nat) ({ cls := "jdk/internal/util/Preconditions", name := "checkIndex", desc := "(IILjava/util/function/BiFunction;)I" } : Jvm.MethodName)) ∈ lw_all := lw_g (lw_at lw_m4 52 rfl) rfl
theorem q1032 : (Jvm.Cond.static ({ cls := "java/util/Objects", name := "requireNonNull", desc := "(Ljava/lang/Object;)Ljava/lang/Object;" } : Jvm.MethodName)) ∈ lw_all := lw_g (lw_at lw_m4 211 rfl) rfl
theorem q1033 : (Jvm.Cond.code ({ cls := "java/util/Objects", name := "requireNonNull", desc := "(Ljava/lang/Object;)Ljava/lang/Object;" } : Jvm.MethodName) prog_63_method_10_code (1 : Nat) (Option.some (Jvm.ClassFile.FieldType.object "java/lang/Object"))) ∈ lw_all := lw_g (lw_at lw_m4 212 rfl) rfl
theorem q1034 : (Jvm.Cond.classLink "java/util/Objects" (84 : Nat) "java/lang/NullPointerException") ∈ lw_all := lw_g (lw_at lw_m4 213 rfl) rfl
theorem q1035 : (Jvm.Cond.methodLink "java/util/Objects" (86 : Nat) ({ cls := "java/lang/NullPointerException", name := "<init>", desc := "()V" } : Jvm.MethodName)) ∈ lw_all := lw_g (lw_at lw_m4 214 rfl) rfl

/-! ToldPowers$Near -/
set_option maxRecDepth 100000
abbrev cX15_compareTo : ByteArray := prog_15_method_3_code
def yX15_compareTo : MethodName := ⟨RX15, "compareTo", "(Ljava/lang/Object;)I"⟩
def dkwX15_compareTo_0 : List UInt8 := [42, 43, 192, 0, 8, 182, 0, 22, 172]
abbrev dktX15_compareTo_0 : List UInt8 := dkwX15_compareTo_0 ++ []
theorem dksX15_compareTo_0 : cX15_compareTo.data.toList.drop 0 = dktX15_compareTo_0 := by decide +kernel
theorem dX15_compareTo_0 : decode cX15_compareTo 0 = .ok (.aload_n 0, 1) := dk_42 (dk_at dksX15_compareTo_0 0 rfl rfl)
theorem dX15_compareTo_1 : decode cX15_compareTo 1 = .ok (.aload_n 1, 1) := dk_43 (dk_at dksX15_compareTo_0 1 rfl rfl)
theorem dX15_compareTo_2 : decode cX15_compareTo 2 = .ok (.checkcast 8, 3) := dk_192 0 8 (dk_at dksX15_compareTo_0 2 rfl rfl)
theorem dX15_compareTo_5 : decode cX15_compareTo 5 = .ok (.invokevirtual 22, 3) := dk_182 0 22 (dk_at dksX15_compareTo_0 5 rfl rfl)
theorem dX15_compareTo_8 : decode cX15_compareTo 8 = .ok (.ireturn, 1) := dk_172 (dk_at dksX15_compareTo_0 8 rfl rfl)
abbrev cX15_compareTo_2 : ByteArray := prog_15_method_2_code
def yX15_compareTo_2 : MethodName := ⟨RX15, "compareTo", "(LToldPowers$Near;)I"⟩
def dkwX15_compareTo_2_1 : List UInt8 := [180, 0, 7, 43, 180, 0, 7, 100, 172]
abbrev dktX15_compareTo_2_1 : List UInt8 := dkwX15_compareTo_2_1 ++ []
def dkwX15_compareTo_2_0 : List UInt8 := [42, 180, 0, 19, 43, 180, 0, 19, 159, 0, 15, 42, 180, 0, 19, 43, 180, 0, 19, 100, 167, 0, 12, 42]
abbrev dktX15_compareTo_2_0 : List UInt8 := dkwX15_compareTo_2_0 ++ dktX15_compareTo_2_1
theorem dksX15_compareTo_2_0 : cX15_compareTo_2.data.toList.drop 0 = dktX15_compareTo_2_0 := by decide +kernel
theorem dksX15_compareTo_2_1 : cX15_compareTo_2.data.toList.drop 24 = dktX15_compareTo_2_1 := dk_seg dksX15_compareTo_2_0 24 rfl rfl
theorem dX15_compareTo_2_0 : decode cX15_compareTo_2 0 = .ok (.aload_n 0, 1) := dk_42 (dk_at dksX15_compareTo_2_0 0 rfl rfl)
theorem dX15_compareTo_2_1 : decode cX15_compareTo_2 1 = .ok (.getfield 19, 3) := dk_180 0 19 (dk_at dksX15_compareTo_2_0 1 rfl rfl)
theorem dX15_compareTo_2_4 : decode cX15_compareTo_2 4 = .ok (.aload_n 1, 1) := dk_43 (dk_at dksX15_compareTo_2_0 4 rfl rfl)
theorem dX15_compareTo_2_5 : decode cX15_compareTo_2 5 = .ok (.getfield 19, 3) := dk_180 0 19 (dk_at dksX15_compareTo_2_0 5 rfl rfl)
theorem dX15_compareTo_2_8 : decode cX15_compareTo_2 8 = .ok (.if_icmp .eq 15, 3) := dk_159 0 15 (dk_at dksX15_compareTo_2_0 8 rfl rfl)
theorem dX15_compareTo_2_11 : decode cX15_compareTo_2 11 = .ok (.aload_n 0, 1) := dk_42 (dk_at dksX15_compareTo_2_0 11 rfl rfl)
theorem dX15_compareTo_2_12 : decode cX15_compareTo_2 12 = .ok (.getfield 19, 3) := dk_180 0 19 (dk_at dksX15_compareTo_2_0 12 rfl rfl)
theorem dX15_compareTo_2_15 : decode cX15_compareTo_2 15 = .ok (.aload_n 1, 1) := dk_43 (dk_at dksX15_compareTo_2_0 15 rfl rfl)
theorem dX15_compareTo_2_16 : decode cX15_compareTo_2 16 = .ok (.getfield 19, 3) := dk_180 0 19 (dk_at dksX15_compareTo_2_0 16 rfl rfl)
theorem dX15_compareTo_2_19 : decode cX15_compareTo_2 19 = .ok (.isub, 1) := dk_100 (dk_at dksX15_compareTo_2_0 19 rfl rfl)
theorem dX15_compareTo_2_20 : decode cX15_compareTo_2 20 = .ok (.goto 12, 3) := dk_167 0 12 (dk_at dksX15_compareTo_2_0 20 rfl rfl)
theorem dX15_compareTo_2_23 : decode cX15_compareTo_2 23 = .ok (.aload_n 0, 1) := dk_42 (dk_at dksX15_compareTo_2_0 23 rfl rfl)
theorem dX15_compareTo_2_24 : decode cX15_compareTo_2 24 = .ok (.getfield 7, 3) := dk_180 0 7 (dk_at dksX15_compareTo_2_1 0 rfl rfl)
theorem dX15_compareTo_2_27 : decode cX15_compareTo_2 27 = .ok (.aload_n 1, 1) := dk_43 (dk_at dksX15_compareTo_2_1 3 rfl rfl)
theorem dX15_compareTo_2_28 : decode cX15_compareTo_2 28 = .ok (.getfield 7, 3) := dk_180 0 7 (dk_at dksX15_compareTo_2_1 4 rfl rfl)
theorem dX15_compareTo_2_31 : decode cX15_compareTo_2 31 = .ok (.isub, 1) := dk_100 (dk_at dksX15_compareTo_2_1 7 rfl rfl)
theorem dX15_compareTo_2_32 : decode cX15_compareTo_2 32 = .ok (.ireturn, 1) := dk_172 (dk_at dksX15_compareTo_2_1 8 rfl rfl)
abbrev cX15_init : ByteArray := prog_15_method_1_code
def yX15_init : MethodName := ⟨RX15, "<init>", "(II)V"⟩
def dkwX15_init_0 : List UInt8 := [42, 183, 0, 1, 42, 27, 181, 0, 7, 42, 27, 28, 100, 184, 0, 13, 181, 0, 19, 177]
abbrev dktX15_init_0 : List UInt8 := dkwX15_init_0 ++ []
theorem dksX15_init_0 : cX15_init.data.toList.drop 0 = dktX15_init_0 := by decide +kernel
theorem dX15_init_0 : decode cX15_init 0 = .ok (.aload_n 0, 1) := dk_42 (dk_at dksX15_init_0 0 rfl rfl)
theorem dX15_init_1 : decode cX15_init 1 = .ok (.invokespecial 1, 3) := dk_183 0 1 (dk_at dksX15_init_0 1 rfl rfl)
theorem dX15_init_4 : decode cX15_init 4 = .ok (.aload_n 0, 1) := dk_42 (dk_at dksX15_init_0 4 rfl rfl)
theorem dX15_init_5 : decode cX15_init 5 = .ok (.iload_n 1, 1) := dk_27 (dk_at dksX15_init_0 5 rfl rfl)
theorem dX15_init_6 : decode cX15_init 6 = .ok (.putfield 7, 3) := dk_181 0 7 (dk_at dksX15_init_0 6 rfl rfl)
theorem dX15_init_9 : decode cX15_init 9 = .ok (.aload_n 0, 1) := dk_42 (dk_at dksX15_init_0 9 rfl rfl)
theorem dX15_init_10 : decode cX15_init 10 = .ok (.iload_n 1, 1) := dk_27 (dk_at dksX15_init_0 10 rfl rfl)
theorem dX15_init_11 : decode cX15_init 11 = .ok (.iload_n 2, 1) := dk_28 (dk_at dksX15_init_0 11 rfl rfl)
theorem dX15_init_12 : decode cX15_init 12 = .ok (.isub, 1) := dk_100 (dk_at dksX15_init_0 12 rfl rfl)
theorem dX15_init_13 : decode cX15_init 13 = .ok (.invokestatic 13, 3) := dk_184 0 13 (dk_at dksX15_init_0 13 rfl rfl)
theorem dX15_init_16 : decode cX15_init 16 = .ok (.putfield 19, 3) := dk_181 0 19 (dk_at dksX15_init_0 16 rfl rfl)
theorem dX15_init_19 : decode cX15_init 19 = .ok (.return_, 1) := dk_177 (dk_at dksX15_init_0 19 rfl rfl)
theorem q150 : (Jvm.Cond.initialized "ToldPowers$Near") ∈ lw_all := lw_g (lw_at lw_m1 49 rfl) rfl
theorem q807 : (Jvm.Cond.selects "ToldPowers$Near" ({ cls := "java/lang/Object", name := "getClass", desc := "()Ljava/lang/Class;" } : Jvm.MethodName) ({ cls := "java/lang/Object", name := "getClass", desc := "()Ljava/lang/Class;" } : Jvm.MethodName)) ∈ lw_all := lw_g (lw_at lw_m3 226 rfl) rfl
theorem q1079 : (Jvm.Cond.castable "ToldPowers$Near" "java/lang/Comparable") ∈ lw_tbl := lw_at lw_m5 18 rfl
theorem q1080 : (Jvm.Cond.selects "ToldPowers$Near" ({ cls := "java/lang/Comparable", name := "compareTo", desc := "(Ljava/lang/Object;)I" } : Jvm.MethodName) ({ cls := "ToldPowers$Near", name := "compareTo", desc := "(Ljava/lang/Object;)I" } : Jvm.MethodName)) ∈ lw_all := lw_g (lw_at lw_m5 19 rfl) rfl
theorem q1081 : (Jvm.Cond.unhidden "ToldPowers$Near" "compareTo" "(Ljava/lang/Object;)I") ∈ lw_tbl := lw_at lw_m5 20 rfl
theorem q1082 : (Jvm.Cond.instanceMethod ({ cls := "ToldPowers$Near", name := "compareTo", desc := "(Ljava/lang/Object;)I" } : Jvm.MethodName)) ∈ lw_all := lw_g (lw_at lw_m5 21 rfl) rfl
theorem q1083 : (Jvm.Cond.publicMethod ({ cls := "ToldPowers$Near", name := "compareTo", desc := "(Ljava/lang/Object;)I" } : Jvm.MethodName)) ∈ lw_tbl := lw_at lw_m5 22 rfl
theorem q1084 : (Jvm.Cond.code ({ cls := "ToldPowers$Near", name := "compareTo", desc := "(Ljava/lang/Object;)I" } : Jvm.MethodName) prog_15_method_3_code (2 : Nat) (Option.some Jvm.ClassFile.FieldType.int)) ∈ lw_all := lw_g (lw_at lw_m5 23 rfl) rfl
theorem q1085 : (Jvm.Cond.classLink "ToldPowers$Near" (8 : Nat) "ToldPowers$Near") ∈ lw_all := lw_g (lw_at lw_m5 24 rfl) rfl
theorem q1086 : (Jvm.Cond.methodLink "ToldPowers$Near" (22 : Nat) ({ cls := "ToldPowers$Near", name := "compareTo", desc := "(LToldPowers$Near;)I" } : Jvm.MethodName)) ∈ lw_all := lw_g (lw_at lw_m5 25 rfl) rfl
theorem q1087 : (Jvm.Cond.instanceMethod ({ cls := "ToldPowers$Near", name := "compareTo", desc := "(LToldPowers$Near;)I" } : Jvm.MethodName)) ∈ lw_all := lw_g (lw_at lw_m5 26 rfl) rfl
theorem q1088 : (Jvm.Cond.selects "ToldPowers$Near" ({ cls := "ToldPowers$Near", name := "compareTo", desc := "(LToldPowers$Near;)I" } : Jvm.MethodName) ({ cls := "ToldPowers$Near", name := "compareTo", desc := "(LToldPowers$Near;)I" } : Jvm.MethodName)) ∈ lw_all := lw_g (lw_at lw_m5 27 rfl) rfl
theorem q1089 : (Jvm.Cond.code ({ cls := "ToldPowers$Near", name := "compareTo", desc := "(LToldPowers$Near;)I" } : Jvm.MethodName) prog_15_method_2_code (2 : Nat) (Option.some Jvm.ClassFile.FieldType.int)) ∈ lw_all := lw_g (lw_at lw_m5 28 rfl) rfl
theorem q1686 : (Jvm.Cond.instantiable "ToldPowers$Near" (2 : Nat)) ∈ lw_all := lw_g (lw_at lw_m7 145 rfl) rfl
theorem q1688 : (Jvm.Cond.instanceMethod ({ cls := "ToldPowers$Near", name := "<init>", desc := "(II)V" } : Jvm.MethodName)) ∈ lw_all := lw_g (lw_at lw_m7 147 rfl) rfl
theorem q1689 : (Jvm.Cond.code ({ cls := "ToldPowers$Near", name := "<init>", desc := "(II)V" } : Jvm.MethodName) prog_15_method_1_code (3 : Nat) (Option.none : Option Jvm.ClassFile.FieldType)) ∈ lw_all := lw_g (lw_at lw_m7 148 rfl) rfl
theorem q1690 : (Jvm.Cond.methodLink "ToldPowers$Near" (1 : Nat) ({ cls := "java/lang/Object", name := "<init>", desc := "()V" } : Jvm.MethodName)) ∈ lw_all := lw_g (lw_at lw_m7 149 rfl) rfl
theorem q1691 : (Jvm.Cond.methodLink "ToldPowers$Near" (13 : Nat) ({ cls := "java/lang/Math", name := "abs", desc := "(I)I" } : Jvm.MethodName)) ∈ lw_all := lw_g (lw_at lw_m7 150 rfl) rfl
theorem q1694 : (Jvm.Cond.fieldLink "ToldPowers$Near" (7 : Nat) "ToldPowers$Near" "sum" "I") ∈ lw_all := lw_g (lw_at lw_m7 153 rfl) rfl
theorem q1696 : (Jvm.Cond.fieldLink "ToldPowers$Near" (19 : Nat) "ToldPowers$Near" "off" "I") ∈ lw_all := lw_g (lw_at lw_m7 155 rfl) rfl
theorem q1697 : (Jvm.Cond.laysFinal "ToldPowers$Near" "ToldPowers$Near" "sum" "I") ∈ lw_all := lw_g (lw_at lw_m7 156 rfl) rfl
theorem q1698 : (Jvm.Cond.soleField "ToldPowers$Near" "sum") ∈ lw_all := lw_g (lw_at lw_m7 157 rfl) rfl
theorem q1699 : (Jvm.Cond.laysFinal "ToldPowers$Near" "ToldPowers$Near" "off" "I") ∈ lw_all := lw_g (lw_at lw_m7 158 rfl) rfl
theorem q1700 : (Jvm.Cond.soleField "ToldPowers$Near" "off") ∈ lw_all := lw_g (lw_at lw_m7 159 rfl) rfl
theorem q1701 : (Jvm.Cond.superclass "ToldPowers$Near" "java/lang/Object") ∈ lw_all := lw_g (lw_at lw_m7 160 rfl) rfl
theorem q2582 : (Jvm.Cond.castable "ToldPowers$Near" "java/lang/Object") ∈ lw_tbl := lw_at lw_m11 81 rfl

/-! ToldPowers$Ranked -/
set_option maxRecDepth 100000
abbrev cX16_compareTo : ByteArray := prog_17_method_3_code
def yX16_compareTo : MethodName := ⟨RX16, "compareTo", "(Ljava/lang/Object;)I"⟩
def dkwX16_compareTo_0 : List UInt8 := [42, 43, 192, 0, 8, 182, 0, 17, 172]
abbrev dktX16_compareTo_0 : List UInt8 := dkwX16_compareTo_0 ++ []
theorem dksX16_compareTo_0 : cX16_compareTo.data.toList.drop 0 = dktX16_compareTo_0 := by decide +kernel
theorem dX16_compareTo_0 : decode cX16_compareTo 0 = .ok (.aload_n 0, 1) := dk_42 (dk_at dksX16_compareTo_0 0 rfl rfl)
theorem dX16_compareTo_1 : decode cX16_compareTo 1 = .ok (.aload_n 1, 1) := dk_43 (dk_at dksX16_compareTo_0 1 rfl rfl)
theorem dX16_compareTo_2 : decode cX16_compareTo 2 = .ok (.checkcast 8, 3) := dk_192 0 8 (dk_at dksX16_compareTo_0 2 rfl rfl)
theorem dX16_compareTo_5 : decode cX16_compareTo 5 = .ok (.invokevirtual 17, 3) := dk_182 0 17 (dk_at dksX16_compareTo_0 5 rfl rfl)
theorem dX16_compareTo_8 : decode cX16_compareTo 8 = .ok (.ireturn, 1) := dk_172 (dk_at dksX16_compareTo_0 8 rfl rfl)
abbrev cX16_compareTo_2 : ByteArray := prog_17_method_2_code
def yX16_compareTo_2 : MethodName := ⟨RX16, "compareTo", "(LToldPowers$Ranked;)I"⟩
def dkwX16_compareTo_2_1 : List UInt8 := [2, 167, 0, 16, 4, 167, 0, 12, 42, 180, 0, 7, 43, 180, 0, 7, 100, 172]
abbrev dktX16_compareTo_2_1 : List UInt8 := dkwX16_compareTo_2_1 ++ []
def dkwX16_compareTo_2_0 : List UInt8 := [42, 180, 0, 13, 43, 180, 0, 13, 148, 153, 0, 23, 42, 180, 0, 13, 43, 180, 0, 13, 148, 158, 0, 7]
abbrev dktX16_compareTo_2_0 : List UInt8 := dkwX16_compareTo_2_0 ++ dktX16_compareTo_2_1
theorem dksX16_compareTo_2_0 : cX16_compareTo_2.data.toList.drop 0 = dktX16_compareTo_2_0 := by decide +kernel
theorem dksX16_compareTo_2_1 : cX16_compareTo_2.data.toList.drop 24 = dktX16_compareTo_2_1 := dk_seg dksX16_compareTo_2_0 24 rfl rfl
theorem dX16_compareTo_2_0 : decode cX16_compareTo_2 0 = .ok (.aload_n 0, 1) := dk_42 (dk_at dksX16_compareTo_2_0 0 rfl rfl)
theorem dX16_compareTo_2_1 : decode cX16_compareTo_2 1 = .ok (.getfield 13, 3) := dk_180 0 13 (dk_at dksX16_compareTo_2_0 1 rfl rfl)
theorem dX16_compareTo_2_4 : decode cX16_compareTo_2 4 = .ok (.aload_n 1, 1) := dk_43 (dk_at dksX16_compareTo_2_0 4 rfl rfl)
theorem dX16_compareTo_2_5 : decode cX16_compareTo_2 5 = .ok (.getfield 13, 3) := dk_180 0 13 (dk_at dksX16_compareTo_2_0 5 rfl rfl)
theorem dX16_compareTo_2_8 : decode cX16_compareTo_2 8 = .ok (.lcmp, 1) := dk_148 (dk_at dksX16_compareTo_2_0 8 rfl rfl)
theorem dX16_compareTo_2_9 : decode cX16_compareTo_2 9 = .ok (.ifCond .eq 23, 3) := dk_153 0 23 (dk_at dksX16_compareTo_2_0 9 rfl rfl)
theorem dX16_compareTo_2_12 : decode cX16_compareTo_2 12 = .ok (.aload_n 0, 1) := dk_42 (dk_at dksX16_compareTo_2_0 12 rfl rfl)
theorem dX16_compareTo_2_13 : decode cX16_compareTo_2 13 = .ok (.getfield 13, 3) := dk_180 0 13 (dk_at dksX16_compareTo_2_0 13 rfl rfl)
theorem dX16_compareTo_2_16 : decode cX16_compareTo_2 16 = .ok (.aload_n 1, 1) := dk_43 (dk_at dksX16_compareTo_2_0 16 rfl rfl)
theorem dX16_compareTo_2_17 : decode cX16_compareTo_2 17 = .ok (.getfield 13, 3) := dk_180 0 13 (dk_at dksX16_compareTo_2_0 17 rfl rfl)
theorem dX16_compareTo_2_20 : decode cX16_compareTo_2 20 = .ok (.lcmp, 1) := dk_148 (dk_at dksX16_compareTo_2_0 20 rfl rfl)
theorem dX16_compareTo_2_21 : decode cX16_compareTo_2 21 = .ok (.ifCond .le 7, 3) := dk_158 0 7 (dk_at dksX16_compareTo_2_0 21 rfl rfl)
theorem dX16_compareTo_2_24 : decode cX16_compareTo_2 24 = .ok (.iconst (-1), 1) := dk_2 (dk_at dksX16_compareTo_2_1 0 rfl rfl)
theorem dX16_compareTo_2_25 : decode cX16_compareTo_2 25 = .ok (.goto 16, 3) := dk_167 0 16 (dk_at dksX16_compareTo_2_1 1 rfl rfl)
theorem dX16_compareTo_2_28 : decode cX16_compareTo_2 28 = .ok (.iconst 1, 1) := dk_4 (dk_at dksX16_compareTo_2_1 4 rfl rfl)
theorem dX16_compareTo_2_29 : decode cX16_compareTo_2 29 = .ok (.goto 12, 3) := dk_167 0 12 (dk_at dksX16_compareTo_2_1 5 rfl rfl)
theorem dX16_compareTo_2_32 : decode cX16_compareTo_2 32 = .ok (.aload_n 0, 1) := dk_42 (dk_at dksX16_compareTo_2_1 8 rfl rfl)
theorem dX16_compareTo_2_33 : decode cX16_compareTo_2 33 = .ok (.getfield 7, 3) := dk_180 0 7 (dk_at dksX16_compareTo_2_1 9 rfl rfl)
theorem dX16_compareTo_2_36 : decode cX16_compareTo_2 36 = .ok (.aload_n 1, 1) := dk_43 (dk_at dksX16_compareTo_2_1 12 rfl rfl)
theorem dX16_compareTo_2_37 : decode cX16_compareTo_2 37 = .ok (.getfield 7, 3) := dk_180 0 7 (dk_at dksX16_compareTo_2_1 13 rfl rfl)
theorem dX16_compareTo_2_40 : decode cX16_compareTo_2 40 = .ok (.isub, 1) := dk_100 (dk_at dksX16_compareTo_2_1 16 rfl rfl)
theorem dX16_compareTo_2_41 : decode cX16_compareTo_2 41 = .ok (.ireturn, 1) := dk_172 (dk_at dksX16_compareTo_2_1 17 rfl rfl)
abbrev cX16_init : ByteArray := prog_17_method_1_code
def yX16_init : MethodName := ⟨RX16, "<init>", "(IJ)V"⟩
def dkwX16_init_0 : List UInt8 := [42, 183, 0, 1, 42, 27, 181, 0, 7, 42, 32, 181, 0, 13, 177]
abbrev dktX16_init_0 : List UInt8 := dkwX16_init_0 ++ []
theorem dksX16_init_0 : cX16_init.data.toList.drop 0 = dktX16_init_0 := by decide +kernel
theorem dX16_init_0 : decode cX16_init 0 = .ok (.aload_n 0, 1) := dk_42 (dk_at dksX16_init_0 0 rfl rfl)
theorem dX16_init_1 : decode cX16_init 1 = .ok (.invokespecial 1, 3) := dk_183 0 1 (dk_at dksX16_init_0 1 rfl rfl)
theorem dX16_init_4 : decode cX16_init 4 = .ok (.aload_n 0, 1) := dk_42 (dk_at dksX16_init_0 4 rfl rfl)
theorem dX16_init_5 : decode cX16_init 5 = .ok (.iload_n 1, 1) := dk_27 (dk_at dksX16_init_0 5 rfl rfl)
theorem dX16_init_6 : decode cX16_init 6 = .ok (.putfield 7, 3) := dk_181 0 7 (dk_at dksX16_init_0 6 rfl rfl)
theorem dX16_init_9 : decode cX16_init 9 = .ok (.aload_n 0, 1) := dk_42 (dk_at dksX16_init_0 9 rfl rfl)
theorem dX16_init_10 : decode cX16_init 10 = .ok (.lload_n 2, 1) := dk_32 (dk_at dksX16_init_0 10 rfl rfl)
theorem dX16_init_11 : decode cX16_init 11 = .ok (.putfield 13, 3) := dk_181 0 13 (dk_at dksX16_init_0 11 rfl rfl)
theorem dX16_init_14 : decode cX16_init 14 = .ok (.return_, 1) := dk_177 (dk_at dksX16_init_0 14 rfl rfl)
theorem q151 : (Jvm.Cond.initialized "ToldPowers$Ranked") ∈ lw_all := lw_g (lw_at lw_m1 50 rfl) rfl
theorem q809 : (Jvm.Cond.selects "ToldPowers$Ranked" ({ cls := "java/lang/Object", name := "getClass", desc := "()Ljava/lang/Class;" } : Jvm.MethodName) ({ cls := "java/lang/Object", name := "getClass", desc := "()Ljava/lang/Class;" } : Jvm.MethodName)) ∈ lw_all := lw_g (lw_at lw_m3 228 rfl) rfl
theorem q1090 : (Jvm.Cond.castable "ToldPowers$Ranked" "java/lang/Comparable") ∈ lw_tbl := lw_at lw_m5 29 rfl
theorem q1091 : (Jvm.Cond.selects "ToldPowers$Ranked" ({ cls := "java/lang/Comparable", name := "compareTo", desc := "(Ljava/lang/Object;)I" } : Jvm.MethodName) ({ cls := "ToldPowers$Ranked", name := "compareTo", desc := "(Ljava/lang/Object;)I" } : Jvm.MethodName)) ∈ lw_all := lw_g (lw_at lw_m5 30 rfl) rfl
theorem q1092 : (Jvm.Cond.unhidden "ToldPowers$Ranked" "compareTo" "(Ljava/lang/Object;)I") ∈ lw_tbl := lw_at lw_m5 31 rfl
theorem q1093 : (Jvm.Cond.instanceMethod ({ cls := "ToldPowers$Ranked", name := "compareTo", desc := "(Ljava/lang/Object;)I" } : Jvm.MethodName)) ∈ lw_all := lw_g (lw_at lw_m5 32 rfl) rfl
theorem q1094 : (Jvm.Cond.publicMethod ({ cls := "ToldPowers$Ranked", name := "compareTo", desc := "(Ljava/lang/Object;)I" } : Jvm.MethodName)) ∈ lw_tbl := lw_at lw_m5 33 rfl
theorem q1095 : (Jvm.Cond.code ({ cls := "ToldPowers$Ranked", name := "compareTo", desc := "(Ljava/lang/Object;)I" } : Jvm.MethodName) prog_17_method_3_code (2 : Nat) (Option.some Jvm.ClassFile.FieldType.int)) ∈ lw_all := lw_g (lw_at lw_m5 34 rfl) rfl
theorem q1096 : (Jvm.Cond.classLink "ToldPowers$Ranked" (8 : Nat) "ToldPowers$Ranked") ∈ lw_all := lw_g (lw_at lw_m5 35 rfl) rfl
theorem q1097 : (Jvm.Cond.methodLink "ToldPowers$Ranked" (17 : Nat) ({ cls := "ToldPowers$Ranked", name := "compareTo", desc := "(LToldPowers$Ranked;)I" } : Jvm.MethodName)) ∈ lw_all := lw_g (lw_at lw_m5 36 rfl) rfl
theorem q1098 : (Jvm.Cond.instanceMethod ({ cls := "ToldPowers$Ranked", name := "compareTo", desc := "(LToldPowers$Ranked;)I" } : Jvm.MethodName)) ∈ lw_all := lw_g (lw_at lw_m5 37 rfl) rfl
theorem q1099 : (Jvm.Cond.selects "ToldPowers$Ranked" ({ cls := "ToldPowers$Ranked", name := "compareTo", desc := "(LToldPowers$Ranked;)I" } : Jvm.MethodName) ({ cls := "ToldPowers$Ranked", name := "compareTo", desc := "(LToldPowers$Ranked;)I" } : Jvm.MethodName)) ∈ lw_all := lw_g (lw_at lw_m5 38 rfl) rfl
theorem q1100 : (Jvm.Cond.code ({ cls := "ToldPowers$Ranked", name := "compareTo", desc := "(LToldPowers$Ranked;)I" } : Jvm.MethodName) prog_17_method_2_code (2 : Nat) (Option.some Jvm.ClassFile.FieldType.int)) ∈ lw_all := lw_g (lw_at lw_m5 39 rfl) rfl
theorem q1877 : (Jvm.Cond.instantiable "ToldPowers$Ranked" (2 : Nat)) ∈ lw_all := lw_g (lw_at lw_m8 96 rfl) rfl
theorem q1879 : (Jvm.Cond.instanceMethod ({ cls := "ToldPowers$Ranked", name := "<init>", desc := "(IJ)V" } : Jvm.MethodName)) ∈ lw_all := lw_g (lw_at lw_m8 98 rfl) rfl
theorem q1880 : (Jvm.Cond.code ({ cls := "ToldPowers$Ranked", name := "<init>", desc := "(IJ)V" } : Jvm.MethodName) prog_17_method_1_code (4 : Nat) (Option.none : Option Jvm.ClassFile.FieldType)) ∈ lw_all := lw_g (lw_at lw_m8 99 rfl) rfl
theorem q1881 : (Jvm.Cond.methodLink "ToldPowers$Ranked" (1 : Nat) ({ cls := "java/lang/Object", name := "<init>", desc := "()V" } : Jvm.MethodName)) ∈ lw_all := lw_g (lw_at lw_m8 100 rfl) rfl
theorem q1882 : (Jvm.Cond.fieldLink "ToldPowers$Ranked" (7 : Nat) "ToldPowers$Ranked" "n" "I") ∈ lw_all := lw_g (lw_at lw_m8 101 rfl) rfl
theorem q1884 : (Jvm.Cond.fieldLink "ToldPowers$Ranked" (13 : Nat) "ToldPowers$Ranked" "ways" "J") ∈ lw_all := lw_g (lw_at lw_m8 103 rfl) rfl
theorem q1885 : (Jvm.Cond.laysFinal "ToldPowers$Ranked" "ToldPowers$Ranked" "n" "I") ∈ lw_all := lw_g (lw_at lw_m8 104 rfl) rfl
theorem q1886 : (Jvm.Cond.soleField "ToldPowers$Ranked" "n") ∈ lw_all := lw_g (lw_at lw_m8 105 rfl) rfl
theorem q1887 : (Jvm.Cond.laysFinal "ToldPowers$Ranked" "ToldPowers$Ranked" "ways" "J") ∈ lw_all := lw_g (lw_at lw_m8 106 rfl) rfl
theorem q1888 : (Jvm.Cond.soleField "ToldPowers$Ranked" "ways") ∈ lw_all := lw_g (lw_at lw_m8 107 rfl) rfl
theorem q1889 : (Jvm.Cond.superclass "ToldPowers$Ranked" "java/lang/Object") ∈ lw_all := lw_g (lw_at lw_m8 108 rfl) rfl
theorem q2583 : (Jvm.Cond.castable "ToldPowers$Ranked" "java/lang/Object") ∈ lw_tbl := lw_at lw_m11 82 rfl

/-! ToldPowers$Term -/
set_option maxRecDepth 100000
abbrev cX4_init : ByteArray := prog_21_method_1_code
def yX4_init : MethodName := ⟨RX4, "<init>", "(ILToldPowers$Kind;II)V"⟩
def dkwX4_init_1 : List UInt8 := [181, 0, 20, 177]
abbrev dktX4_init_1 : List UInt8 := dkwX4_init_1 ++ []
def dkwX4_init_0 : List UInt8 := [42, 183, 0, 1, 42, 27, 181, 0, 7, 42, 44, 181, 0, 13, 42, 29, 181, 0, 17, 42, 21, 4]
abbrev dktX4_init_0 : List UInt8 := dkwX4_init_0 ++ dktX4_init_1
theorem dksX4_init_0 : cX4_init.data.toList.drop 0 = dktX4_init_0 := by decide +kernel
theorem dksX4_init_1 : cX4_init.data.toList.drop 22 = dktX4_init_1 := dk_seg dksX4_init_0 22 rfl rfl
theorem dX4_init_0 : decode cX4_init 0 = .ok (.aload_n 0, 1) := dk_42 (dk_at dksX4_init_0 0 rfl rfl)
theorem dX4_init_1 : decode cX4_init 1 = .ok (.invokespecial 1, 3) := dk_183 0 1 (dk_at dksX4_init_0 1 rfl rfl)
theorem dX4_init_4 : decode cX4_init 4 = .ok (.aload_n 0, 1) := dk_42 (dk_at dksX4_init_0 4 rfl rfl)
theorem dX4_init_5 : decode cX4_init 5 = .ok (.iload_n 1, 1) := dk_27 (dk_at dksX4_init_0 5 rfl rfl)
theorem dX4_init_6 : decode cX4_init 6 = .ok (.putfield 7, 3) := dk_181 0 7 (dk_at dksX4_init_0 6 rfl rfl)
theorem dX4_init_9 : decode cX4_init 9 = .ok (.aload_n 0, 1) := dk_42 (dk_at dksX4_init_0 9 rfl rfl)
theorem dX4_init_10 : decode cX4_init 10 = .ok (.aload_n 2, 1) := dk_44 (dk_at dksX4_init_0 10 rfl rfl)
theorem dX4_init_11 : decode cX4_init 11 = .ok (.putfield 13, 3) := dk_181 0 13 (dk_at dksX4_init_0 11 rfl rfl)
theorem dX4_init_14 : decode cX4_init 14 = .ok (.aload_n 0, 1) := dk_42 (dk_at dksX4_init_0 14 rfl rfl)
theorem dX4_init_15 : decode cX4_init 15 = .ok (.iload_n 3, 1) := dk_29 (dk_at dksX4_init_0 15 rfl rfl)
theorem dX4_init_16 : decode cX4_init 16 = .ok (.putfield 17, 3) := dk_181 0 17 (dk_at dksX4_init_0 16 rfl rfl)
theorem dX4_init_19 : decode cX4_init 19 = .ok (.aload_n 0, 1) := dk_42 (dk_at dksX4_init_0 19 rfl rfl)
theorem dX4_init_20 : decode cX4_init 20 = .ok (.iload 4, 2) := dk_21 4 (dk_at dksX4_init_0 20 rfl rfl)
theorem dX4_init_22 : decode cX4_init 22 = .ok (.putfield 20, 3) := dk_181 0 20 (dk_at dksX4_init_1 0 rfl rfl)
theorem dX4_init_25 : decode cX4_init 25 = .ok (.return_, 1) := dk_177 (dk_at dksX4_init_1 3 rfl rfl)
abbrev cX4_value : ByteArray := prog_21_method_2_code
def yX4_value : MethodName := ⟨RX4, "value", "(J)J"⟩
def dkwX4_value_0 : List UInt8 := [42, 180, 0, 7, 133, 42, 180, 0, 13, 31, 182, 0, 23, 105, 173]
abbrev dktX4_value_0 : List UInt8 := dkwX4_value_0 ++ []
theorem dksX4_value_0 : cX4_value.data.toList.drop 0 = dktX4_value_0 := by decide +kernel
theorem dX4_value_0 : decode cX4_value 0 = .ok (.aload_n 0, 1) := dk_42 (dk_at dksX4_value_0 0 rfl rfl)
theorem dX4_value_1 : decode cX4_value 1 = .ok (.getfield 7, 3) := dk_180 0 7 (dk_at dksX4_value_0 1 rfl rfl)
theorem dX4_value_4 : decode cX4_value 4 = .ok (.i2l, 1) := dk_133 (dk_at dksX4_value_0 4 rfl rfl)
theorem dX4_value_5 : decode cX4_value 5 = .ok (.aload_n 0, 1) := dk_42 (dk_at dksX4_value_0 5 rfl rfl)
theorem dX4_value_6 : decode cX4_value 6 = .ok (.getfield 13, 3) := dk_180 0 13 (dk_at dksX4_value_0 6 rfl rfl)
theorem dX4_value_9 : decode cX4_value 9 = .ok (.lload_n 1, 1) := dk_31 (dk_at dksX4_value_0 9 rfl rfl)
theorem dX4_value_10 : decode cX4_value 10 = .ok (.invokevirtual 23, 3) := dk_182 0 23 (dk_at dksX4_value_0 10 rfl rfl)
theorem dX4_value_13 : decode cX4_value 13 = .ok (.lmul, 1) := dk_105 (dk_at dksX4_value_0 13 rfl rfl)
theorem dX4_value_14 : decode cX4_value 14 = .ok (.lreturn, 1) := dk_173 (dk_at dksX4_value_0 14 rfl rfl)
abbrev cX4_isLike : ByteArray := prog_21_method_3_code
def yX4_isLike : MethodName := ⟨RX4, "isLike", "(LToldPowers$Term;)Z"⟩
def dkwX4_isLike_2 : List UInt8 := [167, 0, 4, 3, 172]
abbrev dktX4_isLike_2 : List UInt8 := dkwX4_isLike_2 ++ []
def dkwX4_isLike_1 : List UInt8 := [180, 0, 17, 43, 180, 0, 17, 160, 0, 18, 42, 180, 0, 20, 43, 180, 0, 20, 160, 0, 7, 4]
abbrev dktX4_isLike_1 : List UInt8 := dkwX4_isLike_1 ++ dktX4_isLike_2
def dkwX4_isLike_0 : List UInt8 := [42, 180, 0, 7, 43, 180, 0, 7, 160, 0, 40, 42, 180, 0, 13, 43, 180, 0, 13, 166, 0, 29, 42]
abbrev dktX4_isLike_0 : List UInt8 := dkwX4_isLike_0 ++ dktX4_isLike_1
theorem dksX4_isLike_0 : cX4_isLike.data.toList.drop 0 = dktX4_isLike_0 := by decide +kernel
theorem dksX4_isLike_1 : cX4_isLike.data.toList.drop 23 = dktX4_isLike_1 := dk_seg dksX4_isLike_0 23 rfl rfl
theorem dksX4_isLike_2 : cX4_isLike.data.toList.drop 45 = dktX4_isLike_2 := dk_seg dksX4_isLike_1 22 rfl rfl
theorem dX4_isLike_0 : decode cX4_isLike 0 = .ok (.aload_n 0, 1) := dk_42 (dk_at dksX4_isLike_0 0 rfl rfl)
theorem dX4_isLike_1 : decode cX4_isLike 1 = .ok (.getfield 7, 3) := dk_180 0 7 (dk_at dksX4_isLike_0 1 rfl rfl)
theorem dX4_isLike_4 : decode cX4_isLike 4 = .ok (.aload_n 1, 1) := dk_43 (dk_at dksX4_isLike_0 4 rfl rfl)
theorem dX4_isLike_5 : decode cX4_isLike 5 = .ok (.getfield 7, 3) := dk_180 0 7 (dk_at dksX4_isLike_0 5 rfl rfl)
theorem dX4_isLike_8 : decode cX4_isLike 8 = .ok (.if_icmp .ne 40, 3) := dk_160 0 40 (dk_at dksX4_isLike_0 8 rfl rfl)
theorem dX4_isLike_11 : decode cX4_isLike 11 = .ok (.aload_n 0, 1) := dk_42 (dk_at dksX4_isLike_0 11 rfl rfl)
theorem dX4_isLike_12 : decode cX4_isLike 12 = .ok (.getfield 13, 3) := dk_180 0 13 (dk_at dksX4_isLike_0 12 rfl rfl)
theorem dX4_isLike_15 : decode cX4_isLike 15 = .ok (.aload_n 1, 1) := dk_43 (dk_at dksX4_isLike_0 15 rfl rfl)
theorem dX4_isLike_16 : decode cX4_isLike 16 = .ok (.getfield 13, 3) := dk_180 0 13 (dk_at dksX4_isLike_0 16 rfl rfl)
theorem dX4_isLike_19 : decode cX4_isLike 19 = .ok (.if_acmp .ne 29, 3) := dk_166 0 29 (dk_at dksX4_isLike_0 19 rfl rfl)
theorem dX4_isLike_22 : decode cX4_isLike 22 = .ok (.aload_n 0, 1) := dk_42 (dk_at dksX4_isLike_0 22 rfl rfl)
theorem dX4_isLike_23 : decode cX4_isLike 23 = .ok (.getfield 17, 3) := dk_180 0 17 (dk_at dksX4_isLike_1 0 rfl rfl)
theorem dX4_isLike_26 : decode cX4_isLike 26 = .ok (.aload_n 1, 1) := dk_43 (dk_at dksX4_isLike_1 3 rfl rfl)
theorem dX4_isLike_27 : decode cX4_isLike 27 = .ok (.getfield 17, 3) := dk_180 0 17 (dk_at dksX4_isLike_1 4 rfl rfl)
theorem dX4_isLike_30 : decode cX4_isLike 30 = .ok (.if_icmp .ne 18, 3) := dk_160 0 18 (dk_at dksX4_isLike_1 7 rfl rfl)
theorem dX4_isLike_33 : decode cX4_isLike 33 = .ok (.aload_n 0, 1) := dk_42 (dk_at dksX4_isLike_1 10 rfl rfl)
theorem dX4_isLike_34 : decode cX4_isLike 34 = .ok (.getfield 20, 3) := dk_180 0 20 (dk_at dksX4_isLike_1 11 rfl rfl)
theorem dX4_isLike_37 : decode cX4_isLike 37 = .ok (.aload_n 1, 1) := dk_43 (dk_at dksX4_isLike_1 14 rfl rfl)
theorem dX4_isLike_38 : decode cX4_isLike 38 = .ok (.getfield 20, 3) := dk_180 0 20 (dk_at dksX4_isLike_1 15 rfl rfl)
theorem dX4_isLike_41 : decode cX4_isLike 41 = .ok (.if_icmp .ne 7, 3) := dk_160 0 7 (dk_at dksX4_isLike_1 18 rfl rfl)
theorem dX4_isLike_44 : decode cX4_isLike 44 = .ok (.iconst 1, 1) := dk_4 (dk_at dksX4_isLike_1 21 rfl rfl)
theorem dX4_isLike_45 : decode cX4_isLike 45 = .ok (.goto 4, 3) := dk_167 0 4 (dk_at dksX4_isLike_2 0 rfl rfl)
theorem dX4_isLike_48 : decode cX4_isLike 48 = .ok (.iconst 0, 1) := dk_3 (dk_at dksX4_isLike_2 3 rfl rfl)
theorem dX4_isLike_49 : decode cX4_isLike 49 = .ok (.ireturn, 1) := dk_172 (dk_at dksX4_isLike_2 4 rfl rfl)
abbrev cX4_rounds : ByteArray := prog_21_method_4_code
def yX4_rounds : MethodName := ⟨RX4, "rounds", "(I)I"⟩
def dkwX4_rounds_0 : List UInt8 := [42, 180, 0, 13, 178, 0, 29, 166, 0, 9, 5, 27, 104, 167, 0, 4, 27, 172]
abbrev dktX4_rounds_0 : List UInt8 := dkwX4_rounds_0 ++ []
theorem dksX4_rounds_0 : cX4_rounds.data.toList.drop 0 = dktX4_rounds_0 := by decide +kernel
theorem dX4_rounds_0 : decode cX4_rounds 0 = .ok (.aload_n 0, 1) := dk_42 (dk_at dksX4_rounds_0 0 rfl rfl)
theorem dX4_rounds_1 : decode cX4_rounds 1 = .ok (.getfield 13, 3) := dk_180 0 13 (dk_at dksX4_rounds_0 1 rfl rfl)
theorem dX4_rounds_4 : decode cX4_rounds 4 = .ok (.getstatic 29, 3) := dk_178 0 29 (dk_at dksX4_rounds_0 4 rfl rfl)
theorem dX4_rounds_7 : decode cX4_rounds 7 = .ok (.if_acmp .ne 9, 3) := dk_166 0 9 (dk_at dksX4_rounds_0 7 rfl rfl)
theorem dX4_rounds_10 : decode cX4_rounds 10 = .ok (.iconst 2, 1) := dk_5 (dk_at dksX4_rounds_0 10 rfl rfl)
theorem dX4_rounds_11 : decode cX4_rounds 11 = .ok (.iload_n 1, 1) := dk_27 (dk_at dksX4_rounds_0 11 rfl rfl)
theorem dX4_rounds_12 : decode cX4_rounds 12 = .ok (.imul, 1) := dk_104 (dk_at dksX4_rounds_0 12 rfl rfl)
theorem dX4_rounds_13 : decode cX4_rounds 13 = .ok (.goto 4, 3) := dk_167 0 4 (dk_at dksX4_rounds_0 13 rfl rfl)
theorem dX4_rounds_16 : decode cX4_rounds 16 = .ok (.iload_n 1, 1) := dk_27 (dk_at dksX4_rounds_0 16 rfl rfl)
theorem dX4_rounds_17 : decode cX4_rounds 17 = .ok (.ireturn, 1) := dk_172 (dk_at dksX4_rounds_0 17 rfl rfl)
theorem q126 : (Jvm.Cond.initialized "ToldPowers$Term") ∈ lw_all := lw_g (lw_at lw_m1 25 rfl) rfl
theorem q704 : (Jvm.Cond.instantiable "ToldPowers$Term" (4 : Nat)) ∈ lw_all := lw_g (lw_at lw_m3 123 rfl) rfl
theorem q706 : (Jvm.Cond.instanceMethod ({ cls := "ToldPowers$Term", name := "<init>", desc := "(ILToldPowers$Kind;II)V" } : Jvm.MethodName)) ∈ lw_all := lw_g (lw_at lw_m3 125 rfl) rfl
theorem q707 : (Jvm.Cond.code ({ cls := "ToldPowers$Term", name := "<init>", desc := "(ILToldPowers$Kind;II)V" } : Jvm.MethodName) prog_21_method_1_code (5 : Nat) (Option.none : Option Jvm.ClassFile.FieldType)) ∈ lw_all := lw_g (lw_at lw_m3 126 rfl) rfl
theorem q708 : (Jvm.Cond.methodLink "ToldPowers$Term" (1 : Nat) ({ cls := "java/lang/Object", name := "<init>", desc := "()V" } : Jvm.MethodName)) ∈ lw_all := lw_g (lw_at lw_m3 127 rfl) rfl
theorem q709 : (Jvm.Cond.fieldLink "ToldPowers$Term" (7 : Nat) "ToldPowers$Term" "factor" "I") ∈ lw_all := lw_g (lw_at lw_m3 128 rfl) rfl
theorem q711 : (Jvm.Cond.fieldLink "ToldPowers$Term" (17 : Nat) "ToldPowers$Term" "low" "I") ∈ lw_all := lw_g (lw_at lw_m3 130 rfl) rfl
theorem q714 : (Jvm.Cond.fieldLink "ToldPowers$Term" (20 : Nat) "ToldPowers$Term" "high" "I") ∈ lw_all := lw_g (lw_at lw_m3 133 rfl) rfl
theorem q717 : (Jvm.Cond.fieldLink "ToldPowers$Term" (13 : Nat) "ToldPowers$Term" "kind" "LToldPowers$Kind;") ∈ lw_all := lw_g (lw_at lw_m3 136 rfl) rfl
theorem q719 : (Jvm.Cond.laysFinal "ToldPowers$Term" "ToldPowers$Term" "factor" "I") ∈ lw_all := lw_g (lw_at lw_m3 138 rfl) rfl
theorem q720 : (Jvm.Cond.soleField "ToldPowers$Term" "factor") ∈ lw_all := lw_g (lw_at lw_m3 139 rfl) rfl
theorem q721 : (Jvm.Cond.laysFinal "ToldPowers$Term" "ToldPowers$Term" "low" "I") ∈ lw_all := lw_g (lw_at lw_m3 140 rfl) rfl
theorem q722 : (Jvm.Cond.soleField "ToldPowers$Term" "low") ∈ lw_all := lw_g (lw_at lw_m3 141 rfl) rfl
theorem q723 : (Jvm.Cond.laysFinal "ToldPowers$Term" "ToldPowers$Term" "high" "I") ∈ lw_all := lw_g (lw_at lw_m3 142 rfl) rfl
theorem q724 : (Jvm.Cond.soleField "ToldPowers$Term" "high") ∈ lw_all := lw_g (lw_at lw_m3 143 rfl) rfl
theorem q725 : (Jvm.Cond.laysFinal "ToldPowers$Term" "ToldPowers$Term" "kind" "LToldPowers$Kind;") ∈ lw_all := lw_g (lw_at lw_m3 144 rfl) rfl
theorem q726 : (Jvm.Cond.soleField "ToldPowers$Term" "kind") ∈ lw_all := lw_g (lw_at lw_m3 145 rfl) rfl
theorem q727 : (Jvm.Cond.superclass "ToldPowers$Term" "java/lang/Object") ∈ lw_all := lw_g (lw_at lw_m3 146 rfl) rfl
theorem q738 : (Jvm.Cond.instanceMethod ({ cls := "ToldPowers$Term", name := "value", desc := "(J)J" } : Jvm.MethodName)) ∈ lw_all := lw_g (lw_at lw_m3 157 rfl) rfl
theorem q739 : (Jvm.Cond.selects "ToldPowers$Term" ({ cls := "ToldPowers$Term", name := "value", desc := "(J)J" } : Jvm.MethodName) ({ cls := "ToldPowers$Term", name := "value", desc := "(J)J" } : Jvm.MethodName)) ∈ lw_all := lw_g (lw_at lw_m3 158 rfl) rfl
theorem q740 : (Jvm.Cond.code ({ cls := "ToldPowers$Term", name := "value", desc := "(J)J" } : Jvm.MethodName) prog_21_method_2_code (3 : Nat) (Option.some Jvm.ClassFile.FieldType.long)) ∈ lw_all := lw_g (lw_at lw_m3 159 rfl) rfl
theorem q741 : (Jvm.Cond.methodLink "ToldPowers$Term" (23 : Nat) ({ cls := "ToldPowers$Kind", name := "of", desc := "(J)J" } : Jvm.MethodName)) ∈ lw_all := lw_g (lw_at lw_m3 160 rfl) rfl
theorem q812 : (Jvm.Cond.selects "ToldPowers$Term" ({ cls := "java/lang/Object", name := "getClass", desc := "()Ljava/lang/Class;" } : Jvm.MethodName) ({ cls := "java/lang/Object", name := "getClass", desc := "()Ljava/lang/Class;" } : Jvm.MethodName)) ∈ lw_all := lw_g (lw_at lw_m3 231 rfl) rfl
theorem q1571 : (Jvm.Cond.instanceMethod ({ cls := "ToldPowers$Term", name := "isLike", desc := "(LToldPowers$Term;)Z" } : Jvm.MethodName)) ∈ lw_all := lw_g (lw_at lw_m7 30 rfl) rfl
theorem q1572 : (Jvm.Cond.selects "ToldPowers$Term" ({ cls := "ToldPowers$Term", name := "isLike", desc := "(LToldPowers$Term;)Z" } : Jvm.MethodName) ({ cls := "ToldPowers$Term", name := "isLike", desc := "(LToldPowers$Term;)Z" } : Jvm.MethodName)) ∈ lw_all := lw_g (lw_at lw_m7 31 rfl) rfl
theorem q1573 : (Jvm.Cond.code ({ cls := "ToldPowers$Term", name := "isLike", desc := "(LToldPowers$Term;)Z" } : Jvm.MethodName) prog_21_method_3_code (2 : Nat) (Option.some Jvm.ClassFile.FieldType.boolean)) ∈ lw_all := lw_g (lw_at lw_m7 32 rfl) rfl
theorem q1608 : (Jvm.Cond.instanceMethod ({ cls := "ToldPowers$Term", name := "rounds", desc := "(I)I" } : Jvm.MethodName)) ∈ lw_all := lw_g (lw_at lw_m7 67 rfl) rfl
theorem q1609 : (Jvm.Cond.selects "ToldPowers$Term" ({ cls := "ToldPowers$Term", name := "rounds", desc := "(I)I" } : Jvm.MethodName) ({ cls := "ToldPowers$Term", name := "rounds", desc := "(I)I" } : Jvm.MethodName)) ∈ lw_all := lw_g (lw_at lw_m7 68 rfl) rfl
theorem q1610 : (Jvm.Cond.code ({ cls := "ToldPowers$Term", name := "rounds", desc := "(I)I" } : Jvm.MethodName) prog_21_method_4_code (2 : Nat) (Option.some Jvm.ClassFile.FieldType.int)) ∈ lw_all := lw_g (lw_at lw_m7 69 rfl) rfl
theorem q1611 : (Jvm.Cond.fieldLink "ToldPowers$Term" (29 : Nat) "ToldPowers$Kind" "THREE" "LToldPowers$Kind;") ∈ lw_all := lw_g (lw_at lw_m7 70 rfl) rfl
theorem q2554 : (Jvm.Cond.castable "ToldPowers$Term" "java/lang/Object") ∈ lw_tbl := lw_at lw_m11 53 rfl
