set_option maxRecDepth 100000
/-! java/util/AbstractCollection -/
set_option maxRecDepth 100000
abbrev cJ0_init : ByteArray := prog_46_method_1_code
def yJ0_init : MethodName := ⟨RJ0, "<init>", "()V"⟩
theorem dJ0_init_0 : decode cJ0_init 0 = .ok (.aload_n 0, 1) := by decide +kernel
theorem dJ0_init_1 : decode cJ0_init 1 = .ok (.invokespecial 1, 3) := by decide +kernel
theorem dJ0_init_4 : decode cJ0_init 4 = .ok (.return_, 1) := by decide +kernel
theorem q111 : (Jvm.Cond.initialized "java/util/AbstractCollection") ∈ lw_all := lw_g (lw_at lw_m1 3 rfl) rfl
theorem q176 : (Jvm.Cond.instanceMethod ({ cls := "java/util/AbstractCollection", name := "<init>", desc := "()V" } : Jvm.MethodName)) ∈ lw_all := lw_g (lw_at lw_m1 68 rfl) rfl
theorem q177 : (Jvm.Cond.code ({ cls := "java/util/AbstractCollection", name := "<init>", desc := "()V" } : Jvm.MethodName) prog_46_method_1_code (1 : Nat) (Option.none : Option Jvm.ClassFile.FieldType)) ∈ lw_all := lw_g (lw_at lw_m1 69 rfl) rfl
theorem q178 : (Jvm.Cond.methodLink "java/util/AbstractCollection" (1 : Nat) ({ cls := "java/lang/Object", name := "<init>", desc := "()V" } : Jvm.MethodName)) ∈ lw_all := lw_g (lw_at lw_m1 70 rfl) rfl

/-! java/util/AbstractList -/
set_option maxRecDepth 100000
abbrev cJ1_init : ByteArray := prog_47_method_1_code
def yJ1_init : MethodName := ⟨RJ1, "<init>", "()V"⟩
def dkwJ1_init_0 : List UInt8 := [42, 183, 0, 1, 42, 3, 181, 0, 7, 177]
abbrev dktJ1_init_0 : List UInt8 := dkwJ1_init_0 ++ []
theorem dksJ1_init_0 : cJ1_init.data.toList.drop 0 = dktJ1_init_0 := by decide +kernel
theorem dJ1_init_0 : decode cJ1_init 0 = .ok (.aload_n 0, 1) := dk_42 (dk_at dksJ1_init_0 0 rfl rfl)
theorem dJ1_init_1 : decode cJ1_init 1 = .ok (.invokespecial 1, 3) := dk_183 0 1 (dk_at dksJ1_init_0 1 rfl rfl)
theorem dJ1_init_4 : decode cJ1_init 4 = .ok (.aload_n 0, 1) := dk_42 (dk_at dksJ1_init_0 4 rfl rfl)
theorem dJ1_init_5 : decode cJ1_init 5 = .ok (.iconst 0, 1) := dk_3 (dk_at dksJ1_init_0 5 rfl rfl)
theorem dJ1_init_6 : decode cJ1_init 6 = .ok (.putfield 7, 3) := dk_181 0 7 (dk_at dksJ1_init_0 6 rfl rfl)
theorem dJ1_init_9 : decode cJ1_init 9 = .ok (.return_, 1) := dk_177 (dk_at dksJ1_init_0 9 rfl rfl)
theorem q112 : (Jvm.Cond.initialized "java/util/AbstractList") ∈ lw_all := lw_g (lw_at lw_m1 4 rfl) rfl
theorem q173 : (Jvm.Cond.instanceMethod ({ cls := "java/util/AbstractList", name := "<init>", desc := "()V" } : Jvm.MethodName)) ∈ lw_all := lw_g (lw_at lw_m1 65 rfl) rfl
theorem q174 : (Jvm.Cond.code ({ cls := "java/util/AbstractList", name := "<init>", desc := "()V" } : Jvm.MethodName) prog_47_method_1_code (1 : Nat) (Option.none : Option Jvm.ClassFile.FieldType)) ∈ lw_all := lw_g (lw_at lw_m1 66 rfl) rfl
theorem q175 : (Jvm.Cond.methodLink "java/util/AbstractList" (1 : Nat) ({ cls := "java/util/AbstractCollection", name := "<init>", desc := "()V" } : Jvm.MethodName)) ∈ lw_all := lw_g (lw_at lw_m1 67 rfl) rfl
theorem q183 : (Jvm.Cond.fieldLink "java/util/AbstractList" (7 : Nat) "java/util/AbstractList" "modCount" "I") ∈ lw_all := lw_g (lw_at lw_m1 75 rfl) rfl
theorem q191 : (Jvm.Cond.soleField "java/util/AbstractList" "modCount") ∈ lw_all := lw_g (lw_at lw_m1 83 rfl) rfl

/-! java/util/ArrayList -/
set_option maxRecDepth 100000
abbrev cJ2_init : ByteArray := prog_48_method_2_code
def yJ2_init : MethodName := ⟨RJ2, "<init>", "()V"⟩
def dkwJ2_init_0 : List UInt8 := [42, 183, 0, 1, 42, 178, 0, 39, 181, 0, 9, 177]
abbrev dktJ2_init_0 : List UInt8 := dkwJ2_init_0 ++ []
theorem dksJ2_init_0 : cJ2_init.data.toList.drop 0 = dktJ2_init_0 := by decide +kernel
theorem dJ2_init_0 : decode cJ2_init 0 = .ok (.aload_n 0, 1) := dk_42 (dk_at dksJ2_init_0 0 rfl rfl)
theorem dJ2_init_1 : decode cJ2_init 1 = .ok (.invokespecial 1, 3) := dk_183 0 1 (dk_at dksJ2_init_0 1 rfl rfl)
theorem dJ2_init_4 : decode cJ2_init 4 = .ok (.aload_n 0, 1) := dk_42 (dk_at dksJ2_init_0 4 rfl rfl)
theorem dJ2_init_5 : decode cJ2_init 5 = .ok (.getstatic 39, 3) := dk_178 0 39 (dk_at dksJ2_init_0 5 rfl rfl)
theorem dJ2_init_8 : decode cJ2_init 8 = .ok (.putfield 9, 3) := dk_181 0 9 (dk_at dksJ2_init_0 8 rfl rfl)
theorem dJ2_init_11 : decode cJ2_init 11 = .ok (.return_, 1) := dk_177 (dk_at dksJ2_init_0 11 rfl rfl)
abbrev cJ2_size : ByteArray := prog_48_method_8_code
def yJ2_size : MethodName := ⟨RJ2, "size", "()I"⟩
theorem dJ2_size_0 : decode cJ2_size 0 = .ok (.aload_n 0, 1) := by decide +kernel
theorem dJ2_size_1 : decode cJ2_size 1 = .ok (.getfield 48, 3) := by decide +kernel
theorem dJ2_size_4 : decode cJ2_size 4 = .ok (.ireturn, 1) := by decide +kernel
abbrev cJ2_get : ByteArray := prog_48_method_20_code
def yJ2_get : MethodName := ⟨RJ2, "get", "(I)Ljava/lang/Object;"⟩
def dkwJ2_get_0 : List UInt8 := [27, 42, 180, 0, 48, 184, 0, 118, 87, 42, 27, 182, 0, 123, 176]
abbrev dktJ2_get_0 : List UInt8 := dkwJ2_get_0 ++ []
theorem dksJ2_get_0 : cJ2_get.data.toList.drop 0 = dktJ2_get_0 := by decide +kernel
theorem dJ2_get_0 : decode cJ2_get 0 = .ok (.iload_n 1, 1) := dk_27 (dk_at dksJ2_get_0 0 rfl rfl)
theorem dJ2_get_1 : decode cJ2_get 1 = .ok (.aload_n 0, 1) := dk_42 (dk_at dksJ2_get_0 1 rfl rfl)
theorem dJ2_get_2 : decode cJ2_get 2 = .ok (.getfield 48, 3) := dk_180 0 48 (dk_at dksJ2_get_0 2 rfl rfl)
theorem dJ2_get_5 : decode cJ2_get 5 = .ok (.invokestatic 118, 3) := dk_184 0 118 (dk_at dksJ2_get_0 5 rfl rfl)
theorem dJ2_get_8 : decode cJ2_get 8 = .ok (.pop, 1) := dk_87 (dk_at dksJ2_get_0 8 rfl rfl)
theorem dJ2_get_9 : decode cJ2_get 9 = .ok (.aload_n 0, 1) := dk_42 (dk_at dksJ2_get_0 9 rfl rfl)
theorem dJ2_get_10 : decode cJ2_get 10 = .ok (.iload_n 1, 1) := dk_27 (dk_at dksJ2_get_0 10 rfl rfl)
theorem dJ2_get_11 : decode cJ2_get 11 = .ok (.invokevirtual 123, 3) := dk_182 0 123 (dk_at dksJ2_get_0 11 rfl rfl)
theorem dJ2_get_14 : decode cJ2_get 14 = .ok (.areturn, 1) := dk_176 (dk_at dksJ2_get_0 14 rfl rfl)
abbrev cJ2_elementData : ByteArray := prog_48_method_18_code
def yJ2_elementData : MethodName := ⟨RJ2, "elementData", "(I)Ljava/lang/Object;"⟩
def dkwJ2_elementData_0 : List UInt8 := [42, 180, 0, 9, 27, 50, 176]
abbrev dktJ2_elementData_0 : List UInt8 := dkwJ2_elementData_0 ++ []
theorem dksJ2_elementData_0 : cJ2_elementData.data.toList.drop 0 = dktJ2_elementData_0 := by decide +kernel
theorem dJ2_elementData_0 : decode cJ2_elementData 0 = .ok (.aload_n 0, 1) := dk_42 (dk_at dksJ2_elementData_0 0 rfl rfl)
theorem dJ2_elementData_1 : decode cJ2_elementData 1 = .ok (.getfield 9, 3) := dk_180 0 9 (dk_at dksJ2_elementData_0 1 rfl rfl)
theorem dJ2_elementData_4 : decode cJ2_elementData 4 = .ok (.iload_n 1, 1) := dk_27 (dk_at dksJ2_elementData_0 4 rfl rfl)
theorem dJ2_elementData_5 : decode cJ2_elementData 5 = .ok (.aaload, 1) := dk_50 (dk_at dksJ2_elementData_0 5 rfl rfl)
theorem dJ2_elementData_6 : decode cJ2_elementData 6 = .ok (.areturn, 1) := dk_176 (dk_at dksJ2_elementData_0 6 rfl rfl)
abbrev cJ2_add : ByteArray := prog_48_method_25_code
def yJ2_add : MethodName := ⟨RJ2, "add", "(Ljava/lang/Object;)Z"⟩
def dkwJ2_add_1 : List UInt8 := [172]
abbrev dktJ2_add_1 : List UInt8 := dkwJ2_add_1 ++ []
def dkwJ2_add_0 : List UInt8 := [42, 89, 180, 0, 63, 4, 96, 181, 0, 63, 42, 43, 42, 180, 0, 9, 42, 180, 0, 48, 182, 0, 131, 4]
abbrev dktJ2_add_0 : List UInt8 := dkwJ2_add_0 ++ dktJ2_add_1
theorem dksJ2_add_0 : cJ2_add.data.toList.drop 0 = dktJ2_add_0 := by decide +kernel
theorem dksJ2_add_1 : cJ2_add.data.toList.drop 24 = dktJ2_add_1 := dk_seg dksJ2_add_0 24 rfl rfl
theorem dJ2_add_0 : decode cJ2_add 0 = .ok (.aload_n 0, 1) := dk_42 (dk_at dksJ2_add_0 0 rfl rfl)
theorem dJ2_add_1 : decode cJ2_add 1 = .ok (.dup, 1) := dk_89 (dk_at dksJ2_add_0 1 rfl rfl)
theorem dJ2_add_2 : decode cJ2_add 2 = .ok (.getfield 63, 3) := dk_180 0 63 (dk_at dksJ2_add_0 2 rfl rfl)
theorem dJ2_add_5 : decode cJ2_add 5 = .ok (.iconst 1, 1) := dk_4 (dk_at dksJ2_add_0 5 rfl rfl)
theorem dJ2_add_6 : decode cJ2_add 6 = .ok (.iadd, 1) := dk_96 (dk_at dksJ2_add_0 6 rfl rfl)
theorem dJ2_add_7 : decode cJ2_add 7 = .ok (.putfield 63, 3) := dk_181 0 63 (dk_at dksJ2_add_0 7 rfl rfl)
theorem dJ2_add_10 : decode cJ2_add 10 = .ok (.aload_n 0, 1) := dk_42 (dk_at dksJ2_add_0 10 rfl rfl)
theorem dJ2_add_11 : decode cJ2_add 11 = .ok (.aload_n 1, 1) := dk_43 (dk_at dksJ2_add_0 11 rfl rfl)
theorem dJ2_add_12 : decode cJ2_add 12 = .ok (.aload_n 0, 1) := dk_42 (dk_at dksJ2_add_0 12 rfl rfl)
theorem dJ2_add_13 : decode cJ2_add 13 = .ok (.getfield 9, 3) := dk_180 0 9 (dk_at dksJ2_add_0 13 rfl rfl)
theorem dJ2_add_16 : decode cJ2_add 16 = .ok (.aload_n 0, 1) := dk_42 (dk_at dksJ2_add_0 16 rfl rfl)
theorem dJ2_add_17 : decode cJ2_add 17 = .ok (.getfield 48, 3) := dk_180 0 48 (dk_at dksJ2_add_0 17 rfl rfl)
theorem dJ2_add_20 : decode cJ2_add 20 = .ok (.invokevirtual 131, 3) := dk_182 0 131 (dk_at dksJ2_add_0 20 rfl rfl)
theorem dJ2_add_23 : decode cJ2_add 23 = .ok (.iconst 1, 1) := dk_4 (dk_at dksJ2_add_0 23 rfl rfl)
theorem dJ2_add_24 : decode cJ2_add 24 = .ok (.ireturn, 1) := dk_172 (dk_at dksJ2_add_1 0 rfl rfl)
abbrev cJ2_add_2 : ByteArray := prog_48_method_24_code
def yJ2_add_2 : MethodName := ⟨RJ2, "add", "(Ljava/lang/Object;[Ljava/lang/Object;I)V"⟩
def dkwJ2_add_2_0 : List UInt8 := [29, 44, 190, 160, 0, 8, 42, 182, 0, 129, 77, 44, 29, 43, 83, 42, 29, 4, 96, 181, 0, 48, 177]
abbrev dktJ2_add_2_0 : List UInt8 := dkwJ2_add_2_0 ++ []
theorem dksJ2_add_2_0 : cJ2_add_2.data.toList.drop 0 = dktJ2_add_2_0 := by decide +kernel
theorem dJ2_add_2_0 : decode cJ2_add_2 0 = .ok (.iload_n 3, 1) := dk_29 (dk_at dksJ2_add_2_0 0 rfl rfl)
theorem dJ2_add_2_1 : decode cJ2_add_2 1 = .ok (.aload_n 2, 1) := dk_44 (dk_at dksJ2_add_2_0 1 rfl rfl)
theorem dJ2_add_2_2 : decode cJ2_add_2 2 = .ok (.arraylength, 1) := dk_190 (dk_at dksJ2_add_2_0 2 rfl rfl)
theorem dJ2_add_2_3 : decode cJ2_add_2 3 = .ok (.if_icmp .ne 8, 3) := dk_160 0 8 (dk_at dksJ2_add_2_0 3 rfl rfl)
theorem dJ2_add_2_6 : decode cJ2_add_2 6 = .ok (.aload_n 0, 1) := dk_42 (dk_at dksJ2_add_2_0 6 rfl rfl)
theorem dJ2_add_2_7 : decode cJ2_add_2 7 = .ok (.invokevirtual 129, 3) := dk_182 0 129 (dk_at dksJ2_add_2_0 7 rfl rfl)
theorem dJ2_add_2_10 : decode cJ2_add_2 10 = .ok (.astore_n 2, 1) := dk_77 (dk_at dksJ2_add_2_0 10 rfl rfl)
theorem dJ2_add_2_11 : decode cJ2_add_2 11 = .ok (.aload_n 2, 1) := dk_44 (dk_at dksJ2_add_2_0 11 rfl rfl)
theorem dJ2_add_2_12 : decode cJ2_add_2 12 = .ok (.iload_n 3, 1) := dk_29 (dk_at dksJ2_add_2_0 12 rfl rfl)
theorem dJ2_add_2_13 : decode cJ2_add_2 13 = .ok (.aload_n 1, 1) := dk_43 (dk_at dksJ2_add_2_0 13 rfl rfl)
theorem dJ2_add_2_14 : decode cJ2_add_2 14 = .ok (.aastore, 1) := dk_83 (dk_at dksJ2_add_2_0 14 rfl rfl)
theorem dJ2_add_2_15 : decode cJ2_add_2 15 = .ok (.aload_n 0, 1) := dk_42 (dk_at dksJ2_add_2_0 15 rfl rfl)
theorem dJ2_add_2_16 : decode cJ2_add_2 16 = .ok (.iload_n 3, 1) := dk_29 (dk_at dksJ2_add_2_0 16 rfl rfl)
theorem dJ2_add_2_17 : decode cJ2_add_2 17 = .ok (.iconst 1, 1) := dk_4 (dk_at dksJ2_add_2_0 17 rfl rfl)
theorem dJ2_add_2_18 : decode cJ2_add_2 18 = .ok (.iadd, 1) := dk_96 (dk_at dksJ2_add_2_0 18 rfl rfl)
theorem dJ2_add_2_19 : decode cJ2_add_2 19 = .ok (.putfield 48, 3) := dk_181 0 48 (dk_at dksJ2_add_2_0 19 rfl rfl)
theorem dJ2_add_2_22 : decode cJ2_add_2 22 = .ok (.return_, 1) := dk_177 (dk_at dksJ2_add_2_0 22 rfl rfl)
abbrev cJ2_grow : ByteArray := prog_48_method_7_code
def yJ2_grow : MethodName := ⟨RJ2, "grow", "()[Ljava/lang/Object;"⟩
def dkwJ2_grow_0 : List UInt8 := [42, 42, 180, 0, 48, 4, 96, 182, 0, 69, 176]
abbrev dktJ2_grow_0 : List UInt8 := dkwJ2_grow_0 ++ []
theorem dksJ2_grow_0 : cJ2_grow.data.toList.drop 0 = dktJ2_grow_0 := by decide +kernel
theorem dJ2_grow_0 : decode cJ2_grow 0 = .ok (.aload_n 0, 1) := dk_42 (dk_at dksJ2_grow_0 0 rfl rfl)
theorem dJ2_grow_1 : decode cJ2_grow 1 = .ok (.aload_n 0, 1) := dk_42 (dk_at dksJ2_grow_0 1 rfl rfl)
theorem dJ2_grow_2 : decode cJ2_grow 2 = .ok (.getfield 48, 3) := dk_180 0 48 (dk_at dksJ2_grow_0 2 rfl rfl)
theorem dJ2_grow_5 : decode cJ2_grow 5 = .ok (.iconst 1, 1) := dk_4 (dk_at dksJ2_grow_0 5 rfl rfl)
theorem dJ2_grow_6 : decode cJ2_grow 6 = .ok (.iadd, 1) := dk_96 (dk_at dksJ2_grow_0 6 rfl rfl)
theorem dJ2_grow_7 : decode cJ2_grow 7 = .ok (.invokevirtual 69, 3) := dk_182 0 69 (dk_at dksJ2_grow_0 7 rfl rfl)
theorem dJ2_grow_10 : decode cJ2_grow 10 = .ok (.areturn, 1) := dk_176 (dk_at dksJ2_grow_0 10 rfl rfl)
abbrev cJ2_grow_2 : ByteArray := prog_48_method_6_code
def yJ2_grow_2 : MethodName := ⟨RJ2, "grow", "(I)[Ljava/lang/Object;"⟩
def dkwJ2_grow_2_2 : List UInt8 := [27, 184, 0, 79, 189, 0, 7, 90, 181, 0, 9, 176]
abbrev dktJ2_grow_2_2 : List UInt8 := dkwJ2_grow_2_2 ++ []
def dkwJ2_grow_2_1 : List UInt8 := [28, 4, 122, 184, 0, 73, 62, 42, 42, 180, 0, 9, 29, 184, 0, 66, 90, 181, 0, 9, 176, 42, 16, 10]
abbrev dktJ2_grow_2_1 : List UInt8 := dkwJ2_grow_2_1 ++ dktJ2_grow_2_2
def dkwJ2_grow_2_0 : List UInt8 := [42, 180, 0, 9, 190, 61, 28, 157, 0, 13, 42, 180, 0, 9, 178, 0, 39, 165, 0, 28, 28, 27, 28, 100]
abbrev dktJ2_grow_2_0 : List UInt8 := dkwJ2_grow_2_0 ++ dktJ2_grow_2_1
theorem dksJ2_grow_2_0 : cJ2_grow_2.data.toList.drop 0 = dktJ2_grow_2_0 := by decide +kernel
theorem dksJ2_grow_2_1 : cJ2_grow_2.data.toList.drop 24 = dktJ2_grow_2_1 := dk_seg dksJ2_grow_2_0 24 rfl rfl
theorem dksJ2_grow_2_2 : cJ2_grow_2.data.toList.drop 48 = dktJ2_grow_2_2 := dk_seg dksJ2_grow_2_1 24 rfl rfl
theorem dJ2_grow_2_0 : decode cJ2_grow_2 0 = .ok (.aload_n 0, 1) := dk_42 (dk_at dksJ2_grow_2_0 0 rfl rfl)
theorem dJ2_grow_2_1 : decode cJ2_grow_2 1 = .ok (.getfield 9, 3) := dk_180 0 9 (dk_at dksJ2_grow_2_0 1 rfl rfl)
theorem dJ2_grow_2_4 : decode cJ2_grow_2 4 = .ok (.arraylength, 1) := dk_190 (dk_at dksJ2_grow_2_0 4 rfl rfl)
theorem dJ2_grow_2_5 : decode cJ2_grow_2 5 = .ok (.istore_n 2, 1) := dk_61 (dk_at dksJ2_grow_2_0 5 rfl rfl)
theorem dJ2_grow_2_6 : decode cJ2_grow_2 6 = .ok (.iload_n 2, 1) := dk_28 (dk_at dksJ2_grow_2_0 6 rfl rfl)
theorem dJ2_grow_2_7 : decode cJ2_grow_2 7 = .ok (.ifCond .gt 13, 3) := dk_157 0 13 (dk_at dksJ2_grow_2_0 7 rfl rfl)
theorem dJ2_grow_2_10 : decode cJ2_grow_2 10 = .ok (.aload_n 0, 1) := dk_42 (dk_at dksJ2_grow_2_0 10 rfl rfl)
theorem dJ2_grow_2_11 : decode cJ2_grow_2 11 = .ok (.getfield 9, 3) := dk_180 0 9 (dk_at dksJ2_grow_2_0 11 rfl rfl)
theorem dJ2_grow_2_14 : decode cJ2_grow_2 14 = .ok (.getstatic 39, 3) := dk_178 0 39 (dk_at dksJ2_grow_2_0 14 rfl rfl)
theorem dJ2_grow_2_17 : decode cJ2_grow_2 17 = .ok (.if_acmp .eq 28, 3) := dk_165 0 28 (dk_at dksJ2_grow_2_0 17 rfl rfl)
theorem dJ2_grow_2_20 : decode cJ2_grow_2 20 = .ok (.iload_n 2, 1) := dk_28 (dk_at dksJ2_grow_2_0 20 rfl rfl)
theorem dJ2_grow_2_21 : decode cJ2_grow_2 21 = .ok (.iload_n 1, 1) := dk_27 (dk_at dksJ2_grow_2_0 21 rfl rfl)
theorem dJ2_grow_2_22 : decode cJ2_grow_2 22 = .ok (.iload_n 2, 1) := dk_28 (dk_at dksJ2_grow_2_0 22 rfl rfl)
theorem dJ2_grow_2_23 : decode cJ2_grow_2 23 = .ok (.isub, 1) := dk_100 (dk_at dksJ2_grow_2_0 23 rfl rfl)
theorem dJ2_grow_2_24 : decode cJ2_grow_2 24 = .ok (.iload_n 2, 1) := dk_28 (dk_at dksJ2_grow_2_1 0 rfl rfl)
theorem dJ2_grow_2_25 : decode cJ2_grow_2 25 = .ok (.iconst 1, 1) := dk_4 (dk_at dksJ2_grow_2_1 1 rfl rfl)
theorem dJ2_grow_2_26 : decode cJ2_grow_2 26 = .ok (.ishr, 1) := dk_122 (dk_at dksJ2_grow_2_1 2 rfl rfl)
theorem dJ2_grow_2_27 : decode cJ2_grow_2 27 = .ok (.invokestatic 73, 3) := dk_184 0 73 (dk_at dksJ2_grow_2_1 3 rfl rfl)
theorem dJ2_grow_2_30 : decode cJ2_grow_2 30 = .ok (.istore_n 3, 1) := dk_62 (dk_at dksJ2_grow_2_1 6 rfl rfl)
theorem dJ2_grow_2_31 : decode cJ2_grow_2 31 = .ok (.aload_n 0, 1) := dk_42 (dk_at dksJ2_grow_2_1 7 rfl rfl)
theorem dJ2_grow_2_32 : decode cJ2_grow_2 32 = .ok (.aload_n 0, 1) := dk_42 (dk_at dksJ2_grow_2_1 8 rfl rfl)
theorem dJ2_grow_2_33 : decode cJ2_grow_2 33 = .ok (.getfield 9, 3) := dk_180 0 9 (dk_at dksJ2_grow_2_1 9 rfl rfl)
theorem dJ2_grow_2_36 : decode cJ2_grow_2 36 = .ok (.iload_n 3, 1) := dk_29 (dk_at dksJ2_grow_2_1 12 rfl rfl)
theorem dJ2_grow_2_37 : decode cJ2_grow_2 37 = .ok (.invokestatic 66, 3) := dk_184 0 66 (dk_at dksJ2_grow_2_1 13 rfl rfl)
theorem dJ2_grow_2_40 : decode cJ2_grow_2 40 = .ok (.dup_x1, 1) := dk_90 (dk_at dksJ2_grow_2_1 16 rfl rfl)
theorem dJ2_grow_2_41 : decode cJ2_grow_2 41 = .ok (.putfield 9, 3) := dk_181 0 9 (dk_at dksJ2_grow_2_1 17 rfl rfl)
theorem dJ2_grow_2_44 : decode cJ2_grow_2 44 = .ok (.areturn, 1) := dk_176 (dk_at dksJ2_grow_2_1 20 rfl rfl)
theorem dJ2_grow_2_45 : decode cJ2_grow_2 45 = .ok (.aload_n 0, 1) := dk_42 (dk_at dksJ2_grow_2_1 21 rfl rfl)
theorem dJ2_grow_2_46 : decode cJ2_grow_2 46 = .ok (.bipush 10, 2) := dk_16 10 (dk_at dksJ2_grow_2_1 22 rfl rfl)
theorem dJ2_grow_2_48 : decode cJ2_grow_2 48 = .ok (.iload_n 1, 1) := dk_27 (dk_at dksJ2_grow_2_2 0 rfl rfl)
theorem dJ2_grow_2_49 : decode cJ2_grow_2 49 = .ok (.invokestatic 79, 3) := dk_184 0 79 (dk_at dksJ2_grow_2_2 1 rfl rfl)
theorem dJ2_grow_2_52 : decode cJ2_grow_2 52 = .ok (.anewarray 7, 3) := dk_189 0 7 (dk_at dksJ2_grow_2_2 4 rfl rfl)
theorem dJ2_grow_2_55 : decode cJ2_grow_2 55 = .ok (.dup_x1, 1) := dk_90 (dk_at dksJ2_grow_2_2 7 rfl rfl)
theorem dJ2_grow_2_56 : decode cJ2_grow_2 56 = .ok (.putfield 9, 3) := dk_181 0 9 (dk_at dksJ2_grow_2_2 8 rfl rfl)
theorem dJ2_grow_2_59 : decode cJ2_grow_2 59 = .ok (.areturn, 1) := dk_176 (dk_at dksJ2_grow_2_2 11 rfl rfl)
abbrev cJ2_isEmpty : ByteArray := prog_48_method_9_code
def yJ2_isEmpty : MethodName := ⟨RJ2, "isEmpty", "()Z"⟩
def dkwJ2_isEmpty_0 : List UInt8 := [42, 180, 0, 48, 154, 0, 7, 4, 167, 0, 4, 3, 172]
abbrev dktJ2_isEmpty_0 : List UInt8 := dkwJ2_isEmpty_0 ++ []
theorem dksJ2_isEmpty_0 : cJ2_isEmpty.data.toList.drop 0 = dktJ2_isEmpty_0 := by decide +kernel
theorem dJ2_isEmpty_0 : decode cJ2_isEmpty 0 = .ok (.aload_n 0, 1) := dk_42 (dk_at dksJ2_isEmpty_0 0 rfl rfl)
theorem dJ2_isEmpty_1 : decode cJ2_isEmpty 1 = .ok (.getfield 48, 3) := dk_180 0 48 (dk_at dksJ2_isEmpty_0 1 rfl rfl)
theorem dJ2_isEmpty_4 : decode cJ2_isEmpty 4 = .ok (.ifCond .ne 7, 3) := dk_154 0 7 (dk_at dksJ2_isEmpty_0 4 rfl rfl)
theorem dJ2_isEmpty_7 : decode cJ2_isEmpty 7 = .ok (.iconst 1, 1) := dk_4 (dk_at dksJ2_isEmpty_0 7 rfl rfl)
theorem dJ2_isEmpty_8 : decode cJ2_isEmpty 8 = .ok (.goto 4, 3) := dk_167 0 4 (dk_at dksJ2_isEmpty_0 8 rfl rfl)
theorem dJ2_isEmpty_11 : decode cJ2_isEmpty 11 = .ok (.iconst 0, 1) := dk_3 (dk_at dksJ2_isEmpty_0 11 rfl rfl)
theorem dJ2_isEmpty_12 : decode cJ2_isEmpty 12 = .ok (.ireturn, 1) := dk_172 (dk_at dksJ2_isEmpty_0 12 rfl rfl)
theorem q113 : (Jvm.Cond.initialized "java/util/ArrayList") ∈ lw_all := lw_g (lw_at lw_m1 5 rfl) rfl
theorem q168 : (Jvm.Cond.instantiable "java/util/ArrayList" (3 : Nat)) ∈ lw_all := lw_g (lw_at lw_m1 60 rfl) rfl
theorem q170 : (Jvm.Cond.instanceMethod ({ cls := "java/util/ArrayList", name := "<init>", desc := "()V" } : Jvm.MethodName)) ∈ lw_all := lw_g (lw_at lw_m1 62 rfl) rfl
theorem q171 : (Jvm.Cond.code ({ cls := "java/util/ArrayList", name := "<init>", desc := "()V" } : Jvm.MethodName) prog_48_method_2_code (1 : Nat) (Option.none : Option Jvm.ClassFile.FieldType)) ∈ lw_all := lw_g (lw_at lw_m1 63 rfl) rfl
theorem q172 : (Jvm.Cond.methodLink "java/util/ArrayList" (1 : Nat) ({ cls := "java/util/AbstractList", name := "<init>", desc := "()V" } : Jvm.MethodName)) ∈ lw_all := lw_g (lw_at lw_m1 64 rfl) rfl
theorem q179 : (Jvm.Cond.fieldLink "java/util/ArrayList" (39 : Nat) "java/util/ArrayList" "DEFAULTCAPACITY_EMPTY_ELEMENTDATA" "[Ljava/lang/Object;") ∈ lw_all := lw_g (lw_at lw_m1 71 rfl) rfl
theorem q180 : (Jvm.Cond.laysStatic "java/util/ArrayList" "DEFAULTCAPACITY_EMPTY_ELEMENTDATA" "[Ljava/lang/Object;") ∈ lw_tbl := lw_at lw_m1 72 rfl
theorem q181 : (Jvm.Cond.fieldLink "java/util/ArrayList" (9 : Nat) "java/util/ArrayList" "elementData" "[Ljava/lang/Object;") ∈ lw_all := lw_g (lw_at lw_m1 73 rfl) rfl
theorem q182 : (Jvm.Cond.fieldLink "java/util/ArrayList" (48 : Nat) "java/util/ArrayList" "size" "I") ∈ lw_all := lw_g (lw_at lw_m1 74 rfl) rfl
theorem q184 : (Jvm.Cond.fieldLink "java/util/ArrayList" (63 : Nat) "java/util/ArrayList" "modCount" "I") ∈ lw_all := lw_g (lw_at lw_m1 76 rfl) rfl
theorem q185 : (Jvm.Cond.sameField "java/util/ArrayList" "java/util/AbstractList" "modCount" "I") ∈ lw_all := lw_g (lw_at lw_m1 77 rfl) rfl
theorem q186 : (Jvm.Cond.lays "java/util/ArrayList" "java/util/ArrayList" "elementData" "[Ljava/lang/Object;") ∈ lw_all := lw_g (lw_at lw_m1 78 rfl) rfl
theorem q187 : (Jvm.Cond.soleField "java/util/ArrayList" "elementData") ∈ lw_all := lw_g (lw_at lw_m1 79 rfl) rfl
theorem q188 : (Jvm.Cond.lays "java/util/ArrayList" "java/util/ArrayList" "size" "I") ∈ lw_all := lw_g (lw_at lw_m1 80 rfl) rfl
theorem q189 : (Jvm.Cond.soleField "java/util/ArrayList" "size") ∈ lw_all := lw_g (lw_at lw_m1 81 rfl) rfl
theorem q190 : (Jvm.Cond.lays "java/util/ArrayList" "java/util/AbstractList" "modCount" "I") ∈ lw_all := lw_g (lw_at lw_m1 82 rfl) rfl
theorem q192 : (Jvm.Cond.superclass "java/util/ArrayList" "java/util/AbstractList") ∈ lw_all := lw_g (lw_at lw_m1 84 rfl) rfl
theorem q347 : (Jvm.Cond.instanceMethod ({ cls := "java/util/ArrayList", name := "size", desc := "()I" } : Jvm.MethodName)) ∈ lw_all := lw_g (lw_at lw_m1 239 rfl) rfl
theorem q348 : (Jvm.Cond.selects "java/util/ArrayList" ({ cls := "java/util/ArrayList", name := "size", desc := "()I" } : Jvm.MethodName) ({ cls := "java/util/ArrayList", name := "size", desc := "()I" } : Jvm.MethodName)) ∈ lw_all := lw_g (lw_at lw_m2 0 rfl) rfl
theorem q349 : (Jvm.Cond.code ({ cls := "java/util/ArrayList", name := "size", desc := "()I" } : Jvm.MethodName) prog_48_method_8_code (1 : Nat) (Option.some Jvm.ClassFile.FieldType.int)) ∈ lw_all := lw_g (lw_at lw_m2 1 rfl) rfl
theorem q354 : (Jvm.Cond.instanceMethod ({ cls := "java/util/ArrayList", name := "get", desc := "(I)Ljava/lang/Object;" } : Jvm.MethodName)) ∈ lw_all := lw_g (lw_at lw_m2 6 rfl) rfl
theorem q355 : (Jvm.Cond.selects "java/util/ArrayList" ({ cls := "java/util/ArrayList", name := "get", desc := "(I)Ljava/lang/Object;" } : Jvm.MethodName) ({ cls := "java/util/ArrayList", name := "get", desc := "(I)Ljava/lang/Object;" } : Jvm.MethodName)) ∈ lw_all := lw_g (lw_at lw_m2 7 rfl) rfl
theorem q356 : (Jvm.Cond.code ({ cls := "java/util/ArrayList", name := "get", desc := "(I)Ljava/lang/Object;" } : Jvm.MethodName) prog_48_method_20_code (2 : Nat) (Option.some (Jvm.ClassFile.FieldType.object "java/lang/Object"))) ∈ lw_all := lw_g (lw_at lw_m2 8 rfl) rfl
theorem q357 : (Jvm.Cond.methodLink "java/util/ArrayList" (118 : Nat) ({ cls := "java/util/Objects", name := "checkIndex", desc := "(II)I" } : Jvm.MethodName)) ∈ lw_all := lw_g (lw_at lw_m2 9 rfl) rfl
theorem q363 : (Jvm.Cond.methodLink "java/util/ArrayList" (123 : Nat) ({ cls := "java/util/ArrayList", name := "elementData", desc := "(I)Ljava/lang/Object;" } : Jvm.MethodName)) ∈ lw_all := lw_g (lw_at lw_m2 15 rfl) rfl
theorem q364 : (Jvm.Cond.instanceMethod ({ cls := "java/util/ArrayList", name := "elementData", desc := "(I)Ljava/lang/Object;" } : Jvm.MethodName)) ∈ lw_all := lw_g (lw_at lw_m2 16 rfl) rfl
theorem q365 : (Jvm.Cond.selects "java/util/ArrayList" ({ cls := "java/util/ArrayList", name := "elementData", desc := "(I)Ljava/lang/Object;" } : Jvm.MethodName) ({ cls := "java/util/ArrayList", name := "elementData", desc := "(I)Ljava/lang/Object;" } : Jvm.MethodName)) ∈ lw_all := lw_g (lw_at lw_m2 17 rfl) rfl
theorem q366 : (Jvm.Cond.code ({ cls := "java/util/ArrayList", name := "elementData", desc := "(I)Ljava/lang/Object;" } : Jvm.MethodName) prog_48_method_18_code (2 : Nat) (Option.some (Jvm.ClassFile.FieldType.object "java/lang/Object"))) ∈ lw_all := lw_g (lw_at lw_m2 18 rfl) rfl
theorem q951 : (Jvm.Cond.instanceMethod ({ cls := "java/util/ArrayList", name := "add", desc := "(Ljava/lang/Object;)Z" } : Jvm.MethodName)) ∈ lw_all := lw_g (lw_at lw_m4 123 rfl) rfl
theorem q952 : (Jvm.Cond.selects "java/util/ArrayList" ({ cls := "java/util/ArrayList", name := "add", desc := "(Ljava/lang/Object;)Z" } : Jvm.MethodName) ({ cls := "java/util/ArrayList", name := "add", desc := "(Ljava/lang/Object;)Z" } : Jvm.MethodName)) ∈ lw_all := lw_g (lw_at lw_m4 124 rfl) rfl
theorem q953 : (Jvm.Cond.code ({ cls := "java/util/ArrayList", name := "add", desc := "(Ljava/lang/Object;)Z" } : Jvm.MethodName) prog_48_method_25_code (2 : Nat) (Option.some Jvm.ClassFile.FieldType.boolean)) ∈ lw_all := lw_g (lw_at lw_m4 125 rfl) rfl
theorem q954 : (Jvm.Cond.methodLink "java/util/ArrayList" (131 : Nat) ({ cls := "java/util/ArrayList", name := "add", desc := "(Ljava/lang/Object;[Ljava/lang/Object;I)V" } : Jvm.MethodName)) ∈ lw_all := lw_g (lw_at lw_m4 126 rfl) rfl
theorem q955 : (Jvm.Cond.privateMethod ({ cls := "java/util/ArrayList", name := "add", desc := "(Ljava/lang/Object;[Ljava/lang/Object;I)V" } : Jvm.MethodName)) ∈ lw_tbl := lw_at lw_m4 127 rfl
theorem q956 : (Jvm.Cond.instanceMethod ({ cls := "java/util/ArrayList", name := "add", desc := "(Ljava/lang/Object;[Ljava/lang/Object;I)V" } : Jvm.MethodName)) ∈ lw_all := lw_g (lw_at lw_m4 128 rfl) rfl
theorem q957 : (Jvm.Cond.code ({ cls := "java/util/ArrayList", name := "add", desc := "(Ljava/lang/Object;[Ljava/lang/Object;I)V" } : Jvm.MethodName) prog_48_method_24_code (4 : Nat) (Option.none : Option Jvm.ClassFile.FieldType)) ∈ lw_all := lw_g (lw_at lw_m4 129 rfl) rfl
theorem q958 : (Jvm.Cond.methodLink "java/util/ArrayList" (129 : Nat) ({ cls := "java/util/ArrayList", name := "grow", desc := "()[Ljava/lang/Object;" } : Jvm.MethodName)) ∈ lw_all := lw_g (lw_at lw_m4 130 rfl) rfl
theorem q959 : (Jvm.Cond.privateMethod ({ cls := "java/util/ArrayList", name := "grow", desc := "()[Ljava/lang/Object;" } : Jvm.MethodName)) ∈ lw_tbl := lw_at lw_m4 131 rfl
theorem q960 : (Jvm.Cond.instanceMethod ({ cls := "java/util/ArrayList", name := "grow", desc := "()[Ljava/lang/Object;" } : Jvm.MethodName)) ∈ lw_all := lw_g (lw_at lw_m4 132 rfl) rfl
theorem q961 : (Jvm.Cond.code ({ cls := "java/util/ArrayList", name := "grow", desc := "()[Ljava/lang/Object;" } : Jvm.MethodName) prog_48_method_7_code (1 : Nat) (Option.some (Jvm.ClassFile.FieldType.array (Jvm.ClassFile.FieldType.object "java/lang/Object")))) ∈ lw_all := lw_g (lw_at lw_m4 133 rfl) rfl
theorem q962 : (Jvm.Cond.methodLink "java/util/ArrayList" (69 : Nat) ({ cls := "java/util/ArrayList", name := "grow", desc := "(I)[Ljava/lang/Object;" } : Jvm.MethodName)) ∈ lw_all := lw_g (lw_at lw_m4 134 rfl) rfl
theorem q963 : (Jvm.Cond.privateMethod ({ cls := "java/util/ArrayList", name := "grow", desc := "(I)[Ljava/lang/Object;" } : Jvm.MethodName)) ∈ lw_tbl := lw_at lw_m4 135 rfl
theorem q964 : (Jvm.Cond.instanceMethod ({ cls := "java/util/ArrayList", name := "grow", desc := "(I)[Ljava/lang/Object;" } : Jvm.MethodName)) ∈ lw_all := lw_g (lw_at lw_m4 136 rfl) rfl
theorem q965 : (Jvm.Cond.code ({ cls := "java/util/ArrayList", name := "grow", desc := "(I)[Ljava/lang/Object;" } : Jvm.MethodName) prog_48_method_6_code (4 : Nat) (Option.some (Jvm.ClassFile.FieldType.array (Jvm.ClassFile.FieldType.object "java/lang/Object")))) ∈ lw_all := lw_g (lw_at lw_m4 137 rfl) rfl
theorem q966 : (Jvm.Cond.methodLink "java/util/ArrayList" (73 : Nat) ({ cls := "jdk/internal/util/ArraysSupport", name := "newLength", desc := "(III)I" } : Jvm.MethodName)) ∈ lw_all := lw_g (lw_at lw_m4 138 rfl) rfl
theorem q967 : (Jvm.Cond.methodLink "java/util/ArrayList" (66 : Nat) ({ cls := "java/util/Arrays", name := "copyOf", desc := "([Ljava/lang/Object;I)[Ljava/lang/Object;" } : Jvm.MethodName)) ∈ lw_all := lw_g (lw_at lw_m4 139 rfl) rfl
theorem q996 : (Jvm.Cond.selects "java/util/ArrayList" ({ cls := "java/lang/Object", name := "getClass", desc := "()Ljava/lang/Class;" } : Jvm.MethodName) ({ cls := "java/lang/Object", name := "getClass", desc := "()Ljava/lang/Class;" } : Jvm.MethodName)) ∈ lw_all := lw_g (lw_at lw_m4 168 rfl) rfl
theorem q1005 : (Jvm.Cond.methodLink "java/util/ArrayList" (79 : Nat) ({ cls := "java/lang/Math", name := "max", desc := "(II)I" } : Jvm.MethodName)) ∈ lw_all := lw_g (lw_at lw_m4 177 rfl) rfl
theorem q1006 : (Jvm.Cond.classLink "java/util/ArrayList" (7 : Nat) "java/lang/Object") ∈ lw_all := lw_g (lw_at lw_m4 178 rfl) rfl
theorem q1533 : (Jvm.Cond.instanceMethod ({ cls := "java/util/ArrayList", name := "isEmpty", desc := "()Z" } : Jvm.MethodName)) ∈ lw_all := lw_g (lw_at lw_m6 225 rfl) rfl
theorem q1534 : (Jvm.Cond.selects "java/util/ArrayList" ({ cls := "java/util/ArrayList", name := "isEmpty", desc := "()Z" } : Jvm.MethodName) ({ cls := "java/util/ArrayList", name := "isEmpty", desc := "()Z" } : Jvm.MethodName)) ∈ lw_all := lw_g (lw_at lw_m6 226 rfl) rfl
theorem q1535 : (Jvm.Cond.code ({ cls := "java/util/ArrayList", name := "isEmpty", desc := "()Z" } : Jvm.MethodName) prog_48_method_9_code (1 : Nat) (Option.some Jvm.ClassFile.FieldType.boolean)) ∈ lw_all := lw_g (lw_at lw_m6 227 rfl) rfl
theorem q2552 : (Jvm.Cond.castable "java/util/ArrayList" "java/lang/Object") ∈ lw_tbl := lw_at lw_m11 44 rfl

/-! java/util/Objects -/
set_option maxRecDepth 100000
abbrev cJ3_checkIndex : ByteArray := prog_53_method_17_code
def yJ3_checkIndex : MethodName := ⟨RJ3, "checkIndex", "(II)I"⟩
def dkwJ3_checkIndex_0 : List UInt8 := [26, 27, 1, 184, 0, 105, 172]
abbrev dktJ3_checkIndex_0 : List UInt8 := dkwJ3_checkIndex_0 ++ []
theorem dksJ3_checkIndex_0 : cJ3_checkIndex.data.toList.drop 0 = dktJ3_checkIndex_0 := by decide +kernel
theorem dJ3_checkIndex_0 : decode cJ3_checkIndex 0 = .ok (.iload_n 0, 1) := dk_26 (dk_at dksJ3_checkIndex_0 0 rfl rfl)
theorem dJ3_checkIndex_1 : decode cJ3_checkIndex 1 = .ok (.iload_n 1, 1) := dk_27 (dk_at dksJ3_checkIndex_0 1 rfl rfl)
theorem dJ3_checkIndex_2 : decode cJ3_checkIndex 2 = .ok (.aconst_null, 1) := dk_1 (dk_at dksJ3_checkIndex_0 2 rfl rfl)
theorem dJ3_checkIndex_3 : decode cJ3_checkIndex 3 = .ok (.invokestatic 105, 3) := dk_184 0 105 (dk_at dksJ3_checkIndex_0 3 rfl rfl)
theorem dJ3_checkIndex_6 : decode cJ3_checkIndex 6 = .ok (.ireturn, 1) := dk_172 (dk_at dksJ3_checkIndex_0 6 rfl rfl)
theorem q115 : (Jvm.Cond.initialized "java/util/Objects") ∈ lw_all := lw_g (lw_at lw_m1 7 rfl) rfl
theorem q358 : (Jvm.Cond.static ({ cls := "java/util/Objects", name := "checkIndex", desc := "(II)I" } : Jvm.MethodName)) ∈ lw_all := lw_g (lw_at lw_m2 10 rfl) rfl
theorem q359 : (Jvm.Cond.code ({ cls := "java/util/Objects", name := "checkIndex", desc := "(II)I" } : Jvm.MethodName) prog_53_method_17_code (2 : Nat) (Option.some Jvm.ClassFile.FieldType.int)) ∈ lw_all := lw_g (lw_at lw_m2 11 rfl) rfl
theorem q360 : (Jvm.Cond.methodLink "java/util/Objects" (105 : Nat) ({ cls := "jdk/internal/util/Preconditions", name := "checkIndex", desc := "(IILjava/util/function/BiFunction;)I" } : Jvm.MethodName)) ∈ lw_all := lw_g (lw_at lw_m2 12 rfl) rfl

/-! jdk/internal/util/Preconditions -/
set_option maxRecDepth 100000
abbrev cJ4_checkIndex : ByteArray := prog_57_method_11_code
def yJ4_checkIndex : MethodName := ⟨RJ4, "checkIndex", "(IILjava/util/function/BiFunction;)I"⟩
def dkwJ4_checkIndex_0 : List UInt8 := [26, 155, 0, 8, 26, 27, 161, 0, 10, 44, 26, 27, 184, 0, 95, 191, 26, 172]
abbrev dktJ4_checkIndex_0 : List UInt8 := dkwJ4_checkIndex_0 ++ []
theorem dksJ4_checkIndex_0 : cJ4_checkIndex.data.toList.drop 0 = dktJ4_checkIndex_0 := by decide +kernel
theorem dJ4_checkIndex_0 : decode cJ4_checkIndex 0 = .ok (.iload_n 0, 1) := dk_26 (dk_at dksJ4_checkIndex_0 0 rfl rfl)
theorem dJ4_checkIndex_1 : decode cJ4_checkIndex 1 = .ok (.ifCond .lt 8, 3) := dk_155 0 8 (dk_at dksJ4_checkIndex_0 1 rfl rfl)
theorem dJ4_checkIndex_4 : decode cJ4_checkIndex 4 = .ok (.iload_n 0, 1) := dk_26 (dk_at dksJ4_checkIndex_0 4 rfl rfl)
theorem dJ4_checkIndex_5 : decode cJ4_checkIndex 5 = .ok (.iload_n 1, 1) := dk_27 (dk_at dksJ4_checkIndex_0 5 rfl rfl)
theorem dJ4_checkIndex_6 : decode cJ4_checkIndex 6 = .ok (.if_icmp .lt 10, 3) := dk_161 0 10 (dk_at dksJ4_checkIndex_0 6 rfl rfl)
theorem dJ4_checkIndex_9 : decode cJ4_checkIndex 9 = .ok (.aload_n 2, 1) := dk_44 (dk_at dksJ4_checkIndex_0 9 rfl rfl)
theorem dJ4_checkIndex_10 : decode cJ4_checkIndex 10 = .ok (.iload_n 0, 1) := dk_26 (dk_at dksJ4_checkIndex_0 10 rfl rfl)
theorem dJ4_checkIndex_11 : decode cJ4_checkIndex 11 = .ok (.iload_n 1, 1) := dk_27 (dk_at dksJ4_checkIndex_0 11 rfl rfl)
theorem dJ4_checkIndex_12 : decode cJ4_checkIndex 12 = .ok (.invokestatic 95, 3) := dk_184 0 95 (dk_at dksJ4_checkIndex_0 12 rfl rfl)
theorem dJ4_checkIndex_15 : decode cJ4_checkIndex 15 = .ok (.athrow, 1) := dk_191 (dk_at dksJ4_checkIndex_0 15 rfl rfl)
theorem dJ4_checkIndex_16 : decode cJ4_checkIndex 16 = .ok (.iload_n 0, 1) := dk_26 (dk_at dksJ4_checkIndex_0 16 rfl rfl)
theorem dJ4_checkIndex_17 : decode cJ4_checkIndex 17 = .ok (.ireturn, 1) := dk_172 (dk_at dksJ4_checkIndex_0 17 rfl rfl)
abbrev cJ4_checkFromIndexSize : ByteArray := prog_57_method_13_code
def yJ4_checkFromIndexSize : MethodName := ⟨RJ4, "checkFromIndexSize", "(IIILjava/util/function/BiFunction;)I"⟩
def dkwJ4_checkFromIndexSize_1 : List UInt8 := [172]
abbrev dktJ4_checkFromIndexSize_1 : List UInt8 := dkwJ4_checkFromIndexSize_1 ++ []
def dkwJ4_checkFromIndexSize_0 : List UInt8 := [28, 26, 128, 27, 128, 155, 0, 10, 27, 28, 26, 100, 164, 0, 11, 45, 26, 27, 28, 184, 0, 103, 191, 26]
abbrev dktJ4_checkFromIndexSize_0 : List UInt8 := dkwJ4_checkFromIndexSize_0 ++ dktJ4_checkFromIndexSize_1
theorem dksJ4_checkFromIndexSize_0 : cJ4_checkFromIndexSize.data.toList.drop 0 = dktJ4_checkFromIndexSize_0 := by decide +kernel
theorem dksJ4_checkFromIndexSize_1 : cJ4_checkFromIndexSize.data.toList.drop 24 = dktJ4_checkFromIndexSize_1 := dk_seg dksJ4_checkFromIndexSize_0 24 rfl rfl
theorem dJ4_checkFromIndexSize_0 : decode cJ4_checkFromIndexSize 0 = .ok (.iload_n 2, 1) := dk_28 (dk_at dksJ4_checkFromIndexSize_0 0 rfl rfl)
theorem dJ4_checkFromIndexSize_1 : decode cJ4_checkFromIndexSize 1 = .ok (.iload_n 0, 1) := dk_26 (dk_at dksJ4_checkFromIndexSize_0 1 rfl rfl)
theorem dJ4_checkFromIndexSize_2 : decode cJ4_checkFromIndexSize 2 = .ok (.ior, 1) := dk_128 (dk_at dksJ4_checkFromIndexSize_0 2 rfl rfl)
theorem dJ4_checkFromIndexSize_3 : decode cJ4_checkFromIndexSize 3 = .ok (.iload_n 1, 1) := dk_27 (dk_at dksJ4_checkFromIndexSize_0 3 rfl rfl)
theorem dJ4_checkFromIndexSize_4 : decode cJ4_checkFromIndexSize 4 = .ok (.ior, 1) := dk_128 (dk_at dksJ4_checkFromIndexSize_0 4 rfl rfl)
theorem dJ4_checkFromIndexSize_5 : decode cJ4_checkFromIndexSize 5 = .ok (.ifCond .lt 10, 3) := dk_155 0 10 (dk_at dksJ4_checkFromIndexSize_0 5 rfl rfl)
theorem dJ4_checkFromIndexSize_8 : decode cJ4_checkFromIndexSize 8 = .ok (.iload_n 1, 1) := dk_27 (dk_at dksJ4_checkFromIndexSize_0 8 rfl rfl)
theorem dJ4_checkFromIndexSize_9 : decode cJ4_checkFromIndexSize 9 = .ok (.iload_n 2, 1) := dk_28 (dk_at dksJ4_checkFromIndexSize_0 9 rfl rfl)
theorem dJ4_checkFromIndexSize_10 : decode cJ4_checkFromIndexSize 10 = .ok (.iload_n 0, 1) := dk_26 (dk_at dksJ4_checkFromIndexSize_0 10 rfl rfl)
theorem dJ4_checkFromIndexSize_11 : decode cJ4_checkFromIndexSize 11 = .ok (.isub, 1) := dk_100 (dk_at dksJ4_checkFromIndexSize_0 11 rfl rfl)
theorem dJ4_checkFromIndexSize_12 : decode cJ4_checkFromIndexSize 12 = .ok (.if_icmp .le 11, 3) := dk_164 0 11 (dk_at dksJ4_checkFromIndexSize_0 12 rfl rfl)
theorem dJ4_checkFromIndexSize_15 : decode cJ4_checkFromIndexSize 15 = .ok (.aload_n 3, 1) := dk_45 (dk_at dksJ4_checkFromIndexSize_0 15 rfl rfl)
theorem dJ4_checkFromIndexSize_16 : decode cJ4_checkFromIndexSize 16 = .ok (.iload_n 0, 1) := dk_26 (dk_at dksJ4_checkFromIndexSize_0 16 rfl rfl)
theorem dJ4_checkFromIndexSize_17 : decode cJ4_checkFromIndexSize 17 = .ok (.iload_n 1, 1) := dk_27 (dk_at dksJ4_checkFromIndexSize_0 17 rfl rfl)
theorem dJ4_checkFromIndexSize_18 : decode cJ4_checkFromIndexSize 18 = .ok (.iload_n 2, 1) := dk_28 (dk_at dksJ4_checkFromIndexSize_0 18 rfl rfl)
theorem dJ4_checkFromIndexSize_19 : decode cJ4_checkFromIndexSize 19 = .ok (.invokestatic 103, 3) := dk_184 0 103 (dk_at dksJ4_checkFromIndexSize_0 19 rfl rfl)
theorem dJ4_checkFromIndexSize_22 : decode cJ4_checkFromIndexSize 22 = .ok (.athrow, 1) := dk_191 (dk_at dksJ4_checkFromIndexSize_0 22 rfl rfl)
theorem dJ4_checkFromIndexSize_23 : decode cJ4_checkFromIndexSize 23 = .ok (.iload_n 0, 1) := dk_26 (dk_at dksJ4_checkFromIndexSize_0 23 rfl rfl)
theorem dJ4_checkFromIndexSize_24 : decode cJ4_checkFromIndexSize 24 = .ok (.ireturn, 1) := dk_172 (dk_at dksJ4_checkFromIndexSize_1 0 rfl rfl)
abbrev cJ4_checkFromToIndex : ByteArray := prog_57_method_12_code
def yJ4_checkFromToIndex : MethodName := ⟨RJ4, "checkFromToIndex", "(IIILjava/util/function/BiFunction;)I"⟩
def dkwJ4_checkFromToIndex_0 : List UInt8 := [26, 155, 0, 13, 26, 27, 163, 0, 8, 27, 28, 164, 0, 11, 45, 26, 27, 28, 184, 0, 99, 191, 26, 172]
abbrev dktJ4_checkFromToIndex_0 : List UInt8 := dkwJ4_checkFromToIndex_0 ++ []
theorem dksJ4_checkFromToIndex_0 : cJ4_checkFromToIndex.data.toList.drop 0 = dktJ4_checkFromToIndex_0 := by decide +kernel
theorem dJ4_checkFromToIndex_0 : decode cJ4_checkFromToIndex 0 = .ok (.iload_n 0, 1) := dk_26 (dk_at dksJ4_checkFromToIndex_0 0 rfl rfl)
theorem dJ4_checkFromToIndex_1 : decode cJ4_checkFromToIndex 1 = .ok (.ifCond .lt 13, 3) := dk_155 0 13 (dk_at dksJ4_checkFromToIndex_0 1 rfl rfl)
theorem dJ4_checkFromToIndex_4 : decode cJ4_checkFromToIndex 4 = .ok (.iload_n 0, 1) := dk_26 (dk_at dksJ4_checkFromToIndex_0 4 rfl rfl)
theorem dJ4_checkFromToIndex_5 : decode cJ4_checkFromToIndex 5 = .ok (.iload_n 1, 1) := dk_27 (dk_at dksJ4_checkFromToIndex_0 5 rfl rfl)
theorem dJ4_checkFromToIndex_6 : decode cJ4_checkFromToIndex 6 = .ok (.if_icmp .gt 8, 3) := dk_163 0 8 (dk_at dksJ4_checkFromToIndex_0 6 rfl rfl)
theorem dJ4_checkFromToIndex_9 : decode cJ4_checkFromToIndex 9 = .ok (.iload_n 1, 1) := dk_27 (dk_at dksJ4_checkFromToIndex_0 9 rfl rfl)
theorem dJ4_checkFromToIndex_10 : decode cJ4_checkFromToIndex 10 = .ok (.iload_n 2, 1) := dk_28 (dk_at dksJ4_checkFromToIndex_0 10 rfl rfl)
theorem dJ4_checkFromToIndex_11 : decode cJ4_checkFromToIndex 11 = .ok (.if_icmp .le 11, 3) := dk_164 0 11 (dk_at dksJ4_checkFromToIndex_0 11 rfl rfl)
theorem dJ4_checkFromToIndex_14 : decode cJ4_checkFromToIndex 14 = .ok (.aload_n 3, 1) := dk_45 (dk_at dksJ4_checkFromToIndex_0 14 rfl rfl)
theorem dJ4_checkFromToIndex_15 : decode cJ4_checkFromToIndex 15 = .ok (.iload_n 0, 1) := dk_26 (dk_at dksJ4_checkFromToIndex_0 15 rfl rfl)
theorem dJ4_checkFromToIndex_16 : decode cJ4_checkFromToIndex 16 = .ok (.iload_n 1, 1) := dk_27 (dk_at dksJ4_checkFromToIndex_0 16 rfl rfl)
theorem dJ4_checkFromToIndex_17 : decode cJ4_checkFromToIndex 17 = .ok (.iload_n 2, 1) := dk_28 (dk_at dksJ4_checkFromToIndex_0 17 rfl rfl)
theorem dJ4_checkFromToIndex_18 : decode cJ4_checkFromToIndex 18 = .ok (.invokestatic 99, 3) := dk_184 0 99 (dk_at dksJ4_checkFromToIndex_0 18 rfl rfl)
theorem dJ4_checkFromToIndex_21 : decode cJ4_checkFromToIndex 21 = .ok (.athrow, 1) := dk_191 (dk_at dksJ4_checkFromToIndex_0 21 rfl rfl)
theorem dJ4_checkFromToIndex_22 : decode cJ4_checkFromToIndex 22 = .ok (.iload_n 0, 1) := dk_26 (dk_at dksJ4_checkFromToIndex_0 22 rfl rfl)
theorem dJ4_checkFromToIndex_23 : decode cJ4_checkFromToIndex 23 = .ok (.ireturn, 1) := dk_172 (dk_at dksJ4_checkFromToIndex_0 23 rfl rfl)
theorem q116 : (Jvm.Cond.initialized "jdk/internal/util/Preconditions") ∈ lw_all := lw_g (lw_at lw_m1 8 rfl) rfl
theorem q361 : (Jvm.Cond.static ({ cls := "jdk/internal/util/Preconditions", name := "checkIndex", desc := "(IILjava/util/function/BiFunction;)I" } : Jvm.MethodName)) ∈ lw_all := lw_g (lw_at lw_m2 13 rfl) rfl
theorem q362 : (Jvm.Cond.code ({ cls := "jdk/internal/util/Preconditions", name := "checkIndex", desc := "(IILjava/util/function/BiFunction;)I" } : Jvm.MethodName) prog_57_method_11_code (3 : Nat) (Option.some Jvm.ClassFile.FieldType.int)) ∈ lw_all := lw_g (lw_at lw_m2 14 rfl) rfl
theorem q649 : (Jvm.Cond.laysStatic "jdk/internal/util/Preconditions" "SIOOBE_FORMATTER" "Ljava/util/function/BiFunction;") ∈ lw_tbl := lw_at lw_m3 61 rfl
theorem q651 : (Jvm.Cond.static ({ cls := "jdk/internal/util/Preconditions", name := "checkFromIndexSize", desc := "(IIILjava/util/function/BiFunction;)I" } : Jvm.MethodName)) ∈ lw_all := lw_g (lw_at lw_m3 63 rfl) rfl
theorem q652 : (Jvm.Cond.code ({ cls := "jdk/internal/util/Preconditions", name := "checkFromIndexSize", desc := "(IIILjava/util/function/BiFunction;)I" } : Jvm.MethodName) prog_57_method_13_code (4 : Nat) (Option.some Jvm.ClassFile.FieldType.int)) ∈ lw_all := lw_g (lw_at lw_m3 64 rfl) rfl
theorem q881 : (Jvm.Cond.static ({ cls := "jdk/internal/util/Preconditions", name := "checkFromToIndex", desc := "(IIILjava/util/function/BiFunction;)I" } : Jvm.MethodName)) ∈ lw_all := lw_g (lw_at lw_m4 53 rfl) rfl
theorem q882 : (Jvm.Cond.code ({ cls := "jdk/internal/util/Preconditions", name := "checkFromToIndex", desc := "(IIILjava/util/function/BiFunction;)I" } : Jvm.MethodName) prog_57_method_12_code (4 : Nat) (Option.some Jvm.ClassFile.FieldType.int)) ∈ lw_all := lw_g (lw_at lw_m4 54 rfl) rfl

/-! java/util/Arrays -/
set_option maxRecDepth 100000
abbrev cJ5_fill : ByteArray := prog_49_method_103_code
def yJ5_fill : MethodName := ⟨RJ5, "fill", "([II)V"⟩
def dkwJ5_fill_0 : List UInt8 := [3, 61, 42, 190, 62, 28, 29, 162, 0, 13, 42, 28, 27, 79, 132, 2, 1, 167, 255, 244, 177]
abbrev dktJ5_fill_0 : List UInt8 := dkwJ5_fill_0 ++ []
theorem dksJ5_fill_0 : cJ5_fill.data.toList.drop 0 = dktJ5_fill_0 := by decide +kernel
theorem dJ5_fill_0 : decode cJ5_fill 0 = .ok (.iconst 0, 1) := dk_3 (dk_at dksJ5_fill_0 0 rfl rfl)
theorem dJ5_fill_1 : decode cJ5_fill 1 = .ok (.istore_n 2, 1) := dk_61 (dk_at dksJ5_fill_0 1 rfl rfl)
theorem dJ5_fill_2 : decode cJ5_fill 2 = .ok (.aload_n 0, 1) := dk_42 (dk_at dksJ5_fill_0 2 rfl rfl)
theorem dJ5_fill_3 : decode cJ5_fill 3 = .ok (.arraylength, 1) := dk_190 (dk_at dksJ5_fill_0 3 rfl rfl)
theorem dJ5_fill_4 : decode cJ5_fill 4 = .ok (.istore_n 3, 1) := dk_62 (dk_at dksJ5_fill_0 4 rfl rfl)
theorem dJ5_fill_5 : decode cJ5_fill 5 = .ok (.iload_n 2, 1) := dk_28 (dk_at dksJ5_fill_0 5 rfl rfl)
theorem dJ5_fill_6 : decode cJ5_fill 6 = .ok (.iload_n 3, 1) := dk_29 (dk_at dksJ5_fill_0 6 rfl rfl)
theorem dJ5_fill_7 : decode cJ5_fill 7 = .ok (.if_icmp .ge 13, 3) := dk_162 0 13 (dk_at dksJ5_fill_0 7 rfl rfl)
theorem dJ5_fill_10 : decode cJ5_fill 10 = .ok (.aload_n 0, 1) := dk_42 (dk_at dksJ5_fill_0 10 rfl rfl)
theorem dJ5_fill_11 : decode cJ5_fill 11 = .ok (.iload_n 2, 1) := dk_28 (dk_at dksJ5_fill_0 11 rfl rfl)
theorem dJ5_fill_12 : decode cJ5_fill 12 = .ok (.iload_n 1, 1) := dk_27 (dk_at dksJ5_fill_0 12 rfl rfl)
theorem dJ5_fill_13 : decode cJ5_fill 13 = .ok (.iastore, 1) := dk_79 (dk_at dksJ5_fill_0 13 rfl rfl)
theorem dJ5_fill_14 : decode cJ5_fill 14 = .ok (.iinc 2 1, 3) := dk_132 2 1 (dk_at dksJ5_fill_0 14 rfl rfl)
theorem dJ5_fill_17 : decode cJ5_fill 17 = .ok (.goto (-12), 3) := dk_167 255 244 (dk_at dksJ5_fill_0 17 rfl rfl)
theorem dJ5_fill_20 : decode cJ5_fill 20 = .ok (.return_, 1) := dk_177 (dk_at dksJ5_fill_0 20 rfl rfl)
abbrev cJ5_copyOf : ByteArray := prog_49_method_121_code
def yJ5_copyOf : MethodName := ⟨RJ5, "copyOf", "([BI)[B"⟩
def dkwJ5_copyOf_1 : List UInt8 := [27, 184, 1, 48, 184, 0, 150, 44, 176]
abbrev dktJ5_copyOf_1 : List UInt8 := dkwJ5_copyOf_1 ++ []
def dkwJ5_copyOf_0 : List UInt8 := [27, 42, 190, 160, 0, 11, 42, 182, 1, 54, 192, 1, 55, 176, 27, 188, 8, 77, 42, 3, 44, 3, 42, 190]
abbrev dktJ5_copyOf_0 : List UInt8 := dkwJ5_copyOf_0 ++ dktJ5_copyOf_1
theorem dksJ5_copyOf_0 : cJ5_copyOf.data.toList.drop 0 = dktJ5_copyOf_0 := by decide +kernel
theorem dksJ5_copyOf_1 : cJ5_copyOf.data.toList.drop 24 = dktJ5_copyOf_1 := dk_seg dksJ5_copyOf_0 24 rfl rfl
theorem dJ5_copyOf_0 : decode cJ5_copyOf 0 = .ok (.iload_n 1, 1) := dk_27 (dk_at dksJ5_copyOf_0 0 rfl rfl)
theorem dJ5_copyOf_1 : decode cJ5_copyOf 1 = .ok (.aload_n 0, 1) := dk_42 (dk_at dksJ5_copyOf_0 1 rfl rfl)
theorem dJ5_copyOf_2 : decode cJ5_copyOf 2 = .ok (.arraylength, 1) := dk_190 (dk_at dksJ5_copyOf_0 2 rfl rfl)
theorem dJ5_copyOf_3 : decode cJ5_copyOf 3 = .ok (.if_icmp .ne 11, 3) := dk_160 0 11 (dk_at dksJ5_copyOf_0 3 rfl rfl)
theorem dJ5_copyOf_6 : decode cJ5_copyOf 6 = .ok (.aload_n 0, 1) := dk_42 (dk_at dksJ5_copyOf_0 6 rfl rfl)
theorem dJ5_copyOf_7 : decode cJ5_copyOf 7 = .ok (.invokevirtual 310, 3) := dk_182 1 54 (dk_at dksJ5_copyOf_0 7 rfl rfl)
theorem dJ5_copyOf_10 : decode cJ5_copyOf 10 = .ok (.checkcast 311, 3) := dk_192 1 55 (dk_at dksJ5_copyOf_0 10 rfl rfl)
theorem dJ5_copyOf_13 : decode cJ5_copyOf 13 = .ok (.areturn, 1) := dk_176 (dk_at dksJ5_copyOf_0 13 rfl rfl)
theorem dJ5_copyOf_14 : decode cJ5_copyOf 14 = .ok (.iload_n 1, 1) := dk_27 (dk_at dksJ5_copyOf_0 14 rfl rfl)
theorem dJ5_copyOf_15 : decode cJ5_copyOf 15 = .ok (.newarray .byte, 2) := dk_188_8 (dk_at dksJ5_copyOf_0 15 rfl rfl)
theorem dJ5_copyOf_17 : decode cJ5_copyOf 17 = .ok (.astore_n 2, 1) := dk_77 (dk_at dksJ5_copyOf_0 17 rfl rfl)
theorem dJ5_copyOf_18 : decode cJ5_copyOf 18 = .ok (.aload_n 0, 1) := dk_42 (dk_at dksJ5_copyOf_0 18 rfl rfl)
theorem dJ5_copyOf_19 : decode cJ5_copyOf 19 = .ok (.iconst 0, 1) := dk_3 (dk_at dksJ5_copyOf_0 19 rfl rfl)
theorem dJ5_copyOf_20 : decode cJ5_copyOf 20 = .ok (.aload_n 2, 1) := dk_44 (dk_at dksJ5_copyOf_0 20 rfl rfl)
theorem dJ5_copyOf_21 : decode cJ5_copyOf 21 = .ok (.iconst 0, 1) := dk_3 (dk_at dksJ5_copyOf_0 21 rfl rfl)
theorem dJ5_copyOf_22 : decode cJ5_copyOf 22 = .ok (.aload_n 0, 1) := dk_42 (dk_at dksJ5_copyOf_0 22 rfl rfl)
theorem dJ5_copyOf_23 : decode cJ5_copyOf 23 = .ok (.arraylength, 1) := dk_190 (dk_at dksJ5_copyOf_0 23 rfl rfl)
theorem dJ5_copyOf_24 : decode cJ5_copyOf 24 = .ok (.iload_n 1, 1) := dk_27 (dk_at dksJ5_copyOf_1 0 rfl rfl)
theorem dJ5_copyOf_25 : decode cJ5_copyOf 25 = .ok (.invokestatic 304, 3) := dk_184 1 48 (dk_at dksJ5_copyOf_1 1 rfl rfl)
theorem dJ5_copyOf_28 : decode cJ5_copyOf 28 = .ok (.invokestatic 150, 3) := dk_184 0 150 (dk_at dksJ5_copyOf_1 4 rfl rfl)
theorem dJ5_copyOf_31 : decode cJ5_copyOf 31 = .ok (.aload_n 2, 1) := dk_44 (dk_at dksJ5_copyOf_1 7 rfl rfl)
theorem dJ5_copyOf_32 : decode cJ5_copyOf 32 = .ok (.areturn, 1) := dk_176 (dk_at dksJ5_copyOf_1 8 rfl rfl)
abbrev cJ5_copyOfRange : ByteArray := prog_49_method_132_code
def yJ5_copyOfRange : MethodName := ⟨RJ5, "copyOfRange", "([BII)[B"⟩
def dkwJ5_copyOfRange_1 : List UInt8 := [176]
abbrev dktJ5_copyOfRange_1 : List UInt8 := dkwJ5_copyOfRange_1 ++ []
def dkwJ5_copyOfRange_0 : List UInt8 := [27, 154, 0, 9, 28, 42, 190, 159, 0, 10, 42, 27, 28, 184, 1, 83, 176, 42, 182, 1, 54, 192, 1, 55]
abbrev dktJ5_copyOfRange_0 : List UInt8 := dkwJ5_copyOfRange_0 ++ dktJ5_copyOfRange_1
theorem dksJ5_copyOfRange_0 : cJ5_copyOfRange.data.toList.drop 0 = dktJ5_copyOfRange_0 := by decide +kernel
theorem dksJ5_copyOfRange_1 : cJ5_copyOfRange.data.toList.drop 24 = dktJ5_copyOfRange_1 := dk_seg dksJ5_copyOfRange_0 24 rfl rfl
theorem dJ5_copyOfRange_0 : decode cJ5_copyOfRange 0 = .ok (.iload_n 1, 1) := dk_27 (dk_at dksJ5_copyOfRange_0 0 rfl rfl)
theorem dJ5_copyOfRange_1 : decode cJ5_copyOfRange 1 = .ok (.ifCond .ne 9, 3) := dk_154 0 9 (dk_at dksJ5_copyOfRange_0 1 rfl rfl)
theorem dJ5_copyOfRange_4 : decode cJ5_copyOfRange 4 = .ok (.iload_n 2, 1) := dk_28 (dk_at dksJ5_copyOfRange_0 4 rfl rfl)
theorem dJ5_copyOfRange_5 : decode cJ5_copyOfRange 5 = .ok (.aload_n 0, 1) := dk_42 (dk_at dksJ5_copyOfRange_0 5 rfl rfl)
theorem dJ5_copyOfRange_6 : decode cJ5_copyOfRange 6 = .ok (.arraylength, 1) := dk_190 (dk_at dksJ5_copyOfRange_0 6 rfl rfl)
theorem dJ5_copyOfRange_7 : decode cJ5_copyOfRange 7 = .ok (.if_icmp .eq 10, 3) := dk_159 0 10 (dk_at dksJ5_copyOfRange_0 7 rfl rfl)
theorem dJ5_copyOfRange_10 : decode cJ5_copyOfRange 10 = .ok (.aload_n 0, 1) := dk_42 (dk_at dksJ5_copyOfRange_0 10 rfl rfl)
theorem dJ5_copyOfRange_11 : decode cJ5_copyOfRange 11 = .ok (.iload_n 1, 1) := dk_27 (dk_at dksJ5_copyOfRange_0 11 rfl rfl)
theorem dJ5_copyOfRange_12 : decode cJ5_copyOfRange 12 = .ok (.iload_n 2, 1) := dk_28 (dk_at dksJ5_copyOfRange_0 12 rfl rfl)
theorem dJ5_copyOfRange_13 : decode cJ5_copyOfRange 13 = .ok (.invokestatic 339, 3) := dk_184 1 83 (dk_at dksJ5_copyOfRange_0 13 rfl rfl)
theorem dJ5_copyOfRange_16 : decode cJ5_copyOfRange 16 = .ok (.areturn, 1) := dk_176 (dk_at dksJ5_copyOfRange_0 16 rfl rfl)
theorem dJ5_copyOfRange_17 : decode cJ5_copyOfRange 17 = .ok (.aload_n 0, 1) := dk_42 (dk_at dksJ5_copyOfRange_0 17 rfl rfl)
theorem dJ5_copyOfRange_18 : decode cJ5_copyOfRange 18 = .ok (.invokevirtual 310, 3) := dk_182 1 54 (dk_at dksJ5_copyOfRange_0 18 rfl rfl)
theorem dJ5_copyOfRange_21 : decode cJ5_copyOfRange 21 = .ok (.checkcast 311, 3) := dk_192 1 55 (dk_at dksJ5_copyOfRange_0 21 rfl rfl)
theorem dJ5_copyOfRange_24 : decode cJ5_copyOfRange 24 = .ok (.areturn, 1) := dk_176 (dk_at dksJ5_copyOfRange_1 0 rfl rfl)
abbrev cJ5_copyOfRangeByte : ByteArray := prog_49_method_133_code
def yJ5_copyOfRangeByte : MethodName := ⟨RJ5, "copyOfRangeByte", "([BII)[B"⟩
def dkwJ5_copyOfRangeByte_1 : List UInt8 := [184, 1, 48, 184, 0, 150, 25, 4, 176]
abbrev dktJ5_copyOfRangeByte_1 : List UInt8 := dkwJ5_copyOfRangeByte_1 ++ []
def dkwJ5_copyOfRangeByte_0 : List UInt8 := [27, 28, 184, 1, 87, 28, 27, 100, 62, 29, 188, 8, 58, 4, 42, 27, 25, 4, 3, 42, 190, 27, 100, 29]
abbrev dktJ5_copyOfRangeByte_0 : List UInt8 := dkwJ5_copyOfRangeByte_0 ++ dktJ5_copyOfRangeByte_1
theorem dksJ5_copyOfRangeByte_0 : cJ5_copyOfRangeByte.data.toList.drop 0 = dktJ5_copyOfRangeByte_0 := by decide +kernel
theorem dksJ5_copyOfRangeByte_1 : cJ5_copyOfRangeByte.data.toList.drop 24 = dktJ5_copyOfRangeByte_1 := dk_seg dksJ5_copyOfRangeByte_0 24 rfl rfl
theorem dJ5_copyOfRangeByte_0 : decode cJ5_copyOfRangeByte 0 = .ok (.iload_n 1, 1) := dk_27 (dk_at dksJ5_copyOfRangeByte_0 0 rfl rfl)
theorem dJ5_copyOfRangeByte_1 : decode cJ5_copyOfRangeByte 1 = .ok (.iload_n 2, 1) := dk_28 (dk_at dksJ5_copyOfRangeByte_0 1 rfl rfl)
theorem dJ5_copyOfRangeByte_2 : decode cJ5_copyOfRangeByte 2 = .ok (.invokestatic 343, 3) := dk_184 1 87 (dk_at dksJ5_copyOfRangeByte_0 2 rfl rfl)
theorem dJ5_copyOfRangeByte_5 : decode cJ5_copyOfRangeByte 5 = .ok (.iload_n 2, 1) := dk_28 (dk_at dksJ5_copyOfRangeByte_0 5 rfl rfl)
theorem dJ5_copyOfRangeByte_6 : decode cJ5_copyOfRangeByte 6 = .ok (.iload_n 1, 1) := dk_27 (dk_at dksJ5_copyOfRangeByte_0 6 rfl rfl)
theorem dJ5_copyOfRangeByte_7 : decode cJ5_copyOfRangeByte 7 = .ok (.isub, 1) := dk_100 (dk_at dksJ5_copyOfRangeByte_0 7 rfl rfl)
theorem dJ5_copyOfRangeByte_8 : decode cJ5_copyOfRangeByte 8 = .ok (.istore_n 3, 1) := dk_62 (dk_at dksJ5_copyOfRangeByte_0 8 rfl rfl)
theorem dJ5_copyOfRangeByte_9 : decode cJ5_copyOfRangeByte 9 = .ok (.iload_n 3, 1) := dk_29 (dk_at dksJ5_copyOfRangeByte_0 9 rfl rfl)
theorem dJ5_copyOfRangeByte_10 : decode cJ5_copyOfRangeByte 10 = .ok (.newarray .byte, 2) := dk_188_8 (dk_at dksJ5_copyOfRangeByte_0 10 rfl rfl)
theorem dJ5_copyOfRangeByte_12 : decode cJ5_copyOfRangeByte 12 = .ok (.astore 4, 2) := dk_58 4 (dk_at dksJ5_copyOfRangeByte_0 12 rfl rfl)
theorem dJ5_copyOfRangeByte_14 : decode cJ5_copyOfRangeByte 14 = .ok (.aload_n 0, 1) := dk_42 (dk_at dksJ5_copyOfRangeByte_0 14 rfl rfl)
theorem dJ5_copyOfRangeByte_15 : decode cJ5_copyOfRangeByte 15 = .ok (.iload_n 1, 1) := dk_27 (dk_at dksJ5_copyOfRangeByte_0 15 rfl rfl)
theorem dJ5_copyOfRangeByte_16 : decode cJ5_copyOfRangeByte 16 = .ok (.aload 4, 2) := dk_25 4 (dk_at dksJ5_copyOfRangeByte_0 16 rfl rfl)
theorem dJ5_copyOfRangeByte_18 : decode cJ5_copyOfRangeByte 18 = .ok (.iconst 0, 1) := dk_3 (dk_at dksJ5_copyOfRangeByte_0 18 rfl rfl)
theorem dJ5_copyOfRangeByte_19 : decode cJ5_copyOfRangeByte 19 = .ok (.aload_n 0, 1) := dk_42 (dk_at dksJ5_copyOfRangeByte_0 19 rfl rfl)
theorem dJ5_copyOfRangeByte_20 : decode cJ5_copyOfRangeByte 20 = .ok (.arraylength, 1) := dk_190 (dk_at dksJ5_copyOfRangeByte_0 20 rfl rfl)
theorem dJ5_copyOfRangeByte_21 : decode cJ5_copyOfRangeByte 21 = .ok (.iload_n 1, 1) := dk_27 (dk_at dksJ5_copyOfRangeByte_0 21 rfl rfl)
theorem dJ5_copyOfRangeByte_22 : decode cJ5_copyOfRangeByte 22 = .ok (.isub, 1) := dk_100 (dk_at dksJ5_copyOfRangeByte_0 22 rfl rfl)
theorem dJ5_copyOfRangeByte_23 : decode cJ5_copyOfRangeByte 23 = .ok (.iload_n 3, 1) := dk_29 (dk_at dksJ5_copyOfRangeByte_0 23 rfl rfl)
theorem dJ5_copyOfRangeByte_24 : decode cJ5_copyOfRangeByte 24 = .ok (.invokestatic 304, 3) := dk_184 1 48 (dk_at dksJ5_copyOfRangeByte_1 0 rfl rfl)
theorem dJ5_copyOfRangeByte_27 : decode cJ5_copyOfRangeByte 27 = .ok (.invokestatic 150, 3) := dk_184 0 150 (dk_at dksJ5_copyOfRangeByte_1 3 rfl rfl)
theorem dJ5_copyOfRangeByte_30 : decode cJ5_copyOfRangeByte 30 = .ok (.aload 4, 2) := dk_25 4 (dk_at dksJ5_copyOfRangeByte_1 6 rfl rfl)
theorem dJ5_copyOfRangeByte_32 : decode cJ5_copyOfRangeByte 32 = .ok (.areturn, 1) := dk_176 (dk_at dksJ5_copyOfRangeByte_1 8 rfl rfl)
abbrev cJ5_checkLength : ByteArray := prog_49_method_131_code
def yJ5_checkLength : MethodName := ⟨RJ5, "checkLength", "(II)V"⟩
def dkwJ5_checkLength_1 : List UInt8 := [182, 0, 50, 27, 182, 0, 54, 182, 0, 61, 183, 0, 65, 191, 177]
abbrev dktJ5_checkLength_1 : List UInt8 := dkwJ5_checkLength_1 ++ []
def dkwJ5_checkLength_0 : List UInt8 := [27, 26, 162, 0, 35, 187, 0, 43, 89, 187, 0, 45, 89, 183, 0, 47, 26, 182, 0, 54, 19, 1, 81]
abbrev dktJ5_checkLength_0 : List UInt8 := dkwJ5_checkLength_0 ++ dktJ5_checkLength_1
theorem dksJ5_checkLength_0 : cJ5_checkLength.data.toList.drop 0 = dktJ5_checkLength_0 := by decide +kernel
theorem dksJ5_checkLength_1 : cJ5_checkLength.data.toList.drop 23 = dktJ5_checkLength_1 := dk_seg dksJ5_checkLength_0 23 rfl rfl
theorem dJ5_checkLength_0 : decode cJ5_checkLength 0 = .ok (.iload_n 1, 1) := dk_27 (dk_at dksJ5_checkLength_0 0 rfl rfl)
theorem dJ5_checkLength_1 : decode cJ5_checkLength 1 = .ok (.iload_n 0, 1) := dk_26 (dk_at dksJ5_checkLength_0 1 rfl rfl)
theorem dJ5_checkLength_2 : decode cJ5_checkLength 2 = .ok (.if_icmp .ge 35, 3) := dk_162 0 35 (dk_at dksJ5_checkLength_0 2 rfl rfl)
theorem dJ5_checkLength_5 : decode cJ5_checkLength 5 = .ok (.new 43, 3) := dk_187 0 43 (dk_at dksJ5_checkLength_0 5 rfl rfl)
theorem dJ5_checkLength_8 : decode cJ5_checkLength 8 = .ok (.dup, 1) := dk_89 (dk_at dksJ5_checkLength_0 8 rfl rfl)
theorem dJ5_checkLength_9 : decode cJ5_checkLength 9 = .ok (.new 45, 3) := dk_187 0 45 (dk_at dksJ5_checkLength_0 9 rfl rfl)
theorem dJ5_checkLength_12 : decode cJ5_checkLength 12 = .ok (.dup, 1) := dk_89 (dk_at dksJ5_checkLength_0 12 rfl rfl)
theorem dJ5_checkLength_13 : decode cJ5_checkLength 13 = .ok (.invokespecial 47, 3) := dk_183 0 47 (dk_at dksJ5_checkLength_0 13 rfl rfl)
theorem dJ5_checkLength_16 : decode cJ5_checkLength 16 = .ok (.iload_n 0, 1) := dk_26 (dk_at dksJ5_checkLength_0 16 rfl rfl)
theorem dJ5_checkLength_17 : decode cJ5_checkLength 17 = .ok (.invokevirtual 54, 3) := dk_182 0 54 (dk_at dksJ5_checkLength_0 17 rfl rfl)
theorem dJ5_checkLength_20 : decode cJ5_checkLength 20 = .ok (.ldc_w 337, 3) := dk_19 1 81 (dk_at dksJ5_checkLength_0 20 rfl rfl)
theorem dJ5_checkLength_23 : decode cJ5_checkLength 23 = .ok (.invokevirtual 50, 3) := dk_182 0 50 (dk_at dksJ5_checkLength_1 0 rfl rfl)
theorem dJ5_checkLength_26 : decode cJ5_checkLength 26 = .ok (.iload_n 1, 1) := dk_27 (dk_at dksJ5_checkLength_1 3 rfl rfl)
theorem dJ5_checkLength_27 : decode cJ5_checkLength 27 = .ok (.invokevirtual 54, 3) := dk_182 0 54 (dk_at dksJ5_checkLength_1 4 rfl rfl)
theorem dJ5_checkLength_30 : decode cJ5_checkLength 30 = .ok (.invokevirtual 61, 3) := dk_182 0 61 (dk_at dksJ5_checkLength_1 7 rfl rfl)
theorem dJ5_checkLength_33 : decode cJ5_checkLength 33 = .ok (.invokespecial 65, 3) := dk_183 0 65 (dk_at dksJ5_checkLength_1 10 rfl rfl)
theorem dJ5_checkLength_36 : decode cJ5_checkLength 36 = .ok (.athrow, 1) := dk_191 (dk_at dksJ5_checkLength_1 13 rfl rfl)
theorem dJ5_checkLength_37 : decode cJ5_checkLength 37 = .ok (.return_, 1) := dk_177 (dk_at dksJ5_checkLength_1 14 rfl rfl)
abbrev cJ5_copyOf_2 : ByteArray := prog_49_method_119_code
def yJ5_copyOf_2 : MethodName := ⟨RJ5, "copyOf", "([Ljava/lang/Object;I)[Ljava/lang/Object;"⟩
def dkwJ5_copyOf_2_0 : List UInt8 := [42, 27, 42, 182, 0, 86, 184, 1, 44, 176]
abbrev dktJ5_copyOf_2_0 : List UInt8 := dkwJ5_copyOf_2_0 ++ []
theorem dksJ5_copyOf_2_0 : cJ5_copyOf_2.data.toList.drop 0 = dktJ5_copyOf_2_0 := by decide +kernel
theorem dJ5_copyOf_2_0 : decode cJ5_copyOf_2 0 = .ok (.aload_n 0, 1) := dk_42 (dk_at dksJ5_copyOf_2_0 0 rfl rfl)
theorem dJ5_copyOf_2_1 : decode cJ5_copyOf_2 1 = .ok (.iload_n 1, 1) := dk_27 (dk_at dksJ5_copyOf_2_0 1 rfl rfl)
theorem dJ5_copyOf_2_2 : decode cJ5_copyOf_2 2 = .ok (.aload_n 0, 1) := dk_42 (dk_at dksJ5_copyOf_2_0 2 rfl rfl)
theorem dJ5_copyOf_2_3 : decode cJ5_copyOf_2 3 = .ok (.invokevirtual 86, 3) := dk_182 0 86 (dk_at dksJ5_copyOf_2_0 3 rfl rfl)
theorem dJ5_copyOf_2_6 : decode cJ5_copyOf_2 6 = .ok (.invokestatic 300, 3) := dk_184 1 44 (dk_at dksJ5_copyOf_2_0 6 rfl rfl)
theorem dJ5_copyOf_2_9 : decode cJ5_copyOf_2 9 = .ok (.areturn, 1) := dk_176 (dk_at dksJ5_copyOf_2_0 9 rfl rfl)
abbrev cJ5_copyOf_3 : ByteArray := prog_49_method_120_code
def yJ5_copyOf_3 : MethodName := ⟨RJ5, "copyOf", "([Ljava/lang/Object;ILjava/lang/Class;)[Ljava/lang/Object;"⟩
def dkwJ5_copyOf_3_1 : List UInt8 := [78, 42, 3, 45, 3, 42, 190, 27, 184, 1, 48, 184, 0, 150, 45, 176]
abbrev dktJ5_copyOf_3_1 : List UInt8 := dkwJ5_copyOf_3_1 ++ []
def dkwJ5_copyOf_3_0 : List UInt8 := [44, 18, 110, 166, 0, 10, 27, 189, 0, 2, 167, 0, 14, 44, 182, 0, 90, 27, 184, 0, 95, 192, 0, 110]
abbrev dktJ5_copyOf_3_0 : List UInt8 := dkwJ5_copyOf_3_0 ++ dktJ5_copyOf_3_1
theorem dksJ5_copyOf_3_0 : cJ5_copyOf_3.data.toList.drop 0 = dktJ5_copyOf_3_0 := by decide +kernel
theorem dksJ5_copyOf_3_1 : cJ5_copyOf_3.data.toList.drop 24 = dktJ5_copyOf_3_1 := dk_seg dksJ5_copyOf_3_0 24 rfl rfl
theorem dJ5_copyOf_3_0 : decode cJ5_copyOf_3 0 = .ok (.aload_n 2, 1) := dk_44 (dk_at dksJ5_copyOf_3_0 0 rfl rfl)
theorem dJ5_copyOf_3_1 : decode cJ5_copyOf_3 1 = .ok (.ldc 110, 2) := dk_18 110 (dk_at dksJ5_copyOf_3_0 1 rfl rfl)
theorem dJ5_copyOf_3_3 : decode cJ5_copyOf_3 3 = .ok (.if_acmp .ne 10, 3) := dk_166 0 10 (dk_at dksJ5_copyOf_3_0 3 rfl rfl)
theorem dJ5_copyOf_3_6 : decode cJ5_copyOf_3 6 = .ok (.iload_n 1, 1) := dk_27 (dk_at dksJ5_copyOf_3_0 6 rfl rfl)
theorem dJ5_copyOf_3_7 : decode cJ5_copyOf_3 7 = .ok (.anewarray 2, 3) := dk_189 0 2 (dk_at dksJ5_copyOf_3_0 7 rfl rfl)
theorem dJ5_copyOf_3_10 : decode cJ5_copyOf_3 10 = .ok (.goto 14, 3) := dk_167 0 14 (dk_at dksJ5_copyOf_3_0 10 rfl rfl)
theorem dJ5_copyOf_3_13 : decode cJ5_copyOf_3 13 = .ok (.aload_n 2, 1) := dk_44 (dk_at dksJ5_copyOf_3_0 13 rfl rfl)
theorem dJ5_copyOf_3_14 : decode cJ5_copyOf_3 14 = .ok (.invokevirtual 90, 3) := dk_182 0 90 (dk_at dksJ5_copyOf_3_0 14 rfl rfl)
theorem dJ5_copyOf_3_17 : decode cJ5_copyOf_3 17 = .ok (.iload_n 1, 1) := dk_27 (dk_at dksJ5_copyOf_3_0 17 rfl rfl)
theorem dJ5_copyOf_3_18 : decode cJ5_copyOf_3 18 = .ok (.invokestatic 95, 3) := dk_184 0 95 (dk_at dksJ5_copyOf_3_0 18 rfl rfl)
theorem dJ5_copyOf_3_21 : decode cJ5_copyOf_3 21 = .ok (.checkcast 110, 3) := dk_192 0 110 (dk_at dksJ5_copyOf_3_0 21 rfl rfl)
theorem dJ5_copyOf_3_24 : decode cJ5_copyOf_3 24 = .ok (.astore_n 3, 1) := dk_78 (dk_at dksJ5_copyOf_3_1 0 rfl rfl)
theorem dJ5_copyOf_3_25 : decode cJ5_copyOf_3 25 = .ok (.aload_n 0, 1) := dk_42 (dk_at dksJ5_copyOf_3_1 1 rfl rfl)
theorem dJ5_copyOf_3_26 : decode cJ5_copyOf_3 26 = .ok (.iconst 0, 1) := dk_3 (dk_at dksJ5_copyOf_3_1 2 rfl rfl)
theorem dJ5_copyOf_3_27 : decode cJ5_copyOf_3 27 = .ok (.aload_n 3, 1) := dk_45 (dk_at dksJ5_copyOf_3_1 3 rfl rfl)
theorem dJ5_copyOf_3_28 : decode cJ5_copyOf_3 28 = .ok (.iconst 0, 1) := dk_3 (dk_at dksJ5_copyOf_3_1 4 rfl rfl)
theorem dJ5_copyOf_3_29 : decode cJ5_copyOf_3 29 = .ok (.aload_n 0, 1) := dk_42 (dk_at dksJ5_copyOf_3_1 5 rfl rfl)
theorem dJ5_copyOf_3_30 : decode cJ5_copyOf_3 30 = .ok (.arraylength, 1) := dk_190 (dk_at dksJ5_copyOf_3_1 6 rfl rfl)
theorem dJ5_copyOf_3_31 : decode cJ5_copyOf_3 31 = .ok (.iload_n 1, 1) := dk_27 (dk_at dksJ5_copyOf_3_1 7 rfl rfl)
theorem dJ5_copyOf_3_32 : decode cJ5_copyOf_3 32 = .ok (.invokestatic 304, 3) := dk_184 1 48 (dk_at dksJ5_copyOf_3_1 8 rfl rfl)
theorem dJ5_copyOf_3_35 : decode cJ5_copyOf_3 35 = .ok (.invokestatic 150, 3) := dk_184 0 150 (dk_at dksJ5_copyOf_3_1 11 rfl rfl)
theorem dJ5_copyOf_3_38 : decode cJ5_copyOf_3 38 = .ok (.aload_n 3, 1) := dk_45 (dk_at dksJ5_copyOf_3_1 14 rfl rfl)
theorem dJ5_copyOf_3_39 : decode cJ5_copyOf_3 39 = .ok (.areturn, 1) := dk_176 (dk_at dksJ5_copyOf_3_1 15 rfl rfl)
abbrev cJ5_fill_2 : ByteArray := prog_49_method_111_code
def yJ5_fill_2 : MethodName := ⟨RJ5, "fill", "([ZZ)V"⟩
def dkwJ5_fill_2_0 : List UInt8 := [3, 61, 42, 190, 62, 28, 29, 162, 0, 13, 42, 28, 27, 84, 132, 2, 1, 167, 255, 244, 177]
abbrev dktJ5_fill_2_0 : List UInt8 := dkwJ5_fill_2_0 ++ []
theorem dksJ5_fill_2_0 : cJ5_fill_2.data.toList.drop 0 = dktJ5_fill_2_0 := by decide +kernel
theorem dJ5_fill_2_0 : decode cJ5_fill_2 0 = .ok (.iconst 0, 1) := dk_3 (dk_at dksJ5_fill_2_0 0 rfl rfl)
theorem dJ5_fill_2_1 : decode cJ5_fill_2 1 = .ok (.istore_n 2, 1) := dk_61 (dk_at dksJ5_fill_2_0 1 rfl rfl)
theorem dJ5_fill_2_2 : decode cJ5_fill_2 2 = .ok (.aload_n 0, 1) := dk_42 (dk_at dksJ5_fill_2_0 2 rfl rfl)
theorem dJ5_fill_2_3 : decode cJ5_fill_2 3 = .ok (.arraylength, 1) := dk_190 (dk_at dksJ5_fill_2_0 3 rfl rfl)
theorem dJ5_fill_2_4 : decode cJ5_fill_2 4 = .ok (.istore_n 3, 1) := dk_62 (dk_at dksJ5_fill_2_0 4 rfl rfl)
theorem dJ5_fill_2_5 : decode cJ5_fill_2 5 = .ok (.iload_n 2, 1) := dk_28 (dk_at dksJ5_fill_2_0 5 rfl rfl)
theorem dJ5_fill_2_6 : decode cJ5_fill_2 6 = .ok (.iload_n 3, 1) := dk_29 (dk_at dksJ5_fill_2_0 6 rfl rfl)
theorem dJ5_fill_2_7 : decode cJ5_fill_2 7 = .ok (.if_icmp .ge 13, 3) := dk_162 0 13 (dk_at dksJ5_fill_2_0 7 rfl rfl)
theorem dJ5_fill_2_10 : decode cJ5_fill_2 10 = .ok (.aload_n 0, 1) := dk_42 (dk_at dksJ5_fill_2_0 10 rfl rfl)
theorem dJ5_fill_2_11 : decode cJ5_fill_2 11 = .ok (.iload_n 2, 1) := dk_28 (dk_at dksJ5_fill_2_0 11 rfl rfl)
theorem dJ5_fill_2_12 : decode cJ5_fill_2 12 = .ok (.iload_n 1, 1) := dk_27 (dk_at dksJ5_fill_2_0 12 rfl rfl)
theorem dJ5_fill_2_13 : decode cJ5_fill_2 13 = .ok (.bastore, 1) := dk_84 (dk_at dksJ5_fill_2_0 13 rfl rfl)
theorem dJ5_fill_2_14 : decode cJ5_fill_2 14 = .ok (.iinc 2 1, 3) := dk_132 2 1 (dk_at dksJ5_fill_2_0 14 rfl rfl)
theorem dJ5_fill_2_17 : decode cJ5_fill_2 17 = .ok (.goto (-12), 3) := dk_167 255 244 (dk_at dksJ5_fill_2_0 17 rfl rfl)
theorem dJ5_fill_2_20 : decode cJ5_fill_2 20 = .ok (.return_, 1) := dk_177 (dk_at dksJ5_fill_2_0 20 rfl rfl)
theorem q117 : (Jvm.Cond.initialized "java/util/Arrays") ∈ lw_all := lw_g (lw_at lw_m1 9 rfl) rfl
theorem q369 : (Jvm.Cond.static ({ cls := "java/util/Arrays", name := "fill", desc := "([II)V" } : Jvm.MethodName)) ∈ lw_all := lw_g (lw_at lw_m2 21 rfl) rfl
theorem q370 : (Jvm.Cond.code ({ cls := "java/util/Arrays", name := "fill", desc := "([II)V" } : Jvm.MethodName) prog_49_method_103_code (4 : Nat) (Option.none : Option Jvm.ClassFile.FieldType)) ∈ lw_all := lw_g (lw_at lw_m2 22 rfl) rfl
theorem q606 : (Jvm.Cond.static ({ cls := "java/util/Arrays", name := "copyOf", desc := "([BI)[B" } : Jvm.MethodName)) ∈ lw_all := lw_g (lw_at lw_m3 18 rfl) rfl
theorem q607 : (Jvm.Cond.code ({ cls := "java/util/Arrays", name := "copyOf", desc := "([BI)[B" } : Jvm.MethodName) prog_49_method_121_code (3 : Nat) (Option.some (Jvm.ClassFile.FieldType.array Jvm.ClassFile.FieldType.byte))) ∈ lw_all := lw_g (lw_at lw_m3 19 rfl) rfl
theorem q608 : (Jvm.Cond.methodLink "java/util/Arrays" (310 : Nat) ({ cls := "[B", name := "clone", desc := "()Ljava/lang/Object;" } : Jvm.MethodName)) ∈ lw_all := lw_g (lw_at lw_m3 20 rfl) rfl
theorem q614 : (Jvm.Cond.classLink "java/util/Arrays" (311 : Nat) "[B") ∈ lw_all := lw_g (lw_at lw_m3 26 rfl) rfl
theorem q615 : (Jvm.Cond.methodLink "java/util/Arrays" (304 : Nat) ({ cls := "java/lang/Math", name := "min", desc := "(II)I" } : Jvm.MethodName)) ∈ lw_all := lw_g (lw_at lw_m3 27 rfl) rfl
theorem q618 : (Jvm.Cond.methodLink "java/util/Arrays" (150 : Nat) ({ cls := "java/lang/System", name := "arraycopy", desc := "(Ljava/lang/Object;ILjava/lang/Object;II)V" } : Jvm.MethodName)) ∈ lw_all := lw_g (lw_at lw_m3 30 rfl) rfl
theorem q700 : (Jvm.Cond.static ({ cls := "java/util/Arrays", name := "copyOfRange", desc := "([BII)[B" } : Jvm.MethodName)) ∈ lw_all := lw_g (lw_at lw_m3 112 rfl) rfl
theorem q701 : (Jvm.Cond.code ({ cls := "java/util/Arrays", name := "copyOfRange", desc := "([BII)[B" } : Jvm.MethodName) prog_49_method_132_code (3 : Nat) (Option.some (Jvm.ClassFile.FieldType.array Jvm.ClassFile.FieldType.byte))) ∈ lw_all := lw_g (lw_at lw_m3 113 rfl) rfl
theorem q702 : (Jvm.Cond.methodLink "java/util/Arrays" (339 : Nat) ({ cls := "java/util/Arrays", name := "copyOfRangeByte", desc := "([BII)[B" } : Jvm.MethodName)) ∈ lw_all := lw_g (lw_at lw_m3 114 rfl) rfl
theorem q703 : (Jvm.Cond.static ({ cls := "java/util/Arrays", name := "copyOfRangeByte", desc := "([BII)[B" } : Jvm.MethodName)) ∈ lw_all := lw_g (lw_at lw_m3 115 rfl) rfl
theorem q704 : (Jvm.Cond.code ({ cls := "java/util/Arrays", name := "copyOfRangeByte", desc := "([BII)[B" } : Jvm.MethodName) prog_49_method_133_code (5 : Nat) (Option.some (Jvm.ClassFile.FieldType.array Jvm.ClassFile.FieldType.byte))) ∈ lw_all := lw_g (lw_at lw_m3 116 rfl) rfl
theorem q705 : (Jvm.Cond.methodLink "java/util/Arrays" (343 : Nat) ({ cls := "java/util/Arrays", name := "checkLength", desc := "(II)V" } : Jvm.MethodName)) ∈ lw_all := lw_g (lw_at lw_m3 117 rfl) rfl
theorem q706 : (Jvm.Cond.static ({ cls := "java/util/Arrays", name := "checkLength", desc := "(II)V" } : Jvm.MethodName)) ∈ lw_all := lw_g (lw_at lw_m3 118 rfl) rfl
theorem q707 : (Jvm.Cond.code ({ cls := "java/util/Arrays", name := "checkLength", desc := "(II)V" } : Jvm.MethodName) prog_49_method_131_code (2 : Nat) (Option.none : Option Jvm.ClassFile.FieldType)) ∈ lw_all := lw_g (lw_at lw_m3 119 rfl) rfl
theorem q968 : (Jvm.Cond.static ({ cls := "java/util/Arrays", name := "copyOf", desc := "([Ljava/lang/Object;I)[Ljava/lang/Object;" } : Jvm.MethodName)) ∈ lw_all := lw_g (lw_at lw_m4 140 rfl) rfl
theorem q969 : (Jvm.Cond.code ({ cls := "java/util/Arrays", name := "copyOf", desc := "([Ljava/lang/Object;I)[Ljava/lang/Object;" } : Jvm.MethodName) prog_49_method_119_code (2 : Nat) (Option.some (Jvm.ClassFile.FieldType.array (Jvm.ClassFile.FieldType.object "java/lang/Object")))) ∈ lw_all := lw_g (lw_at lw_m4 141 rfl) rfl
theorem q970 : (Jvm.Cond.methodLink "java/util/Arrays" (86 : Nat) ({ cls := "java/lang/Object", name := "getClass", desc := "()Ljava/lang/Class;" } : Jvm.MethodName)) ∈ lw_all := lw_g (lw_at lw_m4 142 rfl) rfl
theorem q999 : (Jvm.Cond.methodLink "java/util/Arrays" (300 : Nat) ({ cls := "java/util/Arrays", name := "copyOf", desc := "([Ljava/lang/Object;ILjava/lang/Class;)[Ljava/lang/Object;" } : Jvm.MethodName)) ∈ lw_all := lw_g (lw_at lw_m4 171 rfl) rfl
theorem q1000 : (Jvm.Cond.static ({ cls := "java/util/Arrays", name := "copyOf", desc := "([Ljava/lang/Object;ILjava/lang/Class;)[Ljava/lang/Object;" } : Jvm.MethodName)) ∈ lw_all := lw_g (lw_at lw_m4 172 rfl) rfl
theorem q1001 : (Jvm.Cond.code ({ cls := "java/util/Arrays", name := "copyOf", desc := "([Ljava/lang/Object;ILjava/lang/Class;)[Ljava/lang/Object;" } : Jvm.MethodName) prog_49_method_120_code (4 : Nat) (Option.some (Jvm.ClassFile.FieldType.array (Jvm.ClassFile.FieldType.object "java/lang/Object")))) ∈ lw_all := lw_g (lw_at lw_m4 173 rfl) rfl
theorem q1002 : (Jvm.Cond.classLink "java/util/Arrays" (110 : Nat) "[Ljava/lang/Object;") ∈ lw_all := lw_g (lw_at lw_m4 174 rfl) rfl
theorem q1004 : (Jvm.Cond.classLink "java/util/Arrays" (2 : Nat) "java/lang/Object") ∈ lw_all := lw_g (lw_at lw_m4 176 rfl) rfl
theorem q1323 : (Jvm.Cond.static ({ cls := "java/util/Arrays", name := "fill", desc := "([ZZ)V" } : Jvm.MethodName)) ∈ lw_all := lw_g (lw_at lw_m6 15 rfl) rfl
theorem q1324 : (Jvm.Cond.code ({ cls := "java/util/Arrays", name := "fill", desc := "([ZZ)V" } : Jvm.MethodName) prog_49_method_111_code (4 : Nat) (Option.none : Option Jvm.ClassFile.FieldType)) ∈ lw_all := lw_g (lw_at lw_m6 16 rfl) rfl

/-! java/lang/AbstractStringBuilder -/
set_option maxRecDepth 100000
abbrev cJ6_init : ByteArray := prog_28_method_2_code
def yJ6_init : MethodName := ⟨RJ6, "<init>", "(I)V"⟩
def dkwJ6_init_1 : List UInt8 := [167, 0, 16, 42, 27, 184, 0, 26, 181, 0, 15, 42, 4, 181, 0, 22, 177]
abbrev dktJ6_init_1 : List UInt8 := dkwJ6_init_1 ++ []
def dkwJ6_init_0 : List UInt8 := [42, 183, 0, 3, 178, 0, 18, 153, 0, 18, 42, 27, 188, 8, 181, 0, 15, 42, 3, 181, 0, 22]
abbrev dktJ6_init_0 : List UInt8 := dkwJ6_init_0 ++ dktJ6_init_1
theorem dksJ6_init_0 : cJ6_init.data.toList.drop 0 = dktJ6_init_0 := by decide +kernel
theorem dksJ6_init_1 : cJ6_init.data.toList.drop 22 = dktJ6_init_1 := dk_seg dksJ6_init_0 22 rfl rfl
theorem dJ6_init_0 : decode cJ6_init 0 = .ok (.aload_n 0, 1) := dk_42 (dk_at dksJ6_init_0 0 rfl rfl)
theorem dJ6_init_1 : decode cJ6_init 1 = .ok (.invokespecial 3, 3) := dk_183 0 3 (dk_at dksJ6_init_0 1 rfl rfl)
theorem dJ6_init_4 : decode cJ6_init 4 = .ok (.getstatic 18, 3) := dk_178 0 18 (dk_at dksJ6_init_0 4 rfl rfl)
theorem dJ6_init_7 : decode cJ6_init 7 = .ok (.ifCond .eq 18, 3) := dk_153 0 18 (dk_at dksJ6_init_0 7 rfl rfl)
theorem dJ6_init_10 : decode cJ6_init 10 = .ok (.aload_n 0, 1) := dk_42 (dk_at dksJ6_init_0 10 rfl rfl)
theorem dJ6_init_11 : decode cJ6_init 11 = .ok (.iload_n 1, 1) := dk_27 (dk_at dksJ6_init_0 11 rfl rfl)
theorem dJ6_init_12 : decode cJ6_init 12 = .ok (.newarray .byte, 2) := dk_188_8 (dk_at dksJ6_init_0 12 rfl rfl)
theorem dJ6_init_14 : decode cJ6_init 14 = .ok (.putfield 15, 3) := dk_181 0 15 (dk_at dksJ6_init_0 14 rfl rfl)
theorem dJ6_init_17 : decode cJ6_init 17 = .ok (.aload_n 0, 1) := dk_42 (dk_at dksJ6_init_0 17 rfl rfl)
theorem dJ6_init_18 : decode cJ6_init 18 = .ok (.iconst 0, 1) := dk_3 (dk_at dksJ6_init_0 18 rfl rfl)
theorem dJ6_init_19 : decode cJ6_init 19 = .ok (.putfield 22, 3) := dk_181 0 22 (dk_at dksJ6_init_0 19 rfl rfl)
theorem dJ6_init_22 : decode cJ6_init 22 = .ok (.goto 16, 3) := dk_167 0 16 (dk_at dksJ6_init_1 0 rfl rfl)
theorem dJ6_init_25 : decode cJ6_init 25 = .ok (.aload_n 0, 1) := dk_42 (dk_at dksJ6_init_1 3 rfl rfl)
theorem dJ6_init_26 : decode cJ6_init 26 = .ok (.iload_n 1, 1) := dk_27 (dk_at dksJ6_init_1 4 rfl rfl)
theorem dJ6_init_27 : decode cJ6_init 27 = .ok (.invokestatic 26, 3) := dk_184 0 26 (dk_at dksJ6_init_1 5 rfl rfl)
theorem dJ6_init_30 : decode cJ6_init 30 = .ok (.putfield 15, 3) := dk_181 0 15 (dk_at dksJ6_init_1 8 rfl rfl)
theorem dJ6_init_33 : decode cJ6_init 33 = .ok (.aload_n 0, 1) := dk_42 (dk_at dksJ6_init_1 11 rfl rfl)
theorem dJ6_init_34 : decode cJ6_init 34 = .ok (.iconst 1, 1) := dk_4 (dk_at dksJ6_init_1 12 rfl rfl)
theorem dJ6_init_35 : decode cJ6_init 35 = .ok (.putfield 22, 3) := dk_181 0 22 (dk_at dksJ6_init_1 13 rfl rfl)
theorem dJ6_init_38 : decode cJ6_init 38 = .ok (.return_, 1) := dk_177 (dk_at dksJ6_init_1 16 rfl rfl)
abbrev cJ6_append : ByteArray := prog_28_method_31_code
def yJ6_append : MethodName := ⟨RJ6, "append", "(C)Ljava/lang/AbstractStringBuilder;"⟩
def dkwJ6_append_3 : List UInt8 := [181, 0, 79, 27, 184, 0, 197, 42, 176]
abbrev dktJ6_append_3 : List UInt8 := dkwJ6_append_3 ++ []
def dkwJ6_append_2 : List UInt8 := [182, 0, 83, 153, 0, 7, 42, 182, 0, 195, 42, 180, 0, 15, 42, 89, 180, 0, 79, 90, 4, 96]
abbrev dktJ6_append_2 : List UInt8 := dkwJ6_append_2 ++ dktJ6_append_3
def dkwJ6_append_1 : List UInt8 := [42, 180, 0, 15, 42, 89, 180, 0, 79, 90, 4, 96, 181, 0, 79, 27, 145, 84, 167, 0, 33, 42]
abbrev dktJ6_append_1 : List UInt8 := dkwJ6_append_1 ++ dktJ6_append_2
def dkwJ6_append_0 : List UInt8 := [42, 42, 180, 0, 79, 4, 96, 182, 0, 100, 42, 182, 0, 83, 153, 0, 31, 27, 184, 0, 191, 153, 0, 24]
abbrev dktJ6_append_0 : List UInt8 := dkwJ6_append_0 ++ dktJ6_append_1
theorem dksJ6_append_0 : cJ6_append.data.toList.drop 0 = dktJ6_append_0 := by decide +kernel
theorem dksJ6_append_1 : cJ6_append.data.toList.drop 24 = dktJ6_append_1 := dk_seg dksJ6_append_0 24 rfl rfl
theorem dksJ6_append_2 : cJ6_append.data.toList.drop 46 = dktJ6_append_2 := dk_seg dksJ6_append_1 22 rfl rfl
theorem dksJ6_append_3 : cJ6_append.data.toList.drop 68 = dktJ6_append_3 := dk_seg dksJ6_append_2 22 rfl rfl
theorem dJ6_append_0 : decode cJ6_append 0 = .ok (.aload_n 0, 1) := dk_42 (dk_at dksJ6_append_0 0 rfl rfl)
theorem dJ6_append_1 : decode cJ6_append 1 = .ok (.aload_n 0, 1) := dk_42 (dk_at dksJ6_append_0 1 rfl rfl)
theorem dJ6_append_2 : decode cJ6_append 2 = .ok (.getfield 79, 3) := dk_180 0 79 (dk_at dksJ6_append_0 2 rfl rfl)
theorem dJ6_append_5 : decode cJ6_append 5 = .ok (.iconst 1, 1) := dk_4 (dk_at dksJ6_append_0 5 rfl rfl)
theorem dJ6_append_6 : decode cJ6_append 6 = .ok (.iadd, 1) := dk_96 (dk_at dksJ6_append_0 6 rfl rfl)
theorem dJ6_append_7 : decode cJ6_append 7 = .ok (.invokevirtual 100, 3) := dk_182 0 100 (dk_at dksJ6_append_0 7 rfl rfl)
theorem dJ6_append_10 : decode cJ6_append 10 = .ok (.aload_n 0, 1) := dk_42 (dk_at dksJ6_append_0 10 rfl rfl)
theorem dJ6_append_11 : decode cJ6_append 11 = .ok (.invokevirtual 83, 3) := dk_182 0 83 (dk_at dksJ6_append_0 11 rfl rfl)
theorem dJ6_append_14 : decode cJ6_append 14 = .ok (.ifCond .eq 31, 3) := dk_153 0 31 (dk_at dksJ6_append_0 14 rfl rfl)
theorem dJ6_append_17 : decode cJ6_append 17 = .ok (.iload_n 1, 1) := dk_27 (dk_at dksJ6_append_0 17 rfl rfl)
theorem dJ6_append_18 : decode cJ6_append 18 = .ok (.invokestatic 191, 3) := dk_184 0 191 (dk_at dksJ6_append_0 18 rfl rfl)
theorem dJ6_append_21 : decode cJ6_append 21 = .ok (.ifCond .eq 24, 3) := dk_153 0 24 (dk_at dksJ6_append_0 21 rfl rfl)
theorem dJ6_append_24 : decode cJ6_append 24 = .ok (.aload_n 0, 1) := dk_42 (dk_at dksJ6_append_1 0 rfl rfl)
theorem dJ6_append_25 : decode cJ6_append 25 = .ok (.getfield 15, 3) := dk_180 0 15 (dk_at dksJ6_append_1 1 rfl rfl)
theorem dJ6_append_28 : decode cJ6_append 28 = .ok (.aload_n 0, 1) := dk_42 (dk_at dksJ6_append_1 4 rfl rfl)
theorem dJ6_append_29 : decode cJ6_append 29 = .ok (.dup, 1) := dk_89 (dk_at dksJ6_append_1 5 rfl rfl)
theorem dJ6_append_30 : decode cJ6_append 30 = .ok (.getfield 79, 3) := dk_180 0 79 (dk_at dksJ6_append_1 6 rfl rfl)
theorem dJ6_append_33 : decode cJ6_append 33 = .ok (.dup_x1, 1) := dk_90 (dk_at dksJ6_append_1 9 rfl rfl)
theorem dJ6_append_34 : decode cJ6_append 34 = .ok (.iconst 1, 1) := dk_4 (dk_at dksJ6_append_1 10 rfl rfl)
theorem dJ6_append_35 : decode cJ6_append 35 = .ok (.iadd, 1) := dk_96 (dk_at dksJ6_append_1 11 rfl rfl)
theorem dJ6_append_36 : decode cJ6_append 36 = .ok (.putfield 79, 3) := dk_181 0 79 (dk_at dksJ6_append_1 12 rfl rfl)
theorem dJ6_append_39 : decode cJ6_append 39 = .ok (.iload_n 1, 1) := dk_27 (dk_at dksJ6_append_1 15 rfl rfl)
theorem dJ6_append_40 : decode cJ6_append 40 = .ok (.i2b, 1) := dk_145 (dk_at dksJ6_append_1 16 rfl rfl)
theorem dJ6_append_41 : decode cJ6_append 41 = .ok (.bastore, 1) := dk_84 (dk_at dksJ6_append_1 17 rfl rfl)
theorem dJ6_append_42 : decode cJ6_append 42 = .ok (.goto 33, 3) := dk_167 0 33 (dk_at dksJ6_append_1 18 rfl rfl)
theorem dJ6_append_45 : decode cJ6_append 45 = .ok (.aload_n 0, 1) := dk_42 (dk_at dksJ6_append_1 21 rfl rfl)
theorem dJ6_append_46 : decode cJ6_append 46 = .ok (.invokevirtual 83, 3) := dk_182 0 83 (dk_at dksJ6_append_2 0 rfl rfl)
theorem dJ6_append_49 : decode cJ6_append 49 = .ok (.ifCond .eq 7, 3) := dk_153 0 7 (dk_at dksJ6_append_2 3 rfl rfl)
theorem dJ6_append_52 : decode cJ6_append 52 = .ok (.aload_n 0, 1) := dk_42 (dk_at dksJ6_append_2 6 rfl rfl)
theorem dJ6_append_53 : decode cJ6_append 53 = .ok (.invokevirtual 195, 3) := dk_182 0 195 (dk_at dksJ6_append_2 7 rfl rfl)
theorem dJ6_append_56 : decode cJ6_append 56 = .ok (.aload_n 0, 1) := dk_42 (dk_at dksJ6_append_2 10 rfl rfl)
theorem dJ6_append_57 : decode cJ6_append 57 = .ok (.getfield 15, 3) := dk_180 0 15 (dk_at dksJ6_append_2 11 rfl rfl)
theorem dJ6_append_60 : decode cJ6_append 60 = .ok (.aload_n 0, 1) := dk_42 (dk_at dksJ6_append_2 14 rfl rfl)
theorem dJ6_append_61 : decode cJ6_append 61 = .ok (.dup, 1) := dk_89 (dk_at dksJ6_append_2 15 rfl rfl)
theorem dJ6_append_62 : decode cJ6_append 62 = .ok (.getfield 79, 3) := dk_180 0 79 (dk_at dksJ6_append_2 16 rfl rfl)
theorem dJ6_append_65 : decode cJ6_append 65 = .ok (.dup_x1, 1) := dk_90 (dk_at dksJ6_append_2 19 rfl rfl)
theorem dJ6_append_66 : decode cJ6_append 66 = .ok (.iconst 1, 1) := dk_4 (dk_at dksJ6_append_2 20 rfl rfl)
theorem dJ6_append_67 : decode cJ6_append 67 = .ok (.iadd, 1) := dk_96 (dk_at dksJ6_append_2 21 rfl rfl)
theorem dJ6_append_68 : decode cJ6_append 68 = .ok (.putfield 79, 3) := dk_181 0 79 (dk_at dksJ6_append_3 0 rfl rfl)
theorem dJ6_append_71 : decode cJ6_append 71 = .ok (.iload_n 1, 1) := dk_27 (dk_at dksJ6_append_3 3 rfl rfl)
theorem dJ6_append_72 : decode cJ6_append 72 = .ok (.invokestatic 197, 3) := dk_184 0 197 (dk_at dksJ6_append_3 4 rfl rfl)
theorem dJ6_append_75 : decode cJ6_append 75 = .ok (.aload_n 0, 1) := dk_42 (dk_at dksJ6_append_3 7 rfl rfl)
theorem dJ6_append_76 : decode cJ6_append 76 = .ok (.areturn, 1) := dk_176 (dk_at dksJ6_append_3 8 rfl rfl)
abbrev cJ6_ensureCapacityInternal : ByteArray := prog_28_method_9_code
def yJ6_ensureCapacityInternal : MethodName := ⟨RJ6, "ensureCapacityInternal", "(I)V"⟩
def dkwJ6_ensureCapacityInternal_1 : List UInt8 := [182, 0, 104, 42, 180, 0, 22, 120, 184, 0, 108, 181, 0, 15, 177]
abbrev dktJ6_ensureCapacityInternal_1 : List UInt8 := dkwJ6_ensureCapacityInternal_1 ++ []
def dkwJ6_ensureCapacityInternal_0 : List UInt8 := [42, 180, 0, 15, 190, 42, 180, 0, 22, 122, 61, 27, 28, 100, 158, 0, 24, 42, 42, 180, 0, 15, 42, 27]
abbrev dktJ6_ensureCapacityInternal_0 : List UInt8 := dkwJ6_ensureCapacityInternal_0 ++ dktJ6_ensureCapacityInternal_1
theorem dksJ6_ensureCapacityInternal_0 : cJ6_ensureCapacityInternal.data.toList.drop 0 = dktJ6_ensureCapacityInternal_0 := by decide +kernel
theorem dksJ6_ensureCapacityInternal_1 : cJ6_ensureCapacityInternal.data.toList.drop 24 = dktJ6_ensureCapacityInternal_1 := dk_seg dksJ6_ensureCapacityInternal_0 24 rfl rfl
theorem dJ6_ensureCapacityInternal_0 : decode cJ6_ensureCapacityInternal 0 = .ok (.aload_n 0, 1) := dk_42 (dk_at dksJ6_ensureCapacityInternal_0 0 rfl rfl)
theorem dJ6_ensureCapacityInternal_1 : decode cJ6_ensureCapacityInternal 1 = .ok (.getfield 15, 3) := dk_180 0 15 (dk_at dksJ6_ensureCapacityInternal_0 1 rfl rfl)
theorem dJ6_ensureCapacityInternal_4 : decode cJ6_ensureCapacityInternal 4 = .ok (.arraylength, 1) := dk_190 (dk_at dksJ6_ensureCapacityInternal_0 4 rfl rfl)
theorem dJ6_ensureCapacityInternal_5 : decode cJ6_ensureCapacityInternal 5 = .ok (.aload_n 0, 1) := dk_42 (dk_at dksJ6_ensureCapacityInternal_0 5 rfl rfl)
theorem dJ6_ensureCapacityInternal_6 : decode cJ6_ensureCapacityInternal 6 = .ok (.getfield 22, 3) := dk_180 0 22 (dk_at dksJ6_ensureCapacityInternal_0 6 rfl rfl)
theorem dJ6_ensureCapacityInternal_9 : decode cJ6_ensureCapacityInternal 9 = .ok (.ishr, 1) := dk_122 (dk_at dksJ6_ensureCapacityInternal_0 9 rfl rfl)
theorem dJ6_ensureCapacityInternal_10 : decode cJ6_ensureCapacityInternal 10 = .ok (.istore_n 2, 1) := dk_61 (dk_at dksJ6_ensureCapacityInternal_0 10 rfl rfl)
theorem dJ6_ensureCapacityInternal_11 : decode cJ6_ensureCapacityInternal 11 = .ok (.iload_n 1, 1) := dk_27 (dk_at dksJ6_ensureCapacityInternal_0 11 rfl rfl)
theorem dJ6_ensureCapacityInternal_12 : decode cJ6_ensureCapacityInternal 12 = .ok (.iload_n 2, 1) := dk_28 (dk_at dksJ6_ensureCapacityInternal_0 12 rfl rfl)
theorem dJ6_ensureCapacityInternal_13 : decode cJ6_ensureCapacityInternal 13 = .ok (.isub, 1) := dk_100 (dk_at dksJ6_ensureCapacityInternal_0 13 rfl rfl)
theorem dJ6_ensureCapacityInternal_14 : decode cJ6_ensureCapacityInternal 14 = .ok (.ifCond .le 24, 3) := dk_158 0 24 (dk_at dksJ6_ensureCapacityInternal_0 14 rfl rfl)
theorem dJ6_ensureCapacityInternal_17 : decode cJ6_ensureCapacityInternal 17 = .ok (.aload_n 0, 1) := dk_42 (dk_at dksJ6_ensureCapacityInternal_0 17 rfl rfl)
theorem dJ6_ensureCapacityInternal_18 : decode cJ6_ensureCapacityInternal 18 = .ok (.aload_n 0, 1) := dk_42 (dk_at dksJ6_ensureCapacityInternal_0 18 rfl rfl)
theorem dJ6_ensureCapacityInternal_19 : decode cJ6_ensureCapacityInternal 19 = .ok (.getfield 15, 3) := dk_180 0 15 (dk_at dksJ6_ensureCapacityInternal_0 19 rfl rfl)
theorem dJ6_ensureCapacityInternal_22 : decode cJ6_ensureCapacityInternal 22 = .ok (.aload_n 0, 1) := dk_42 (dk_at dksJ6_ensureCapacityInternal_0 22 rfl rfl)
theorem dJ6_ensureCapacityInternal_23 : decode cJ6_ensureCapacityInternal 23 = .ok (.iload_n 1, 1) := dk_27 (dk_at dksJ6_ensureCapacityInternal_0 23 rfl rfl)
theorem dJ6_ensureCapacityInternal_24 : decode cJ6_ensureCapacityInternal 24 = .ok (.invokevirtual 104, 3) := dk_182 0 104 (dk_at dksJ6_ensureCapacityInternal_1 0 rfl rfl)
theorem dJ6_ensureCapacityInternal_27 : decode cJ6_ensureCapacityInternal 27 = .ok (.aload_n 0, 1) := dk_42 (dk_at dksJ6_ensureCapacityInternal_1 3 rfl rfl)
theorem dJ6_ensureCapacityInternal_28 : decode cJ6_ensureCapacityInternal 28 = .ok (.getfield 22, 3) := dk_180 0 22 (dk_at dksJ6_ensureCapacityInternal_1 4 rfl rfl)
theorem dJ6_ensureCapacityInternal_31 : decode cJ6_ensureCapacityInternal 31 = .ok (.ishl, 1) := dk_120 (dk_at dksJ6_ensureCapacityInternal_1 7 rfl rfl)
theorem dJ6_ensureCapacityInternal_32 : decode cJ6_ensureCapacityInternal 32 = .ok (.invokestatic 108, 3) := dk_184 0 108 (dk_at dksJ6_ensureCapacityInternal_1 8 rfl rfl)
theorem dJ6_ensureCapacityInternal_35 : decode cJ6_ensureCapacityInternal 35 = .ok (.putfield 15, 3) := dk_181 0 15 (dk_at dksJ6_ensureCapacityInternal_1 11 rfl rfl)
theorem dJ6_ensureCapacityInternal_38 : decode cJ6_ensureCapacityInternal 38 = .ok (.return_, 1) := dk_177 (dk_at dksJ6_ensureCapacityInternal_1 14 rfl rfl)
abbrev cJ6_newCapacity : ByteArray := prog_28_method_10_code
def yJ6_newCapacity : MethodName := ⟨RJ6, "newCapacity", "(I)I"⟩
def dkwJ6_newCapacity_2 : List UInt8 := [183, 0, 124, 191, 21, 5, 42, 180, 0, 22, 122, 172]
abbrev dktJ6_newCapacity_2 : List UInt8 := dkwJ6_newCapacity_2 ++ []
def dkwJ6_newCapacity_1 : List UInt8 := [180, 0, 22, 120, 96, 184, 0, 114, 54, 5, 21, 5, 18, 39, 160, 0, 13, 187, 0, 120, 89, 18, 122]
abbrev dktJ6_newCapacity_1 : List UInt8 := dkwJ6_newCapacity_1 ++ dktJ6_newCapacity_2
def dkwJ6_newCapacity_0 : List UInt8 := [42, 180, 0, 15, 190, 61, 27, 42, 180, 0, 22, 120, 62, 29, 28, 100, 54, 4, 28, 21, 4, 28, 5, 42]
abbrev dktJ6_newCapacity_0 : List UInt8 := dkwJ6_newCapacity_0 ++ dktJ6_newCapacity_1
theorem dksJ6_newCapacity_0 : cJ6_newCapacity.data.toList.drop 0 = dktJ6_newCapacity_0 := by decide +kernel
theorem dksJ6_newCapacity_1 : cJ6_newCapacity.data.toList.drop 24 = dktJ6_newCapacity_1 := dk_seg dksJ6_newCapacity_0 24 rfl rfl
theorem dksJ6_newCapacity_2 : cJ6_newCapacity.data.toList.drop 47 = dktJ6_newCapacity_2 := dk_seg dksJ6_newCapacity_1 23 rfl rfl
theorem dJ6_newCapacity_0 : decode cJ6_newCapacity 0 = .ok (.aload_n 0, 1) := dk_42 (dk_at dksJ6_newCapacity_0 0 rfl rfl)
theorem dJ6_newCapacity_1 : decode cJ6_newCapacity 1 = .ok (.getfield 15, 3) := dk_180 0 15 (dk_at dksJ6_newCapacity_0 1 rfl rfl)
theorem dJ6_newCapacity_4 : decode cJ6_newCapacity 4 = .ok (.arraylength, 1) := dk_190 (dk_at dksJ6_newCapacity_0 4 rfl rfl)
theorem dJ6_newCapacity_5 : decode cJ6_newCapacity 5 = .ok (.istore_n 2, 1) := dk_61 (dk_at dksJ6_newCapacity_0 5 rfl rfl)
theorem dJ6_newCapacity_6 : decode cJ6_newCapacity 6 = .ok (.iload_n 1, 1) := dk_27 (dk_at dksJ6_newCapacity_0 6 rfl rfl)
theorem dJ6_newCapacity_7 : decode cJ6_newCapacity 7 = .ok (.aload_n 0, 1) := dk_42 (dk_at dksJ6_newCapacity_0 7 rfl rfl)
theorem dJ6_newCapacity_8 : decode cJ6_newCapacity 8 = .ok (.getfield 22, 3) := dk_180 0 22 (dk_at dksJ6_newCapacity_0 8 rfl rfl)
theorem dJ6_newCapacity_11 : decode cJ6_newCapacity 11 = .ok (.ishl, 1) := dk_120 (dk_at dksJ6_newCapacity_0 11 rfl rfl)
theorem dJ6_newCapacity_12 : decode cJ6_newCapacity 12 = .ok (.istore_n 3, 1) := dk_62 (dk_at dksJ6_newCapacity_0 12 rfl rfl)
theorem dJ6_newCapacity_13 : decode cJ6_newCapacity 13 = .ok (.iload_n 3, 1) := dk_29 (dk_at dksJ6_newCapacity_0 13 rfl rfl)
theorem dJ6_newCapacity_14 : decode cJ6_newCapacity 14 = .ok (.iload_n 2, 1) := dk_28 (dk_at dksJ6_newCapacity_0 14 rfl rfl)
theorem dJ6_newCapacity_15 : decode cJ6_newCapacity 15 = .ok (.isub, 1) := dk_100 (dk_at dksJ6_newCapacity_0 15 rfl rfl)
theorem dJ6_newCapacity_16 : decode cJ6_newCapacity 16 = .ok (.istore 4, 2) := dk_54 4 (dk_at dksJ6_newCapacity_0 16 rfl rfl)
theorem dJ6_newCapacity_18 : decode cJ6_newCapacity 18 = .ok (.iload_n 2, 1) := dk_28 (dk_at dksJ6_newCapacity_0 18 rfl rfl)
theorem dJ6_newCapacity_19 : decode cJ6_newCapacity 19 = .ok (.iload 4, 2) := dk_21 4 (dk_at dksJ6_newCapacity_0 19 rfl rfl)
theorem dJ6_newCapacity_21 : decode cJ6_newCapacity 21 = .ok (.iload_n 2, 1) := dk_28 (dk_at dksJ6_newCapacity_0 21 rfl rfl)
theorem dJ6_newCapacity_22 : decode cJ6_newCapacity 22 = .ok (.iconst 2, 1) := dk_5 (dk_at dksJ6_newCapacity_0 22 rfl rfl)
theorem dJ6_newCapacity_23 : decode cJ6_newCapacity 23 = .ok (.aload_n 0, 1) := dk_42 (dk_at dksJ6_newCapacity_0 23 rfl rfl)
theorem dJ6_newCapacity_24 : decode cJ6_newCapacity 24 = .ok (.getfield 22, 3) := dk_180 0 22 (dk_at dksJ6_newCapacity_1 0 rfl rfl)
theorem dJ6_newCapacity_27 : decode cJ6_newCapacity 27 = .ok (.ishl, 1) := dk_120 (dk_at dksJ6_newCapacity_1 3 rfl rfl)
theorem dJ6_newCapacity_28 : decode cJ6_newCapacity 28 = .ok (.iadd, 1) := dk_96 (dk_at dksJ6_newCapacity_1 4 rfl rfl)
theorem dJ6_newCapacity_29 : decode cJ6_newCapacity 29 = .ok (.invokestatic 114, 3) := dk_184 0 114 (dk_at dksJ6_newCapacity_1 5 rfl rfl)
theorem dJ6_newCapacity_32 : decode cJ6_newCapacity 32 = .ok (.istore 5, 2) := dk_54 5 (dk_at dksJ6_newCapacity_1 8 rfl rfl)
theorem dJ6_newCapacity_34 : decode cJ6_newCapacity 34 = .ok (.iload 5, 2) := dk_21 5 (dk_at dksJ6_newCapacity_1 10 rfl rfl)
theorem dJ6_newCapacity_36 : decode cJ6_newCapacity 36 = .ok (.ldc 39, 2) := dk_18 39 (dk_at dksJ6_newCapacity_1 12 rfl rfl)
theorem dJ6_newCapacity_38 : decode cJ6_newCapacity 38 = .ok (.if_icmp .ne 13, 3) := dk_160 0 13 (dk_at dksJ6_newCapacity_1 14 rfl rfl)
theorem dJ6_newCapacity_41 : decode cJ6_newCapacity 41 = .ok (.new 120, 3) := dk_187 0 120 (dk_at dksJ6_newCapacity_1 17 rfl rfl)
theorem dJ6_newCapacity_44 : decode cJ6_newCapacity 44 = .ok (.dup, 1) := dk_89 (dk_at dksJ6_newCapacity_1 20 rfl rfl)
theorem dJ6_newCapacity_45 : decode cJ6_newCapacity 45 = .ok (.ldc 122, 2) := dk_18 122 (dk_at dksJ6_newCapacity_1 21 rfl rfl)
theorem dJ6_newCapacity_47 : decode cJ6_newCapacity 47 = .ok (.invokespecial 124, 3) := dk_183 0 124 (dk_at dksJ6_newCapacity_2 0 rfl rfl)
theorem dJ6_newCapacity_50 : decode cJ6_newCapacity 50 = .ok (.athrow, 1) := dk_191 (dk_at dksJ6_newCapacity_2 3 rfl rfl)
theorem dJ6_newCapacity_51 : decode cJ6_newCapacity 51 = .ok (.iload 5, 2) := dk_21 5 (dk_at dksJ6_newCapacity_2 4 rfl rfl)
theorem dJ6_newCapacity_53 : decode cJ6_newCapacity 53 = .ok (.aload_n 0, 1) := dk_42 (dk_at dksJ6_newCapacity_2 6 rfl rfl)
theorem dJ6_newCapacity_54 : decode cJ6_newCapacity 54 = .ok (.getfield 22, 3) := dk_180 0 22 (dk_at dksJ6_newCapacity_2 7 rfl rfl)
theorem dJ6_newCapacity_57 : decode cJ6_newCapacity 57 = .ok (.ishr, 1) := dk_122 (dk_at dksJ6_newCapacity_2 10 rfl rfl)
theorem dJ6_newCapacity_58 : decode cJ6_newCapacity 58 = .ok (.ireturn, 1) := dk_172 (dk_at dksJ6_newCapacity_2 11 rfl rfl)
abbrev cJ6_isLatin1 : ByteArray := prog_28_method_68_code
def yJ6_isLatin1 : MethodName := ⟨RJ6, "isLatin1", "()Z"⟩
def dkwJ6_isLatin1_0 : List UInt8 := [178, 0, 18, 153, 0, 14, 42, 180, 0, 22, 154, 0, 7, 4, 167, 0, 4, 3, 172]
abbrev dktJ6_isLatin1_0 : List UInt8 := dkwJ6_isLatin1_0 ++ []
theorem dksJ6_isLatin1_0 : cJ6_isLatin1.data.toList.drop 0 = dktJ6_isLatin1_0 := by decide +kernel
theorem dJ6_isLatin1_0 : decode cJ6_isLatin1 0 = .ok (.getstatic 18, 3) := dk_178 0 18 (dk_at dksJ6_isLatin1_0 0 rfl rfl)
theorem dJ6_isLatin1_3 : decode cJ6_isLatin1 3 = .ok (.ifCond .eq 14, 3) := dk_153 0 14 (dk_at dksJ6_isLatin1_0 3 rfl rfl)
theorem dJ6_isLatin1_6 : decode cJ6_isLatin1 6 = .ok (.aload_n 0, 1) := dk_42 (dk_at dksJ6_isLatin1_0 6 rfl rfl)
theorem dJ6_isLatin1_7 : decode cJ6_isLatin1 7 = .ok (.getfield 22, 3) := dk_180 0 22 (dk_at dksJ6_isLatin1_0 7 rfl rfl)
theorem dJ6_isLatin1_10 : decode cJ6_isLatin1 10 = .ok (.ifCond .ne 7, 3) := dk_154 0 7 (dk_at dksJ6_isLatin1_0 10 rfl rfl)
theorem dJ6_isLatin1_13 : decode cJ6_isLatin1 13 = .ok (.iconst 1, 1) := dk_4 (dk_at dksJ6_isLatin1_0 13 rfl rfl)
theorem dJ6_isLatin1_14 : decode cJ6_isLatin1 14 = .ok (.goto 4, 3) := dk_167 0 4 (dk_at dksJ6_isLatin1_0 14 rfl rfl)
theorem dJ6_isLatin1_17 : decode cJ6_isLatin1 17 = .ok (.iconst 0, 1) := dk_3 (dk_at dksJ6_isLatin1_0 17 rfl rfl)
theorem dJ6_isLatin1_18 : decode cJ6_isLatin1 18 = .ok (.ireturn, 1) := dk_172 (dk_at dksJ6_isLatin1_0 18 rfl rfl)
abbrev cJ6_inflate : ByteArray := prog_28_method_11_code
def yJ6_inflate : MethodName := ⟨RJ6, "inflate", "()V"⟩
def dkwJ6_inflate_1 : List UInt8 := [42, 180, 0, 79, 184, 0, 125, 42, 43, 181, 0, 15, 42, 4, 181, 0, 22, 177]
abbrev dktJ6_inflate_1 : List UInt8 := dkwJ6_inflate_1 ++ []
def dkwJ6_inflate_0 : List UInt8 := [42, 182, 0, 83, 154, 0, 4, 177, 42, 180, 0, 15, 190, 184, 0, 26, 76, 42, 180, 0, 15, 3, 43, 3]
abbrev dktJ6_inflate_0 : List UInt8 := dkwJ6_inflate_0 ++ dktJ6_inflate_1
theorem dksJ6_inflate_0 : cJ6_inflate.data.toList.drop 0 = dktJ6_inflate_0 := by decide +kernel
theorem dksJ6_inflate_1 : cJ6_inflate.data.toList.drop 24 = dktJ6_inflate_1 := dk_seg dksJ6_inflate_0 24 rfl rfl
theorem dJ6_inflate_0 : decode cJ6_inflate 0 = .ok (.aload_n 0, 1) := dk_42 (dk_at dksJ6_inflate_0 0 rfl rfl)
theorem dJ6_inflate_1 : decode cJ6_inflate 1 = .ok (.invokevirtual 83, 3) := dk_182 0 83 (dk_at dksJ6_inflate_0 1 rfl rfl)
theorem dJ6_inflate_4 : decode cJ6_inflate 4 = .ok (.ifCond .ne 4, 3) := dk_154 0 4 (dk_at dksJ6_inflate_0 4 rfl rfl)
theorem dJ6_inflate_7 : decode cJ6_inflate 7 = .ok (.return_, 1) := dk_177 (dk_at dksJ6_inflate_0 7 rfl rfl)
theorem dJ6_inflate_8 : decode cJ6_inflate 8 = .ok (.aload_n 0, 1) := dk_42 (dk_at dksJ6_inflate_0 8 rfl rfl)
theorem dJ6_inflate_9 : decode cJ6_inflate 9 = .ok (.getfield 15, 3) := dk_180 0 15 (dk_at dksJ6_inflate_0 9 rfl rfl)
theorem dJ6_inflate_12 : decode cJ6_inflate 12 = .ok (.arraylength, 1) := dk_190 (dk_at dksJ6_inflate_0 12 rfl rfl)
theorem dJ6_inflate_13 : decode cJ6_inflate 13 = .ok (.invokestatic 26, 3) := dk_184 0 26 (dk_at dksJ6_inflate_0 13 rfl rfl)
theorem dJ6_inflate_16 : decode cJ6_inflate 16 = .ok (.astore_n 1, 1) := dk_76 (dk_at dksJ6_inflate_0 16 rfl rfl)
theorem dJ6_inflate_17 : decode cJ6_inflate 17 = .ok (.aload_n 0, 1) := dk_42 (dk_at dksJ6_inflate_0 17 rfl rfl)
theorem dJ6_inflate_18 : decode cJ6_inflate 18 = .ok (.getfield 15, 3) := dk_180 0 15 (dk_at dksJ6_inflate_0 18 rfl rfl)
theorem dJ6_inflate_21 : decode cJ6_inflate 21 = .ok (.iconst 0, 1) := dk_3 (dk_at dksJ6_inflate_0 21 rfl rfl)
theorem dJ6_inflate_22 : decode cJ6_inflate 22 = .ok (.aload_n 1, 1) := dk_43 (dk_at dksJ6_inflate_0 22 rfl rfl)
theorem dJ6_inflate_23 : decode cJ6_inflate 23 = .ok (.iconst 0, 1) := dk_3 (dk_at dksJ6_inflate_0 23 rfl rfl)
theorem dJ6_inflate_24 : decode cJ6_inflate 24 = .ok (.aload_n 0, 1) := dk_42 (dk_at dksJ6_inflate_1 0 rfl rfl)
theorem dJ6_inflate_25 : decode cJ6_inflate 25 = .ok (.getfield 79, 3) := dk_180 0 79 (dk_at dksJ6_inflate_1 1 rfl rfl)
theorem dJ6_inflate_28 : decode cJ6_inflate 28 = .ok (.invokestatic 125, 3) := dk_184 0 125 (dk_at dksJ6_inflate_1 4 rfl rfl)
theorem dJ6_inflate_31 : decode cJ6_inflate 31 = .ok (.aload_n 0, 1) := dk_42 (dk_at dksJ6_inflate_1 7 rfl rfl)
theorem dJ6_inflate_32 : decode cJ6_inflate 32 = .ok (.aload_n 1, 1) := dk_43 (dk_at dksJ6_inflate_1 8 rfl rfl)
theorem dJ6_inflate_33 : decode cJ6_inflate 33 = .ok (.putfield 15, 3) := dk_181 0 15 (dk_at dksJ6_inflate_1 9 rfl rfl)
theorem dJ6_inflate_36 : decode cJ6_inflate 36 = .ok (.aload_n 0, 1) := dk_42 (dk_at dksJ6_inflate_1 12 rfl rfl)
theorem dJ6_inflate_37 : decode cJ6_inflate 37 = .ok (.iconst 1, 1) := dk_4 (dk_at dksJ6_inflate_1 13 rfl rfl)
theorem dJ6_inflate_38 : decode cJ6_inflate 38 = .ok (.putfield 22, 3) := dk_181 0 22 (dk_at dksJ6_inflate_1 14 rfl rfl)
theorem dJ6_inflate_41 : decode cJ6_inflate 41 = .ok (.return_, 1) := dk_177 (dk_at dksJ6_inflate_1 17 rfl rfl)
abbrev cJ6_getValue : ByteArray := prog_28_method_64_code
def yJ6_getValue : MethodName := ⟨RJ6, "getValue", "()[B"⟩
theorem dJ6_getValue_0 : decode cJ6_getValue 0 = .ok (.aload_n 0, 1) := by decide +kernel
theorem dJ6_getValue_1 : decode cJ6_getValue 1 = .ok (.getfield 15, 3) := by decide +kernel
theorem dJ6_getValue_4 : decode cJ6_getValue 4 = .ok (.areturn, 1) := by decide +kernel
abbrev cJ6_length : ByteArray := prog_28_method_6_code
def yJ6_length : MethodName := ⟨RJ6, "length", "()I"⟩
theorem dJ6_length_0 : decode cJ6_length 0 = .ok (.aload_n 0, 1) := by decide +kernel
theorem dJ6_length_1 : decode cJ6_length 1 = .ok (.getfield 79, 3) := by decide +kernel
theorem dJ6_length_4 : decode cJ6_length 4 = .ok (.ireturn, 1) := by decide +kernel
abbrev cJ6_append_2 : ByteArray := prog_28_method_22_code
def yJ6_append_2 : MethodName := ⟨RJ6, "append", "(Ljava/lang/String;)Ljava/lang/AbstractStringBuilder;"⟩
def dkwJ6_append_2_1 : List UInt8 := [42, 42, 180, 0, 79, 43, 182, 0, 208, 42, 89, 180, 0, 79, 28, 96, 181, 0, 79, 42, 176]
abbrev dktJ6_append_2_1 : List UInt8 := dkwJ6_append_2_1 ++ []
def dkwJ6_append_2_0 : List UInt8 := [43, 199, 0, 8, 42, 182, 0, 204, 176, 43, 182, 0, 32, 61, 42, 42, 180, 0, 79, 28, 96, 182, 0, 100]
abbrev dktJ6_append_2_0 : List UInt8 := dkwJ6_append_2_0 ++ dktJ6_append_2_1
theorem dksJ6_append_2_0 : cJ6_append_2.data.toList.drop 0 = dktJ6_append_2_0 := by decide +kernel
theorem dksJ6_append_2_1 : cJ6_append_2.data.toList.drop 24 = dktJ6_append_2_1 := dk_seg dksJ6_append_2_0 24 rfl rfl
theorem dJ6_append_2_0 : decode cJ6_append_2 0 = .ok (.aload_n 1, 1) := dk_43 (dk_at dksJ6_append_2_0 0 rfl rfl)
theorem dJ6_append_2_1 : decode cJ6_append_2 1 = .ok (.ifnonnull 8, 3) := dk_199 0 8 (dk_at dksJ6_append_2_0 1 rfl rfl)
theorem dJ6_append_2_4 : decode cJ6_append_2 4 = .ok (.aload_n 0, 1) := dk_42 (dk_at dksJ6_append_2_0 4 rfl rfl)
theorem dJ6_append_2_5 : decode cJ6_append_2 5 = .ok (.invokevirtual 204, 3) := dk_182 0 204 (dk_at dksJ6_append_2_0 5 rfl rfl)
theorem dJ6_append_2_8 : decode cJ6_append_2 8 = .ok (.areturn, 1) := dk_176 (dk_at dksJ6_append_2_0 8 rfl rfl)
theorem dJ6_append_2_9 : decode cJ6_append_2 9 = .ok (.aload_n 1, 1) := dk_43 (dk_at dksJ6_append_2_0 9 rfl rfl)
theorem dJ6_append_2_10 : decode cJ6_append_2 10 = .ok (.invokevirtual 32, 3) := dk_182 0 32 (dk_at dksJ6_append_2_0 10 rfl rfl)
theorem dJ6_append_2_13 : decode cJ6_append_2 13 = .ok (.istore_n 2, 1) := dk_61 (dk_at dksJ6_append_2_0 13 rfl rfl)
theorem dJ6_append_2_14 : decode cJ6_append_2 14 = .ok (.aload_n 0, 1) := dk_42 (dk_at dksJ6_append_2_0 14 rfl rfl)
theorem dJ6_append_2_15 : decode cJ6_append_2 15 = .ok (.aload_n 0, 1) := dk_42 (dk_at dksJ6_append_2_0 15 rfl rfl)
theorem dJ6_append_2_16 : decode cJ6_append_2 16 = .ok (.getfield 79, 3) := dk_180 0 79 (dk_at dksJ6_append_2_0 16 rfl rfl)
theorem dJ6_append_2_19 : decode cJ6_append_2 19 = .ok (.iload_n 2, 1) := dk_28 (dk_at dksJ6_append_2_0 19 rfl rfl)
theorem dJ6_append_2_20 : decode cJ6_append_2 20 = .ok (.iadd, 1) := dk_96 (dk_at dksJ6_append_2_0 20 rfl rfl)
theorem dJ6_append_2_21 : decode cJ6_append_2 21 = .ok (.invokevirtual 100, 3) := dk_182 0 100 (dk_at dksJ6_append_2_0 21 rfl rfl)
theorem dJ6_append_2_24 : decode cJ6_append_2 24 = .ok (.aload_n 0, 1) := dk_42 (dk_at dksJ6_append_2_1 0 rfl rfl)
theorem dJ6_append_2_25 : decode cJ6_append_2 25 = .ok (.aload_n 0, 1) := dk_42 (dk_at dksJ6_append_2_1 1 rfl rfl)
theorem dJ6_append_2_26 : decode cJ6_append_2 26 = .ok (.getfield 79, 3) := dk_180 0 79 (dk_at dksJ6_append_2_1 2 rfl rfl)
theorem dJ6_append_2_29 : decode cJ6_append_2 29 = .ok (.aload_n 1, 1) := dk_43 (dk_at dksJ6_append_2_1 5 rfl rfl)
theorem dJ6_append_2_30 : decode cJ6_append_2 30 = .ok (.invokevirtual 208, 3) := dk_182 0 208 (dk_at dksJ6_append_2_1 6 rfl rfl)
theorem dJ6_append_2_33 : decode cJ6_append_2 33 = .ok (.aload_n 0, 1) := dk_42 (dk_at dksJ6_append_2_1 9 rfl rfl)
theorem dJ6_append_2_34 : decode cJ6_append_2 34 = .ok (.dup, 1) := dk_89 (dk_at dksJ6_append_2_1 10 rfl rfl)
theorem dJ6_append_2_35 : decode cJ6_append_2 35 = .ok (.getfield 79, 3) := dk_180 0 79 (dk_at dksJ6_append_2_1 11 rfl rfl)
theorem dJ6_append_2_38 : decode cJ6_append_2 38 = .ok (.iload_n 2, 1) := dk_28 (dk_at dksJ6_append_2_1 14 rfl rfl)
theorem dJ6_append_2_39 : decode cJ6_append_2 39 = .ok (.iadd, 1) := dk_96 (dk_at dksJ6_append_2_1 15 rfl rfl)
theorem dJ6_append_2_40 : decode cJ6_append_2 40 = .ok (.putfield 79, 3) := dk_181 0 79 (dk_at dksJ6_append_2_1 16 rfl rfl)
theorem dJ6_append_2_43 : decode cJ6_append_2 43 = .ok (.aload_n 0, 1) := dk_42 (dk_at dksJ6_append_2_1 19 rfl rfl)
theorem dJ6_append_2_44 : decode cJ6_append_2 44 = .ok (.areturn, 1) := dk_176 (dk_at dksJ6_append_2_1 20 rfl rfl)
abbrev cJ6_appendNull : ByteArray := prog_28_method_26_code
def yJ6_appendNull : MethodName := ⟨RJ6, "appendNull", "()Ljava/lang/AbstractStringBuilder;"⟩
def dkwJ6_appendNull_3 : List UInt8 := [184, 0, 226, 60, 42, 27, 181, 0, 79, 42, 176]
abbrev dktJ6_appendNull_3 : List UInt8 := dkwJ6_appendNull_3 ++ []
def dkwJ6_appendNull_2 : List UInt8 := [16, 108, 84, 44, 27, 132, 1, 1, 16, 108, 84, 167, 0, 17, 44, 27, 16, 110, 16, 117, 16, 108, 16, 108]
abbrev dktJ6_appendNull_2 : List UInt8 := dkwJ6_appendNull_2 ++ dktJ6_appendNull_3
def dkwJ6_appendNull_1 : List UInt8 := [153, 0, 38, 44, 27, 132, 1, 1, 16, 110, 84, 44, 27, 132, 1, 1, 16, 117, 84, 44, 27, 132, 1, 1]
abbrev dktJ6_appendNull_1 : List UInt8 := dkwJ6_appendNull_1 ++ dktJ6_appendNull_2
def dkwJ6_appendNull_0 : List UInt8 := [42, 42, 180, 0, 79, 7, 96, 182, 0, 100, 42, 180, 0, 79, 60, 42, 180, 0, 15, 77, 42, 182, 0, 83]
abbrev dktJ6_appendNull_0 : List UInt8 := dkwJ6_appendNull_0 ++ dktJ6_appendNull_1
theorem dksJ6_appendNull_0 : cJ6_appendNull.data.toList.drop 0 = dktJ6_appendNull_0 := by decide +kernel
theorem dksJ6_appendNull_1 : cJ6_appendNull.data.toList.drop 24 = dktJ6_appendNull_1 := dk_seg dksJ6_appendNull_0 24 rfl rfl
theorem dksJ6_appendNull_2 : cJ6_appendNull.data.toList.drop 48 = dktJ6_appendNull_2 := dk_seg dksJ6_appendNull_1 24 rfl rfl
theorem dksJ6_appendNull_3 : cJ6_appendNull.data.toList.drop 72 = dktJ6_appendNull_3 := dk_seg dksJ6_appendNull_2 24 rfl rfl
theorem dJ6_appendNull_0 : decode cJ6_appendNull 0 = .ok (.aload_n 0, 1) := dk_42 (dk_at dksJ6_appendNull_0 0 rfl rfl)
theorem dJ6_appendNull_1 : decode cJ6_appendNull 1 = .ok (.aload_n 0, 1) := dk_42 (dk_at dksJ6_appendNull_0 1 rfl rfl)
theorem dJ6_appendNull_2 : decode cJ6_appendNull 2 = .ok (.getfield 79, 3) := dk_180 0 79 (dk_at dksJ6_appendNull_0 2 rfl rfl)
theorem dJ6_appendNull_5 : decode cJ6_appendNull 5 = .ok (.iconst 4, 1) := dk_7 (dk_at dksJ6_appendNull_0 5 rfl rfl)
theorem dJ6_appendNull_6 : decode cJ6_appendNull 6 = .ok (.iadd, 1) := dk_96 (dk_at dksJ6_appendNull_0 6 rfl rfl)
theorem dJ6_appendNull_7 : decode cJ6_appendNull 7 = .ok (.invokevirtual 100, 3) := dk_182 0 100 (dk_at dksJ6_appendNull_0 7 rfl rfl)
theorem dJ6_appendNull_10 : decode cJ6_appendNull 10 = .ok (.aload_n 0, 1) := dk_42 (dk_at dksJ6_appendNull_0 10 rfl rfl)
theorem dJ6_appendNull_11 : decode cJ6_appendNull 11 = .ok (.getfield 79, 3) := dk_180 0 79 (dk_at dksJ6_appendNull_0 11 rfl rfl)
theorem dJ6_appendNull_14 : decode cJ6_appendNull 14 = .ok (.istore_n 1, 1) := dk_60 (dk_at dksJ6_appendNull_0 14 rfl rfl)
theorem dJ6_appendNull_15 : decode cJ6_appendNull 15 = .ok (.aload_n 0, 1) := dk_42 (dk_at dksJ6_appendNull_0 15 rfl rfl)
theorem dJ6_appendNull_16 : decode cJ6_appendNull 16 = .ok (.getfield 15, 3) := dk_180 0 15 (dk_at dksJ6_appendNull_0 16 rfl rfl)
theorem dJ6_appendNull_19 : decode cJ6_appendNull 19 = .ok (.astore_n 2, 1) := dk_77 (dk_at dksJ6_appendNull_0 19 rfl rfl)
theorem dJ6_appendNull_20 : decode cJ6_appendNull 20 = .ok (.aload_n 0, 1) := dk_42 (dk_at dksJ6_appendNull_0 20 rfl rfl)
theorem dJ6_appendNull_21 : decode cJ6_appendNull 21 = .ok (.invokevirtual 83, 3) := dk_182 0 83 (dk_at dksJ6_appendNull_0 21 rfl rfl)
theorem dJ6_appendNull_24 : decode cJ6_appendNull 24 = .ok (.ifCond .eq 38, 3) := dk_153 0 38 (dk_at dksJ6_appendNull_1 0 rfl rfl)
theorem dJ6_appendNull_27 : decode cJ6_appendNull 27 = .ok (.aload_n 2, 1) := dk_44 (dk_at dksJ6_appendNull_1 3 rfl rfl)
theorem dJ6_appendNull_28 : decode cJ6_appendNull 28 = .ok (.iload_n 1, 1) := dk_27 (dk_at dksJ6_appendNull_1 4 rfl rfl)
theorem dJ6_appendNull_29 : decode cJ6_appendNull 29 = .ok (.iinc 1 1, 3) := dk_132 1 1 (dk_at dksJ6_appendNull_1 5 rfl rfl)
theorem dJ6_appendNull_32 : decode cJ6_appendNull 32 = .ok (.bipush 110, 2) := dk_16 110 (dk_at dksJ6_appendNull_1 8 rfl rfl)
theorem dJ6_appendNull_34 : decode cJ6_appendNull 34 = .ok (.bastore, 1) := dk_84 (dk_at dksJ6_appendNull_1 10 rfl rfl)
theorem dJ6_appendNull_35 : decode cJ6_appendNull 35 = .ok (.aload_n 2, 1) := dk_44 (dk_at dksJ6_appendNull_1 11 rfl rfl)
theorem dJ6_appendNull_36 : decode cJ6_appendNull 36 = .ok (.iload_n 1, 1) := dk_27 (dk_at dksJ6_appendNull_1 12 rfl rfl)
theorem dJ6_appendNull_37 : decode cJ6_appendNull 37 = .ok (.iinc 1 1, 3) := dk_132 1 1 (dk_at dksJ6_appendNull_1 13 rfl rfl)
theorem dJ6_appendNull_40 : decode cJ6_appendNull 40 = .ok (.bipush 117, 2) := dk_16 117 (dk_at dksJ6_appendNull_1 16 rfl rfl)
theorem dJ6_appendNull_42 : decode cJ6_appendNull 42 = .ok (.bastore, 1) := dk_84 (dk_at dksJ6_appendNull_1 18 rfl rfl)
theorem dJ6_appendNull_43 : decode cJ6_appendNull 43 = .ok (.aload_n 2, 1) := dk_44 (dk_at dksJ6_appendNull_1 19 rfl rfl)
theorem dJ6_appendNull_44 : decode cJ6_appendNull 44 = .ok (.iload_n 1, 1) := dk_27 (dk_at dksJ6_appendNull_1 20 rfl rfl)
theorem dJ6_appendNull_45 : decode cJ6_appendNull 45 = .ok (.iinc 1 1, 3) := dk_132 1 1 (dk_at dksJ6_appendNull_1 21 rfl rfl)
theorem dJ6_appendNull_48 : decode cJ6_appendNull 48 = .ok (.bipush 108, 2) := dk_16 108 (dk_at dksJ6_appendNull_2 0 rfl rfl)
theorem dJ6_appendNull_50 : decode cJ6_appendNull 50 = .ok (.bastore, 1) := dk_84 (dk_at dksJ6_appendNull_2 2 rfl rfl)
theorem dJ6_appendNull_51 : decode cJ6_appendNull 51 = .ok (.aload_n 2, 1) := dk_44 (dk_at dksJ6_appendNull_2 3 rfl rfl)
theorem dJ6_appendNull_52 : decode cJ6_appendNull 52 = .ok (.iload_n 1, 1) := dk_27 (dk_at dksJ6_appendNull_2 4 rfl rfl)
theorem dJ6_appendNull_53 : decode cJ6_appendNull 53 = .ok (.iinc 1 1, 3) := dk_132 1 1 (dk_at dksJ6_appendNull_2 5 rfl rfl)
theorem dJ6_appendNull_56 : decode cJ6_appendNull 56 = .ok (.bipush 108, 2) := dk_16 108 (dk_at dksJ6_appendNull_2 8 rfl rfl)
theorem dJ6_appendNull_58 : decode cJ6_appendNull 58 = .ok (.bastore, 1) := dk_84 (dk_at dksJ6_appendNull_2 10 rfl rfl)
theorem dJ6_appendNull_59 : decode cJ6_appendNull 59 = .ok (.goto 17, 3) := dk_167 0 17 (dk_at dksJ6_appendNull_2 11 rfl rfl)
theorem dJ6_appendNull_62 : decode cJ6_appendNull 62 = .ok (.aload_n 2, 1) := dk_44 (dk_at dksJ6_appendNull_2 14 rfl rfl)
theorem dJ6_appendNull_63 : decode cJ6_appendNull 63 = .ok (.iload_n 1, 1) := dk_27 (dk_at dksJ6_appendNull_2 15 rfl rfl)
theorem dJ6_appendNull_64 : decode cJ6_appendNull 64 = .ok (.bipush 110, 2) := dk_16 110 (dk_at dksJ6_appendNull_2 16 rfl rfl)
theorem dJ6_appendNull_66 : decode cJ6_appendNull 66 = .ok (.bipush 117, 2) := dk_16 117 (dk_at dksJ6_appendNull_2 18 rfl rfl)
theorem dJ6_appendNull_68 : decode cJ6_appendNull 68 = .ok (.bipush 108, 2) := dk_16 108 (dk_at dksJ6_appendNull_2 20 rfl rfl)
theorem dJ6_appendNull_70 : decode cJ6_appendNull 70 = .ok (.bipush 108, 2) := dk_16 108 (dk_at dksJ6_appendNull_2 22 rfl rfl)
theorem dJ6_appendNull_72 : decode cJ6_appendNull 72 = .ok (.invokestatic 226, 3) := dk_184 0 226 (dk_at dksJ6_appendNull_3 0 rfl rfl)
theorem dJ6_appendNull_75 : decode cJ6_appendNull 75 = .ok (.istore_n 1, 1) := dk_60 (dk_at dksJ6_appendNull_3 3 rfl rfl)
theorem dJ6_appendNull_76 : decode cJ6_appendNull 76 = .ok (.aload_n 0, 1) := dk_42 (dk_at dksJ6_appendNull_3 4 rfl rfl)
theorem dJ6_appendNull_77 : decode cJ6_appendNull 77 = .ok (.iload_n 1, 1) := dk_27 (dk_at dksJ6_appendNull_3 5 rfl rfl)
theorem dJ6_appendNull_78 : decode cJ6_appendNull 78 = .ok (.putfield 79, 3) := dk_181 0 79 (dk_at dksJ6_appendNull_3 6 rfl rfl)
theorem dJ6_appendNull_81 : decode cJ6_appendNull 81 = .ok (.aload_n 0, 1) := dk_42 (dk_at dksJ6_appendNull_3 9 rfl rfl)
theorem dJ6_appendNull_82 : decode cJ6_appendNull 82 = .ok (.areturn, 1) := dk_176 (dk_at dksJ6_appendNull_3 10 rfl rfl)
abbrev cJ6_putStringAt : ByteArray := prog_28_method_73_code
def yJ6_putStringAt : MethodName := ⟨RJ6, "putStringAt", "(ILjava/lang/String;)V"⟩
def dkwJ6_putStringAt_0 : List UInt8 := [42, 44, 182, 1, 141, 44, 42, 180, 0, 15, 27, 42, 180, 0, 22, 182, 1, 143, 177]
abbrev dktJ6_putStringAt_0 : List UInt8 := dkwJ6_putStringAt_0 ++ []
theorem dksJ6_putStringAt_0 : cJ6_putStringAt.data.toList.drop 0 = dktJ6_putStringAt_0 := by decide +kernel
theorem dJ6_putStringAt_0 : decode cJ6_putStringAt 0 = .ok (.aload_n 0, 1) := dk_42 (dk_at dksJ6_putStringAt_0 0 rfl rfl)
theorem dJ6_putStringAt_1 : decode cJ6_putStringAt 1 = .ok (.aload_n 2, 1) := dk_44 (dk_at dksJ6_putStringAt_0 1 rfl rfl)
theorem dJ6_putStringAt_2 : decode cJ6_putStringAt 2 = .ok (.invokevirtual 397, 3) := dk_182 1 141 (dk_at dksJ6_putStringAt_0 2 rfl rfl)
theorem dJ6_putStringAt_5 : decode cJ6_putStringAt 5 = .ok (.aload_n 2, 1) := dk_44 (dk_at dksJ6_putStringAt_0 5 rfl rfl)
theorem dJ6_putStringAt_6 : decode cJ6_putStringAt 6 = .ok (.aload_n 0, 1) := dk_42 (dk_at dksJ6_putStringAt_0 6 rfl rfl)
theorem dJ6_putStringAt_7 : decode cJ6_putStringAt 7 = .ok (.getfield 15, 3) := dk_180 0 15 (dk_at dksJ6_putStringAt_0 7 rfl rfl)
theorem dJ6_putStringAt_10 : decode cJ6_putStringAt 10 = .ok (.iload_n 1, 1) := dk_27 (dk_at dksJ6_putStringAt_0 10 rfl rfl)
theorem dJ6_putStringAt_11 : decode cJ6_putStringAt 11 = .ok (.aload_n 0, 1) := dk_42 (dk_at dksJ6_putStringAt_0 11 rfl rfl)
theorem dJ6_putStringAt_12 : decode cJ6_putStringAt 12 = .ok (.getfield 22, 3) := dk_180 0 22 (dk_at dksJ6_putStringAt_0 12 rfl rfl)
theorem dJ6_putStringAt_15 : decode cJ6_putStringAt 15 = .ok (.invokevirtual 399, 3) := dk_182 1 143 (dk_at dksJ6_putStringAt_0 15 rfl rfl)
theorem dJ6_putStringAt_18 : decode cJ6_putStringAt 18 = .ok (.return_, 1) := dk_177 (dk_at dksJ6_putStringAt_0 18 rfl rfl)
abbrev cJ6_inflateIfNeededFor : ByteArray := prog_28_method_71_code
def yJ6_inflateIfNeededFor : MethodName := ⟨RJ6, "inflateIfNeededFor", "(Ljava/lang/String;)V"⟩
def dkwJ6_inflateIfNeededFor_0 : List UInt8 := [178, 0, 18, 153, 0, 18, 42, 180, 0, 22, 43, 182, 0, 40, 159, 0, 7, 42, 182, 0, 195, 177]
abbrev dktJ6_inflateIfNeededFor_0 : List UInt8 := dkwJ6_inflateIfNeededFor_0 ++ []
theorem dksJ6_inflateIfNeededFor_0 : cJ6_inflateIfNeededFor.data.toList.drop 0 = dktJ6_inflateIfNeededFor_0 := by decide +kernel
theorem dJ6_inflateIfNeededFor_0 : decode cJ6_inflateIfNeededFor 0 = .ok (.getstatic 18, 3) := dk_178 0 18 (dk_at dksJ6_inflateIfNeededFor_0 0 rfl rfl)
theorem dJ6_inflateIfNeededFor_3 : decode cJ6_inflateIfNeededFor 3 = .ok (.ifCond .eq 18, 3) := dk_153 0 18 (dk_at dksJ6_inflateIfNeededFor_0 3 rfl rfl)
theorem dJ6_inflateIfNeededFor_6 : decode cJ6_inflateIfNeededFor 6 = .ok (.aload_n 0, 1) := dk_42 (dk_at dksJ6_inflateIfNeededFor_0 6 rfl rfl)
theorem dJ6_inflateIfNeededFor_7 : decode cJ6_inflateIfNeededFor 7 = .ok (.getfield 22, 3) := dk_180 0 22 (dk_at dksJ6_inflateIfNeededFor_0 7 rfl rfl)
theorem dJ6_inflateIfNeededFor_10 : decode cJ6_inflateIfNeededFor 10 = .ok (.aload_n 1, 1) := dk_43 (dk_at dksJ6_inflateIfNeededFor_0 10 rfl rfl)
theorem dJ6_inflateIfNeededFor_11 : decode cJ6_inflateIfNeededFor 11 = .ok (.invokevirtual 40, 3) := dk_182 0 40 (dk_at dksJ6_inflateIfNeededFor_0 11 rfl rfl)
theorem dJ6_inflateIfNeededFor_14 : decode cJ6_inflateIfNeededFor 14 = .ok (.if_icmp .eq 7, 3) := dk_159 0 7 (dk_at dksJ6_inflateIfNeededFor_0 14 rfl rfl)
theorem dJ6_inflateIfNeededFor_17 : decode cJ6_inflateIfNeededFor 17 = .ok (.aload_n 0, 1) := dk_42 (dk_at dksJ6_inflateIfNeededFor_0 17 rfl rfl)
theorem dJ6_inflateIfNeededFor_18 : decode cJ6_inflateIfNeededFor 18 = .ok (.invokevirtual 195, 3) := dk_182 0 195 (dk_at dksJ6_inflateIfNeededFor_0 18 rfl rfl)
theorem dJ6_inflateIfNeededFor_21 : decode cJ6_inflateIfNeededFor 21 = .ok (.return_, 1) := dk_177 (dk_at dksJ6_inflateIfNeededFor_0 21 rfl rfl)
theorem q122 : (Jvm.Cond.initialized "java/lang/AbstractStringBuilder") ∈ lw_all := lw_g (lw_at lw_m1 14 rfl) rfl
theorem q554 : (Jvm.Cond.instanceMethod ({ cls := "java/lang/AbstractStringBuilder", name := "<init>", desc := "(I)V" } : Jvm.MethodName)) ∈ lw_all := lw_g (lw_at lw_m2 206 rfl) rfl
theorem q555 : (Jvm.Cond.code ({ cls := "java/lang/AbstractStringBuilder", name := "<init>", desc := "(I)V" } : Jvm.MethodName) prog_28_method_2_code (2 : Nat) (Option.none : Option Jvm.ClassFile.FieldType)) ∈ lw_all := lw_g (lw_at lw_m2 207 rfl) rfl
theorem q556 : (Jvm.Cond.methodLink "java/lang/AbstractStringBuilder" (3 : Nat) ({ cls := "java/lang/Object", name := "<init>", desc := "()V" } : Jvm.MethodName)) ∈ lw_all := lw_g (lw_at lw_m2 208 rfl) rfl
theorem q557 : (Jvm.Cond.fieldLink "java/lang/AbstractStringBuilder" (18 : Nat) "java/lang/String" "COMPACT_STRINGS" "Z") ∈ lw_all := lw_g (lw_at lw_m2 209 rfl) rfl
theorem q559 : (Jvm.Cond.methodLink "java/lang/AbstractStringBuilder" (26 : Nat) ({ cls := "java/lang/StringUTF16", name := "newBytesFor", desc := "(I)[B" } : Jvm.MethodName)) ∈ lw_all := lw_g (lw_at lw_m2 211 rfl) rfl
theorem q566 : (Jvm.Cond.fieldLink "java/lang/AbstractStringBuilder" (15 : Nat) "java/lang/AbstractStringBuilder" "value" "[B") ∈ lw_all := lw_g (lw_at lw_m2 218 rfl) rfl
theorem q567 : (Jvm.Cond.fieldLink "java/lang/AbstractStringBuilder" (22 : Nat) "java/lang/AbstractStringBuilder" "coder" "B") ∈ lw_all := lw_g (lw_at lw_m2 219 rfl) rfl
theorem q569 : (Jvm.Cond.fieldLink "java/lang/AbstractStringBuilder" (79 : Nat) "java/lang/AbstractStringBuilder" "count" "I") ∈ lw_all := lw_g (lw_at lw_m2 221 rfl) rfl
theorem q571 : (Jvm.Cond.soleField "java/lang/AbstractStringBuilder" "value") ∈ lw_all := lw_g (lw_at lw_m2 223 rfl) rfl
theorem q573 : (Jvm.Cond.soleField "java/lang/AbstractStringBuilder" "coder") ∈ lw_all := lw_g (lw_at lw_m2 225 rfl) rfl
theorem q575 : (Jvm.Cond.soleField "java/lang/AbstractStringBuilder" "maybeLatin1") ∈ lw_all := lw_g (lw_at lw_m2 227 rfl) rfl
theorem q577 : (Jvm.Cond.soleField "java/lang/AbstractStringBuilder" "count") ∈ lw_all := lw_g (lw_at lw_m2 229 rfl) rfl
theorem q584 : (Jvm.Cond.instanceMethod ({ cls := "java/lang/AbstractStringBuilder", name := "append", desc := "(C)Ljava/lang/AbstractStringBuilder;" } : Jvm.MethodName)) ∈ lw_all := lw_g (lw_at lw_m2 236 rfl) rfl
theorem q585 : (Jvm.Cond.code ({ cls := "java/lang/AbstractStringBuilder", name := "append", desc := "(C)Ljava/lang/AbstractStringBuilder;" } : Jvm.MethodName) prog_28_method_31_code (2 : Nat) (Option.some (Jvm.ClassFile.FieldType.object "java/lang/AbstractStringBuilder"))) ∈ lw_all := lw_g (lw_at lw_m2 237 rfl) rfl
theorem q586 : (Jvm.Cond.methodLink "java/lang/AbstractStringBuilder" (100 : Nat) ({ cls := "java/lang/AbstractStringBuilder", name := "ensureCapacityInternal", desc := "(I)V" } : Jvm.MethodName)) ∈ lw_all := lw_g (lw_at lw_m2 238 rfl) rfl
theorem q587 : (Jvm.Cond.privateMethod ({ cls := "java/lang/AbstractStringBuilder", name := "ensureCapacityInternal", desc := "(I)V" } : Jvm.MethodName)) ∈ lw_tbl := lw_at lw_m2 239 rfl
theorem q588 : (Jvm.Cond.instanceMethod ({ cls := "java/lang/AbstractStringBuilder", name := "ensureCapacityInternal", desc := "(I)V" } : Jvm.MethodName)) ∈ lw_all := lw_g (lw_at lw_m3 0 rfl) rfl
theorem q589 : (Jvm.Cond.code ({ cls := "java/lang/AbstractStringBuilder", name := "ensureCapacityInternal", desc := "(I)V" } : Jvm.MethodName) prog_28_method_9_code (3 : Nat) (Option.none : Option Jvm.ClassFile.FieldType)) ∈ lw_all := lw_g (lw_at lw_m3 1 rfl) rfl
theorem q590 : (Jvm.Cond.methodLink "java/lang/AbstractStringBuilder" (104 : Nat) ({ cls := "java/lang/AbstractStringBuilder", name := "newCapacity", desc := "(I)I" } : Jvm.MethodName)) ∈ lw_all := lw_g (lw_at lw_m3 2 rfl) rfl
theorem q591 : (Jvm.Cond.privateMethod ({ cls := "java/lang/AbstractStringBuilder", name := "newCapacity", desc := "(I)I" } : Jvm.MethodName)) ∈ lw_tbl := lw_at lw_m3 3 rfl
theorem q592 : (Jvm.Cond.instanceMethod ({ cls := "java/lang/AbstractStringBuilder", name := "newCapacity", desc := "(I)I" } : Jvm.MethodName)) ∈ lw_all := lw_g (lw_at lw_m3 4 rfl) rfl
theorem q593 : (Jvm.Cond.code ({ cls := "java/lang/AbstractStringBuilder", name := "newCapacity", desc := "(I)I" } : Jvm.MethodName) prog_28_method_10_code (6 : Nat) (Option.some Jvm.ClassFile.FieldType.int)) ∈ lw_all := lw_g (lw_at lw_m3 5 rfl) rfl
theorem q594 : (Jvm.Cond.methodLink "java/lang/AbstractStringBuilder" (114 : Nat) ({ cls := "jdk/internal/util/ArraysSupport", name := "newLength", desc := "(III)I" } : Jvm.MethodName)) ∈ lw_all := lw_g (lw_at lw_m3 6 rfl) rfl
theorem q604 : (Jvm.Cond.constant "java/lang/AbstractStringBuilder" (39 : Nat) (2147483647 : Int32)) ∈ lw_all := lw_g (lw_at lw_m3 16 rfl) rfl
theorem q605 : (Jvm.Cond.methodLink "java/lang/AbstractStringBuilder" (108 : Nat) ({ cls := "java/util/Arrays", name := "copyOf", desc := "([BI)[B" } : Jvm.MethodName)) ∈ lw_all := lw_g (lw_at lw_m3 17 rfl) rfl
theorem q621 : (Jvm.Cond.methodLink "java/lang/AbstractStringBuilder" (83 : Nat) ({ cls := "java/lang/AbstractStringBuilder", name := "isLatin1", desc := "()Z" } : Jvm.MethodName)) ∈ lw_all := lw_g (lw_at lw_m3 33 rfl) rfl
theorem q622 : (Jvm.Cond.instanceMethod ({ cls := "java/lang/AbstractStringBuilder", name := "isLatin1", desc := "()Z" } : Jvm.MethodName)) ∈ lw_all := lw_g (lw_at lw_m3 34 rfl) rfl
theorem q623 : (Jvm.Cond.sameMethod "java/lang/AbstractStringBuilder" "java/lang/AbstractStringBuilder" "isLatin1" "()Z") ∈ lw_all := lw_g (lw_at lw_m3 35 rfl) rfl
theorem q625 : (Jvm.Cond.code ({ cls := "java/lang/AbstractStringBuilder", name := "isLatin1", desc := "()Z" } : Jvm.MethodName) prog_28_method_68_code (1 : Nat) (Option.some Jvm.ClassFile.FieldType.boolean)) ∈ lw_all := lw_g (lw_at lw_m3 37 rfl) rfl
theorem q626 : (Jvm.Cond.methodLink "java/lang/AbstractStringBuilder" (191 : Nat) ({ cls := "java/lang/StringLatin1", name := "canEncode", desc := "(C)Z" } : Jvm.MethodName)) ∈ lw_all := lw_g (lw_at lw_m3 38 rfl) rfl
theorem q629 : (Jvm.Cond.methodLink "java/lang/AbstractStringBuilder" (195 : Nat) ({ cls := "java/lang/AbstractStringBuilder", name := "inflate", desc := "()V" } : Jvm.MethodName)) ∈ lw_all := lw_g (lw_at lw_m3 41 rfl) rfl
theorem q630 : (Jvm.Cond.privateMethod ({ cls := "java/lang/AbstractStringBuilder", name := "inflate", desc := "()V" } : Jvm.MethodName)) ∈ lw_tbl := lw_at lw_m3 42 rfl
theorem q631 : (Jvm.Cond.instanceMethod ({ cls := "java/lang/AbstractStringBuilder", name := "inflate", desc := "()V" } : Jvm.MethodName)) ∈ lw_all := lw_g (lw_at lw_m3 43 rfl) rfl
theorem q632 : (Jvm.Cond.code ({ cls := "java/lang/AbstractStringBuilder", name := "inflate", desc := "()V" } : Jvm.MethodName) prog_28_method_11_code (2 : Nat) (Option.none : Option Jvm.ClassFile.FieldType)) ∈ lw_all := lw_g (lw_at lw_m3 44 rfl) rfl
theorem q633 : (Jvm.Cond.methodLink "java/lang/AbstractStringBuilder" (125 : Nat) ({ cls := "java/lang/StringLatin1", name := "inflate", desc := "([BI[BII)V" } : Jvm.MethodName)) ∈ lw_all := lw_g (lw_at lw_m3 45 rfl) rfl
theorem q662 : (Jvm.Cond.methodLink "java/lang/AbstractStringBuilder" (197 : Nat) ({ cls := "java/lang/StringUTF16", name := "putCharSB", desc := "([BII)V" } : Jvm.MethodName)) ∈ lw_all := lw_g (lw_at lw_m3 74 rfl) rfl
theorem q686 : (Jvm.Cond.instanceMethod ({ cls := "java/lang/AbstractStringBuilder", name := "getValue", desc := "()[B" } : Jvm.MethodName)) ∈ lw_all := lw_g (lw_at lw_m3 98 rfl) rfl
theorem q687 : (Jvm.Cond.sameMethod "java/lang/AbstractStringBuilder" "java/lang/AbstractStringBuilder" "getValue" "()[B") ∈ lw_all := lw_g (lw_at lw_m3 99 rfl) rfl
theorem q689 : (Jvm.Cond.code ({ cls := "java/lang/AbstractStringBuilder", name := "getValue", desc := "()[B" } : Jvm.MethodName) prog_28_method_64_code (1 : Nat) (Option.some (Jvm.ClassFile.FieldType.array Jvm.ClassFile.FieldType.byte))) ∈ lw_all := lw_g (lw_at lw_m3 101 rfl) rfl
theorem q691 : (Jvm.Cond.instanceMethod ({ cls := "java/lang/AbstractStringBuilder", name := "length", desc := "()I" } : Jvm.MethodName)) ∈ lw_all := lw_g (lw_at lw_m3 103 rfl) rfl
theorem q692 : (Jvm.Cond.sameMethod "java/lang/AbstractStringBuilder" "java/lang/AbstractStringBuilder" "length" "()I") ∈ lw_all := lw_g (lw_at lw_m3 104 rfl) rfl
theorem q697 : (Jvm.Cond.code ({ cls := "java/lang/AbstractStringBuilder", name := "length", desc := "()I" } : Jvm.MethodName) prog_28_method_6_code (1 : Nat) (Option.some Jvm.ClassFile.FieldType.int)) ∈ lw_all := lw_g (lw_at lw_m3 109 rfl) rfl
theorem q865 : (Jvm.Cond.instanceMethod ({ cls := "java/lang/AbstractStringBuilder", name := "append", desc := "(Ljava/lang/String;)Ljava/lang/AbstractStringBuilder;" } : Jvm.MethodName)) ∈ lw_all := lw_g (lw_at lw_m4 37 rfl) rfl
theorem q866 : (Jvm.Cond.code ({ cls := "java/lang/AbstractStringBuilder", name := "append", desc := "(Ljava/lang/String;)Ljava/lang/AbstractStringBuilder;" } : Jvm.MethodName) prog_28_method_22_code (3 : Nat) (Option.some (Jvm.ClassFile.FieldType.object "java/lang/AbstractStringBuilder"))) ∈ lw_all := lw_g (lw_at lw_m4 38 rfl) rfl
theorem q867 : (Jvm.Cond.methodLink "java/lang/AbstractStringBuilder" (204 : Nat) ({ cls := "java/lang/AbstractStringBuilder", name := "appendNull", desc := "()Ljava/lang/AbstractStringBuilder;" } : Jvm.MethodName)) ∈ lw_all := lw_g (lw_at lw_m4 39 rfl) rfl
theorem q868 : (Jvm.Cond.privateMethod ({ cls := "java/lang/AbstractStringBuilder", name := "appendNull", desc := "()Ljava/lang/AbstractStringBuilder;" } : Jvm.MethodName)) ∈ lw_tbl := lw_at lw_m4 40 rfl
theorem q869 : (Jvm.Cond.instanceMethod ({ cls := "java/lang/AbstractStringBuilder", name := "appendNull", desc := "()Ljava/lang/AbstractStringBuilder;" } : Jvm.MethodName)) ∈ lw_all := lw_g (lw_at lw_m4 41 rfl) rfl
theorem q870 : (Jvm.Cond.code ({ cls := "java/lang/AbstractStringBuilder", name := "appendNull", desc := "()Ljava/lang/AbstractStringBuilder;" } : Jvm.MethodName) prog_28_method_26_code (3 : Nat) (Option.some (Jvm.ClassFile.FieldType.object "java/lang/AbstractStringBuilder"))) ∈ lw_all := lw_g (lw_at lw_m4 42 rfl) rfl
theorem q871 : (Jvm.Cond.methodLink "java/lang/AbstractStringBuilder" (226 : Nat) ({ cls := "java/lang/StringUTF16", name := "putCharsAt", desc := "([BICCCC)I" } : Jvm.MethodName)) ∈ lw_all := lw_g (lw_at lw_m4 43 rfl) rfl
theorem q883 : (Jvm.Cond.methodLink "java/lang/AbstractStringBuilder" (32 : Nat) ({ cls := "java/lang/String", name := "length", desc := "()I" } : Jvm.MethodName)) ∈ lw_all := lw_g (lw_at lw_m4 55 rfl) rfl
theorem q891 : (Jvm.Cond.methodLink "java/lang/AbstractStringBuilder" (208 : Nat) ({ cls := "java/lang/AbstractStringBuilder", name := "putStringAt", desc := "(ILjava/lang/String;)V" } : Jvm.MethodName)) ∈ lw_all := lw_g (lw_at lw_m4 63 rfl) rfl
theorem q892 : (Jvm.Cond.privateMethod ({ cls := "java/lang/AbstractStringBuilder", name := "putStringAt", desc := "(ILjava/lang/String;)V" } : Jvm.MethodName)) ∈ lw_tbl := lw_at lw_m4 64 rfl
theorem q893 : (Jvm.Cond.instanceMethod ({ cls := "java/lang/AbstractStringBuilder", name := "putStringAt", desc := "(ILjava/lang/String;)V" } : Jvm.MethodName)) ∈ lw_all := lw_g (lw_at lw_m4 65 rfl) rfl
theorem q894 : (Jvm.Cond.code ({ cls := "java/lang/AbstractStringBuilder", name := "putStringAt", desc := "(ILjava/lang/String;)V" } : Jvm.MethodName) prog_28_method_73_code (3 : Nat) (Option.none : Option Jvm.ClassFile.FieldType)) ∈ lw_all := lw_g (lw_at lw_m4 66 rfl) rfl
theorem q895 : (Jvm.Cond.methodLink "java/lang/AbstractStringBuilder" (397 : Nat) ({ cls := "java/lang/AbstractStringBuilder", name := "inflateIfNeededFor", desc := "(Ljava/lang/String;)V" } : Jvm.MethodName)) ∈ lw_all := lw_g (lw_at lw_m4 67 rfl) rfl
theorem q896 : (Jvm.Cond.privateMethod ({ cls := "java/lang/AbstractStringBuilder", name := "inflateIfNeededFor", desc := "(Ljava/lang/String;)V" } : Jvm.MethodName)) ∈ lw_tbl := lw_at lw_m4 68 rfl
theorem q897 : (Jvm.Cond.instanceMethod ({ cls := "java/lang/AbstractStringBuilder", name := "inflateIfNeededFor", desc := "(Ljava/lang/String;)V" } : Jvm.MethodName)) ∈ lw_all := lw_g (lw_at lw_m4 69 rfl) rfl
theorem q898 : (Jvm.Cond.code ({ cls := "java/lang/AbstractStringBuilder", name := "inflateIfNeededFor", desc := "(Ljava/lang/String;)V" } : Jvm.MethodName) prog_28_method_71_code (2 : Nat) (Option.none : Option Jvm.ClassFile.FieldType)) ∈ lw_all := lw_g (lw_at lw_m4 70 rfl) rfl
theorem q899 : (Jvm.Cond.methodLink "java/lang/AbstractStringBuilder" (40 : Nat) ({ cls := "java/lang/String", name := "coder", desc := "()B" } : Jvm.MethodName)) ∈ lw_all := lw_g (lw_at lw_m4 71 rfl) rfl
theorem q900 : (Jvm.Cond.methodLink "java/lang/AbstractStringBuilder" (399 : Nat) ({ cls := "java/lang/String", name := "getBytes", desc := "([BIB)V" } : Jvm.MethodName)) ∈ lw_all := lw_g (lw_at lw_m4 72 rfl) rfl
theorem q2516 : (Jvm.Cond.sameMethod "java/lang/AbstractStringBuilder" "java/lang/AbstractStringBuilder" "append" "(C)Ljava/lang/AbstractStringBuilder;") ∈ lw_all := lw_g (lw_at lw_m11 8 rfl) rfl
theorem q2517 : (Jvm.Cond.sameMethod "java/lang/AbstractStringBuilder" "java/lang/AbstractStringBuilder" "ensureCapacityInternal" "(I)V") ∈ lw_all := lw_g (lw_at lw_m11 9 rfl) rfl
theorem q2518 : (Jvm.Cond.sameMethod "java/lang/AbstractStringBuilder" "java/lang/AbstractStringBuilder" "newCapacity" "(I)I") ∈ lw_all := lw_g (lw_at lw_m11 10 rfl) rfl
theorem q2519 : (Jvm.Cond.sameMethod "java/lang/AbstractStringBuilder" "java/lang/AbstractStringBuilder" "inflate" "()V") ∈ lw_all := lw_g (lw_at lw_m11 11 rfl) rfl
theorem q2529 : (Jvm.Cond.sameMethod "java/lang/AbstractStringBuilder" "java/lang/AbstractStringBuilder" "append" "(Ljava/lang/String;)Ljava/lang/AbstractStringBuilder;") ∈ lw_all := lw_g (lw_at lw_m11 21 rfl) rfl
theorem q2530 : (Jvm.Cond.sameMethod "java/lang/AbstractStringBuilder" "java/lang/AbstractStringBuilder" "appendNull" "()Ljava/lang/AbstractStringBuilder;") ∈ lw_all := lw_g (lw_at lw_m11 22 rfl) rfl
theorem q2531 : (Jvm.Cond.sameMethod "java/lang/AbstractStringBuilder" "java/lang/AbstractStringBuilder" "putStringAt" "(ILjava/lang/String;)V") ∈ lw_all := lw_g (lw_at lw_m11 23 rfl) rfl
theorem q2532 : (Jvm.Cond.sameMethod "java/lang/AbstractStringBuilder" "java/lang/AbstractStringBuilder" "inflateIfNeededFor" "(Ljava/lang/String;)V") ∈ lw_all := lw_g (lw_at lw_m11 24 rfl) rfl

/-! java/lang/StringBuilder -/
set_option maxRecDepth 100000
abbrev cJ7_init : ByteArray := prog_39_method_1_code
def yJ7_init : MethodName := ⟨RJ7, "<init>", "()V"⟩
def dkwJ7_init_0 : List UInt8 := [42, 16, 16, 183, 0, 1, 177]
abbrev dktJ7_init_0 : List UInt8 := dkwJ7_init_0 ++ []
theorem dksJ7_init_0 : cJ7_init.data.toList.drop 0 = dktJ7_init_0 := by decide +kernel
theorem dJ7_init_0 : decode cJ7_init 0 = .ok (.aload_n 0, 1) := dk_42 (dk_at dksJ7_init_0 0 rfl rfl)
theorem dJ7_init_1 : decode cJ7_init 1 = .ok (.bipush 16, 2) := dk_16 16 (dk_at dksJ7_init_0 1 rfl rfl)
theorem dJ7_init_3 : decode cJ7_init 3 = .ok (.invokespecial 1, 3) := dk_183 0 1 (dk_at dksJ7_init_0 3 rfl rfl)
theorem dJ7_init_6 : decode cJ7_init 6 = .ok (.return_, 1) := dk_177 (dk_at dksJ7_init_0 6 rfl rfl)
abbrev cJ7_append : ByteArray := prog_39_method_14_code
def yJ7_append : MethodName := ⟨RJ7, "append", "(C)Ljava/lang/StringBuilder;"⟩
def dkwJ7_append_0 : List UInt8 := [42, 27, 183, 0, 50, 87, 42, 176]
abbrev dktJ7_append_0 : List UInt8 := dkwJ7_append_0 ++ []
theorem dksJ7_append_0 : cJ7_append.data.toList.drop 0 = dktJ7_append_0 := by decide +kernel
theorem dJ7_append_0 : decode cJ7_append 0 = .ok (.aload_n 0, 1) := dk_42 (dk_at dksJ7_append_0 0 rfl rfl)
theorem dJ7_append_1 : decode cJ7_append 1 = .ok (.iload_n 1, 1) := dk_27 (dk_at dksJ7_append_0 1 rfl rfl)
theorem dJ7_append_2 : decode cJ7_append 2 = .ok (.invokespecial 50, 3) := dk_183 0 50 (dk_at dksJ7_append_0 2 rfl rfl)
theorem dJ7_append_5 : decode cJ7_append 5 = .ok (.pop, 1) := dk_87 (dk_at dksJ7_append_0 5 rfl rfl)
theorem dJ7_append_6 : decode cJ7_append 6 = .ok (.aload_n 0, 1) := dk_42 (dk_at dksJ7_append_0 6 rfl rfl)
theorem dJ7_append_7 : decode cJ7_append 7 = .ok (.areturn, 1) := dk_176 (dk_at dksJ7_append_0 7 rfl rfl)
abbrev cJ7_toString : ByteArray := prog_39_method_42_code
def yJ7_toString : MethodName := ⟨RJ7, "toString", "()Ljava/lang/String;"⟩
def dkwJ7_toString_0 : List UInt8 := [187, 0, 18, 89, 42, 183, 0, 137, 176]
abbrev dktJ7_toString_0 : List UInt8 := dkwJ7_toString_0 ++ []
theorem dksJ7_toString_0 : cJ7_toString.data.toList.drop 0 = dktJ7_toString_0 := by decide +kernel
theorem dJ7_toString_0 : decode cJ7_toString 0 = .ok (.new 18, 3) := dk_187 0 18 (dk_at dksJ7_toString_0 0 rfl rfl)
theorem dJ7_toString_3 : decode cJ7_toString 3 = .ok (.dup, 1) := dk_89 (dk_at dksJ7_toString_0 3 rfl rfl)
theorem dJ7_toString_4 : decode cJ7_toString 4 = .ok (.aload_n 0, 1) := dk_42 (dk_at dksJ7_toString_0 4 rfl rfl)
theorem dJ7_toString_5 : decode cJ7_toString 5 = .ok (.invokespecial 137, 3) := dk_183 0 137 (dk_at dksJ7_toString_0 5 rfl rfl)
theorem dJ7_toString_8 : decode cJ7_toString 8 = .ok (.areturn, 1) := dk_176 (dk_at dksJ7_toString_0 8 rfl rfl)
abbrev cJ7_length : ByteArray := prog_39_method_93_code
def yJ7_length : MethodName := ⟨RJ7, "length", "()I"⟩
theorem dJ7_length_0 : decode cJ7_length 0 = .ok (.aload_n 0, 1) := by decide +kernel
theorem dJ7_length_1 : decode cJ7_length 1 = .ok (.invokespecial 343, 3) := by decide +kernel
theorem dJ7_length_4 : decode cJ7_length 4 = .ok (.ireturn, 1) := by decide +kernel
abbrev cJ7_append_2 : ByteArray := prog_39_method_7_code
def yJ7_append_2 : MethodName := ⟨RJ7, "append", "(Ljava/lang/String;)Ljava/lang/StringBuilder;"⟩
def dkwJ7_append_2_0 : List UInt8 := [42, 43, 183, 0, 29, 87, 42, 176]
abbrev dktJ7_append_2_0 : List UInt8 := dkwJ7_append_2_0 ++ []
theorem dksJ7_append_2_0 : cJ7_append_2.data.toList.drop 0 = dktJ7_append_2_0 := by decide +kernel
theorem dJ7_append_2_0 : decode cJ7_append_2 0 = .ok (.aload_n 0, 1) := dk_42 (dk_at dksJ7_append_2_0 0 rfl rfl)
theorem dJ7_append_2_1 : decode cJ7_append_2 1 = .ok (.aload_n 1, 1) := dk_43 (dk_at dksJ7_append_2_0 1 rfl rfl)
theorem dJ7_append_2_2 : decode cJ7_append_2 2 = .ok (.invokespecial 29, 3) := dk_183 0 29 (dk_at dksJ7_append_2_0 2 rfl rfl)
theorem dJ7_append_2_5 : decode cJ7_append_2 5 = .ok (.pop, 1) := dk_87 (dk_at dksJ7_append_2_0 5 rfl rfl)
theorem dJ7_append_2_6 : decode cJ7_append_2 6 = .ok (.aload_n 0, 1) := dk_42 (dk_at dksJ7_append_2_0 6 rfl rfl)
theorem dJ7_append_2_7 : decode cJ7_append_2 7 = .ok (.areturn, 1) := dk_176 (dk_at dksJ7_append_2_0 7 rfl rfl)
theorem q123 : (Jvm.Cond.initialized "java/lang/StringBuilder") ∈ lw_all := lw_g (lw_at lw_m1 15 rfl) rfl
theorem q549 : (Jvm.Cond.instantiable "java/lang/StringBuilder" (4 : Nat)) ∈ lw_all := lw_g (lw_at lw_m2 201 rfl) rfl
theorem q551 : (Jvm.Cond.instanceMethod ({ cls := "java/lang/StringBuilder", name := "<init>", desc := "()V" } : Jvm.MethodName)) ∈ lw_all := lw_g (lw_at lw_m2 203 rfl) rfl
theorem q552 : (Jvm.Cond.code ({ cls := "java/lang/StringBuilder", name := "<init>", desc := "()V" } : Jvm.MethodName) prog_39_method_1_code (1 : Nat) (Option.none : Option Jvm.ClassFile.FieldType)) ∈ lw_all := lw_g (lw_at lw_m2 204 rfl) rfl
theorem q553 : (Jvm.Cond.methodLink "java/lang/StringBuilder" (1 : Nat) ({ cls := "java/lang/AbstractStringBuilder", name := "<init>", desc := "(I)V" } : Jvm.MethodName)) ∈ lw_all := lw_g (lw_at lw_m2 205 rfl) rfl
theorem q570 : (Jvm.Cond.lays "java/lang/StringBuilder" "java/lang/AbstractStringBuilder" "value" "[B") ∈ lw_all := lw_g (lw_at lw_m2 222 rfl) rfl
theorem q572 : (Jvm.Cond.lays "java/lang/StringBuilder" "java/lang/AbstractStringBuilder" "coder" "B") ∈ lw_all := lw_g (lw_at lw_m2 224 rfl) rfl
theorem q574 : (Jvm.Cond.lays "java/lang/StringBuilder" "java/lang/AbstractStringBuilder" "maybeLatin1" "Z") ∈ lw_all := lw_g (lw_at lw_m2 226 rfl) rfl
theorem q576 : (Jvm.Cond.lays "java/lang/StringBuilder" "java/lang/AbstractStringBuilder" "count" "I") ∈ lw_all := lw_g (lw_at lw_m2 228 rfl) rfl
theorem q578 : (Jvm.Cond.superclass "java/lang/StringBuilder" "java/lang/AbstractStringBuilder") ∈ lw_all := lw_g (lw_at lw_m2 230 rfl) rfl
theorem q580 : (Jvm.Cond.instanceMethod ({ cls := "java/lang/StringBuilder", name := "append", desc := "(C)Ljava/lang/StringBuilder;" } : Jvm.MethodName)) ∈ lw_all := lw_g (lw_at lw_m2 232 rfl) rfl
theorem q581 : (Jvm.Cond.selects "java/lang/StringBuilder" ({ cls := "java/lang/StringBuilder", name := "append", desc := "(C)Ljava/lang/StringBuilder;" } : Jvm.MethodName) ({ cls := "java/lang/StringBuilder", name := "append", desc := "(C)Ljava/lang/StringBuilder;" } : Jvm.MethodName)) ∈ lw_all := lw_g (lw_at lw_m2 233 rfl) rfl
theorem q582 : (Jvm.Cond.code ({ cls := "java/lang/StringBuilder", name := "append", desc := "(C)Ljava/lang/StringBuilder;" } : Jvm.MethodName) prog_39_method_14_code (2 : Nat) (Option.some (Jvm.ClassFile.FieldType.object "java/lang/StringBuilder"))) ∈ lw_all := lw_g (lw_at lw_m2 234 rfl) rfl
theorem q583 : (Jvm.Cond.methodLink "java/lang/StringBuilder" (50 : Nat) ({ cls := "java/lang/AbstractStringBuilder", name := "append", desc := "(C)Ljava/lang/AbstractStringBuilder;" } : Jvm.MethodName)) ∈ lw_all := lw_g (lw_at lw_m2 235 rfl) rfl
theorem q624 : (Jvm.Cond.selects "java/lang/StringBuilder" ({ cls := "java/lang/AbstractStringBuilder", name := "isLatin1", desc := "()Z" } : Jvm.MethodName) ({ cls := "java/lang/AbstractStringBuilder", name := "isLatin1", desc := "()Z" } : Jvm.MethodName)) ∈ lw_all := lw_g (lw_at lw_m3 36 rfl) rfl
theorem q673 : (Jvm.Cond.instanceMethod ({ cls := "java/lang/StringBuilder", name := "toString", desc := "()Ljava/lang/String;" } : Jvm.MethodName)) ∈ lw_all := lw_g (lw_at lw_m3 85 rfl) rfl
theorem q674 : (Jvm.Cond.selects "java/lang/StringBuilder" ({ cls := "java/lang/StringBuilder", name := "toString", desc := "()Ljava/lang/String;" } : Jvm.MethodName) ({ cls := "java/lang/StringBuilder", name := "toString", desc := "()Ljava/lang/String;" } : Jvm.MethodName)) ∈ lw_all := lw_g (lw_at lw_m3 86 rfl) rfl
theorem q675 : (Jvm.Cond.code ({ cls := "java/lang/StringBuilder", name := "toString", desc := "()Ljava/lang/String;" } : Jvm.MethodName) prog_39_method_42_code (1 : Nat) (Option.some (Jvm.ClassFile.FieldType.object "java/lang/String"))) ∈ lw_all := lw_g (lw_at lw_m3 87 rfl) rfl
theorem q676 : (Jvm.Cond.classLink "java/lang/StringBuilder" (18 : Nat) "java/lang/String") ∈ lw_all := lw_g (lw_at lw_m3 88 rfl) rfl
theorem q678 : (Jvm.Cond.methodLink "java/lang/StringBuilder" (137 : Nat) ({ cls := "java/lang/String", name := "<init>", desc := "(Ljava/lang/StringBuilder;)V" } : Jvm.MethodName)) ∈ lw_all := lw_g (lw_at lw_m3 90 rfl) rfl
theorem q688 : (Jvm.Cond.selects "java/lang/StringBuilder" ({ cls := "java/lang/AbstractStringBuilder", name := "getValue", desc := "()[B" } : Jvm.MethodName) ({ cls := "java/lang/AbstractStringBuilder", name := "getValue", desc := "()[B" } : Jvm.MethodName)) ∈ lw_all := lw_g (lw_at lw_m3 100 rfl) rfl
theorem q693 : (Jvm.Cond.selects "java/lang/StringBuilder" ({ cls := "java/lang/AbstractStringBuilder", name := "length", desc := "()I" } : Jvm.MethodName) ({ cls := "java/lang/StringBuilder", name := "length", desc := "()I" } : Jvm.MethodName)) ∈ lw_all := lw_g (lw_at lw_m3 105 rfl) rfl
theorem q694 : (Jvm.Cond.instanceMethod ({ cls := "java/lang/StringBuilder", name := "length", desc := "()I" } : Jvm.MethodName)) ∈ lw_all := lw_g (lw_at lw_m3 106 rfl) rfl
theorem q695 : (Jvm.Cond.code ({ cls := "java/lang/StringBuilder", name := "length", desc := "()I" } : Jvm.MethodName) prog_39_method_93_code (1 : Nat) (Option.some Jvm.ClassFile.FieldType.int)) ∈ lw_all := lw_g (lw_at lw_m3 107 rfl) rfl
theorem q696 : (Jvm.Cond.methodLink "java/lang/StringBuilder" (343 : Nat) ({ cls := "java/lang/AbstractStringBuilder", name := "length", desc := "()I" } : Jvm.MethodName)) ∈ lw_all := lw_g (lw_at lw_m3 108 rfl) rfl
theorem q861 : (Jvm.Cond.instanceMethod ({ cls := "java/lang/StringBuilder", name := "append", desc := "(Ljava/lang/String;)Ljava/lang/StringBuilder;" } : Jvm.MethodName)) ∈ lw_all := lw_g (lw_at lw_m4 33 rfl) rfl
theorem q862 : (Jvm.Cond.selects "java/lang/StringBuilder" ({ cls := "java/lang/StringBuilder", name := "append", desc := "(Ljava/lang/String;)Ljava/lang/StringBuilder;" } : Jvm.MethodName) ({ cls := "java/lang/StringBuilder", name := "append", desc := "(Ljava/lang/String;)Ljava/lang/StringBuilder;" } : Jvm.MethodName)) ∈ lw_all := lw_g (lw_at lw_m4 34 rfl) rfl
theorem q863 : (Jvm.Cond.code ({ cls := "java/lang/StringBuilder", name := "append", desc := "(Ljava/lang/String;)Ljava/lang/StringBuilder;" } : Jvm.MethodName) prog_39_method_7_code (2 : Nat) (Option.some (Jvm.ClassFile.FieldType.object "java/lang/StringBuilder"))) ∈ lw_all := lw_g (lw_at lw_m4 35 rfl) rfl
theorem q864 : (Jvm.Cond.methodLink "java/lang/StringBuilder" (29 : Nat) ({ cls := "java/lang/AbstractStringBuilder", name := "append", desc := "(Ljava/lang/String;)Ljava/lang/AbstractStringBuilder;" } : Jvm.MethodName)) ∈ lw_all := lw_g (lw_at lw_m4 36 rfl) rfl
theorem q995 : (Jvm.Cond.selects "java/lang/StringBuilder" ({ cls := "java/lang/Object", name := "getClass", desc := "()Ljava/lang/Class;" } : Jvm.MethodName) ({ cls := "java/lang/Object", name := "getClass", desc := "()Ljava/lang/Class;" } : Jvm.MethodName)) ∈ lw_all := lw_g (lw_at lw_m4 167 rfl) rfl
theorem q2555 : (Jvm.Cond.castable "java/lang/StringBuilder" "java/lang/Object") ∈ lw_tbl := lw_at lw_m11 47 rfl

/-! java/lang/String -/
set_option maxRecDepth 100000
abbrev cJ8_checkBoundsOffCount : ByteArray := prog_38_method_157_code
def yJ8_checkBoundsOffCount : MethodName := ⟨RJ8, "checkBoundsOffCount", "(III)I"⟩
def dkwJ8_checkBoundsOffCount_0 : List UInt8 := [26, 27, 28, 178, 4, 29, 184, 4, 41, 172]
abbrev dktJ8_checkBoundsOffCount_0 : List UInt8 := dkwJ8_checkBoundsOffCount_0 ++ []
theorem dksJ8_checkBoundsOffCount_0 : cJ8_checkBoundsOffCount.data.toList.drop 0 = dktJ8_checkBoundsOffCount_0 := by decide +kernel
theorem dJ8_checkBoundsOffCount_0 : decode cJ8_checkBoundsOffCount 0 = .ok (.iload_n 0, 1) := dk_26 (dk_at dksJ8_checkBoundsOffCount_0 0 rfl rfl)
theorem dJ8_checkBoundsOffCount_1 : decode cJ8_checkBoundsOffCount 1 = .ok (.iload_n 1, 1) := dk_27 (dk_at dksJ8_checkBoundsOffCount_0 1 rfl rfl)
theorem dJ8_checkBoundsOffCount_2 : decode cJ8_checkBoundsOffCount 2 = .ok (.iload_n 2, 1) := dk_28 (dk_at dksJ8_checkBoundsOffCount_0 2 rfl rfl)
theorem dJ8_checkBoundsOffCount_3 : decode cJ8_checkBoundsOffCount 3 = .ok (.getstatic 1053, 3) := dk_178 4 29 (dk_at dksJ8_checkBoundsOffCount_0 3 rfl rfl)
theorem dJ8_checkBoundsOffCount_6 : decode cJ8_checkBoundsOffCount 6 = .ok (.invokestatic 1065, 3) := dk_184 4 41 (dk_at dksJ8_checkBoundsOffCount_0 6 rfl rfl)
theorem dJ8_checkBoundsOffCount_9 : decode cJ8_checkBoundsOffCount 9 = .ok (.ireturn, 1) := dk_172 (dk_at dksJ8_checkBoundsOffCount_0 9 rfl rfl)
abbrev cJ8_checkIndex : ByteArray := prog_38_method_155_code
def yJ8_checkIndex : MethodName := ⟨RJ8, "checkIndex", "(II)V"⟩
def dkwJ8_checkIndex_0 : List UInt8 := [26, 27, 178, 4, 29, 184, 4, 35, 87, 177]
abbrev dktJ8_checkIndex_0 : List UInt8 := dkwJ8_checkIndex_0 ++ []
theorem dksJ8_checkIndex_0 : cJ8_checkIndex.data.toList.drop 0 = dktJ8_checkIndex_0 := by decide +kernel
theorem dJ8_checkIndex_0 : decode cJ8_checkIndex 0 = .ok (.iload_n 0, 1) := dk_26 (dk_at dksJ8_checkIndex_0 0 rfl rfl)
theorem dJ8_checkIndex_1 : decode cJ8_checkIndex 1 = .ok (.iload_n 1, 1) := dk_27 (dk_at dksJ8_checkIndex_0 1 rfl rfl)
theorem dJ8_checkIndex_2 : decode cJ8_checkIndex 2 = .ok (.getstatic 1053, 3) := dk_178 4 29 (dk_at dksJ8_checkIndex_0 2 rfl rfl)
theorem dJ8_checkIndex_5 : decode cJ8_checkIndex 5 = .ok (.invokestatic 1059, 3) := dk_184 4 35 (dk_at dksJ8_checkIndex_0 5 rfl rfl)
theorem dJ8_checkIndex_8 : decode cJ8_checkIndex 8 = .ok (.pop, 1) := dk_87 (dk_at dksJ8_checkIndex_0 8 rfl rfl)
theorem dJ8_checkIndex_9 : decode cJ8_checkIndex 9 = .ok (.return_, 1) := dk_177 (dk_at dksJ8_checkIndex_0 9 rfl rfl)
abbrev cJ8_init : ByteArray := prog_38_method_53_code
def yJ8_init : MethodName := ⟨RJ8, "<init>", "(Ljava/lang/StringBuilder;)V"⟩
def dkwJ8_init_0 : List UInt8 := [42, 43, 1, 183, 1, 233, 177]
abbrev dktJ8_init_0 : List UInt8 := dkwJ8_init_0 ++ []
theorem dksJ8_init_0 : cJ8_init.data.toList.drop 0 = dktJ8_init_0 := by decide +kernel
theorem dJ8_init_0 : decode cJ8_init 0 = .ok (.aload_n 0, 1) := dk_42 (dk_at dksJ8_init_0 0 rfl rfl)
theorem dJ8_init_1 : decode cJ8_init 1 = .ok (.aload_n 1, 1) := dk_43 (dk_at dksJ8_init_0 1 rfl rfl)
theorem dJ8_init_2 : decode cJ8_init 2 = .ok (.aconst_null, 1) := dk_1 (dk_at dksJ8_init_0 2 rfl rfl)
theorem dJ8_init_3 : decode cJ8_init 3 = .ok (.invokespecial 489, 3) := dk_183 1 233 (dk_at dksJ8_init_0 3 rfl rfl)
theorem dJ8_init_6 : decode cJ8_init 6 = .ok (.return_, 1) := dk_177 (dk_at dksJ8_init_0 6 rfl rfl)
abbrev cJ8_init_2 : ByteArray := prog_38_method_150_code
def yJ8_init_2 : MethodName := ⟨RJ8, "<init>", "(Ljava/lang/AbstractStringBuilder;Ljava/lang/Void;)V"⟩
def dkwJ8_init_2_4 : List UInt8 := [181, 0, 9, 177]
abbrev dktJ8_init_2_4 : List UInt8 := dkwJ8_init_2_4 ++ []
def dkwJ8_init_2_3 : List UInt8 := [184, 0, 47, 181, 0, 15, 177, 42, 4, 181, 0, 15, 42, 45, 3, 21, 4, 4, 120, 184, 0, 54]
abbrev dktJ8_init_2_3 : List UInt8 := dkwJ8_init_2_3 ++ dktJ8_init_2_4
def dkwJ8_init_2_2 : List UInt8 := [180, 4, 24, 153, 0, 28, 42, 45, 3, 21, 4, 184, 4, 27, 181, 0, 9, 42, 42, 180, 0, 9, 21, 4]
abbrev dktJ8_init_2_2 : List UInt8 := dkwJ8_init_2_2 ++ dktJ8_init_2_3
def dkwJ8_init_2_1 : List UInt8 := [181, 0, 15, 42, 45, 3, 21, 4, 184, 0, 54, 181, 0, 9, 167, 0, 59, 178, 0, 38, 153, 0, 35, 43]
abbrev dktJ8_init_2_1 : List UInt8 := dkwJ8_init_2_1 ++ dktJ8_init_2_2
def dkwJ8_init_2_0 : List UInt8 := [42, 183, 0, 1, 43, 182, 2, 40, 78, 43, 182, 2, 37, 54, 4, 43, 182, 4, 23, 153, 0, 22, 42, 3]
abbrev dktJ8_init_2_0 : List UInt8 := dkwJ8_init_2_0 ++ dktJ8_init_2_1
theorem dksJ8_init_2_0 : cJ8_init_2.data.toList.drop 0 = dktJ8_init_2_0 := by decide +kernel
theorem dksJ8_init_2_1 : cJ8_init_2.data.toList.drop 24 = dktJ8_init_2_1 := dk_seg dksJ8_init_2_0 24 rfl rfl
theorem dksJ8_init_2_2 : cJ8_init_2.data.toList.drop 48 = dktJ8_init_2_2 := dk_seg dksJ8_init_2_1 24 rfl rfl
theorem dksJ8_init_2_3 : cJ8_init_2.data.toList.drop 72 = dktJ8_init_2_3 := dk_seg dksJ8_init_2_2 24 rfl rfl
theorem dksJ8_init_2_4 : cJ8_init_2.data.toList.drop 94 = dktJ8_init_2_4 := dk_seg dksJ8_init_2_3 22 rfl rfl
theorem dJ8_init_2_0 : decode cJ8_init_2 0 = .ok (.aload_n 0, 1) := dk_42 (dk_at dksJ8_init_2_0 0 rfl rfl)
theorem dJ8_init_2_1 : decode cJ8_init_2 1 = .ok (.invokespecial 1, 3) := dk_183 0 1 (dk_at dksJ8_init_2_0 1 rfl rfl)
theorem dJ8_init_2_4 : decode cJ8_init_2 4 = .ok (.aload_n 1, 1) := dk_43 (dk_at dksJ8_init_2_0 4 rfl rfl)
theorem dJ8_init_2_5 : decode cJ8_init_2 5 = .ok (.invokevirtual 552, 3) := dk_182 2 40 (dk_at dksJ8_init_2_0 5 rfl rfl)
theorem dJ8_init_2_8 : decode cJ8_init_2 8 = .ok (.astore_n 3, 1) := dk_78 (dk_at dksJ8_init_2_0 8 rfl rfl)
theorem dJ8_init_2_9 : decode cJ8_init_2 9 = .ok (.aload_n 1, 1) := dk_43 (dk_at dksJ8_init_2_0 9 rfl rfl)
theorem dJ8_init_2_10 : decode cJ8_init_2 10 = .ok (.invokevirtual 549, 3) := dk_182 2 37 (dk_at dksJ8_init_2_0 10 rfl rfl)
theorem dJ8_init_2_13 : decode cJ8_init_2 13 = .ok (.istore 4, 2) := dk_54 4 (dk_at dksJ8_init_2_0 13 rfl rfl)
theorem dJ8_init_2_15 : decode cJ8_init_2 15 = .ok (.aload_n 1, 1) := dk_43 (dk_at dksJ8_init_2_0 15 rfl rfl)
theorem dJ8_init_2_16 : decode cJ8_init_2 16 = .ok (.invokevirtual 1047, 3) := dk_182 4 23 (dk_at dksJ8_init_2_0 16 rfl rfl)
theorem dJ8_init_2_19 : decode cJ8_init_2 19 = .ok (.ifCond .eq 22, 3) := dk_153 0 22 (dk_at dksJ8_init_2_0 19 rfl rfl)
theorem dJ8_init_2_22 : decode cJ8_init_2 22 = .ok (.aload_n 0, 1) := dk_42 (dk_at dksJ8_init_2_0 22 rfl rfl)
theorem dJ8_init_2_23 : decode cJ8_init_2 23 = .ok (.iconst 0, 1) := dk_3 (dk_at dksJ8_init_2_0 23 rfl rfl)
theorem dJ8_init_2_24 : decode cJ8_init_2 24 = .ok (.putfield 15, 3) := dk_181 0 15 (dk_at dksJ8_init_2_1 0 rfl rfl)
theorem dJ8_init_2_27 : decode cJ8_init_2 27 = .ok (.aload_n 0, 1) := dk_42 (dk_at dksJ8_init_2_1 3 rfl rfl)
theorem dJ8_init_2_28 : decode cJ8_init_2 28 = .ok (.aload_n 3, 1) := dk_45 (dk_at dksJ8_init_2_1 4 rfl rfl)
theorem dJ8_init_2_29 : decode cJ8_init_2 29 = .ok (.iconst 0, 1) := dk_3 (dk_at dksJ8_init_2_1 5 rfl rfl)
theorem dJ8_init_2_30 : decode cJ8_init_2 30 = .ok (.iload 4, 2) := dk_21 4 (dk_at dksJ8_init_2_1 6 rfl rfl)
theorem dJ8_init_2_32 : decode cJ8_init_2 32 = .ok (.invokestatic 54, 3) := dk_184 0 54 (dk_at dksJ8_init_2_1 8 rfl rfl)
theorem dJ8_init_2_35 : decode cJ8_init_2 35 = .ok (.putfield 9, 3) := dk_181 0 9 (dk_at dksJ8_init_2_1 11 rfl rfl)
theorem dJ8_init_2_38 : decode cJ8_init_2 38 = .ok (.goto 59, 3) := dk_167 0 59 (dk_at dksJ8_init_2_1 14 rfl rfl)
theorem dJ8_init_2_41 : decode cJ8_init_2 41 = .ok (.getstatic 38, 3) := dk_178 0 38 (dk_at dksJ8_init_2_1 17 rfl rfl)
theorem dJ8_init_2_44 : decode cJ8_init_2 44 = .ok (.ifCond .eq 35, 3) := dk_153 0 35 (dk_at dksJ8_init_2_1 20 rfl rfl)
theorem dJ8_init_2_47 : decode cJ8_init_2 47 = .ok (.aload_n 1, 1) := dk_43 (dk_at dksJ8_init_2_1 23 rfl rfl)
theorem dJ8_init_2_48 : decode cJ8_init_2 48 = .ok (.getfield 1048, 3) := dk_180 4 24 (dk_at dksJ8_init_2_2 0 rfl rfl)
theorem dJ8_init_2_51 : decode cJ8_init_2 51 = .ok (.ifCond .eq 28, 3) := dk_153 0 28 (dk_at dksJ8_init_2_2 3 rfl rfl)
theorem dJ8_init_2_54 : decode cJ8_init_2 54 = .ok (.aload_n 0, 1) := dk_42 (dk_at dksJ8_init_2_2 6 rfl rfl)
theorem dJ8_init_2_55 : decode cJ8_init_2 55 = .ok (.aload_n 3, 1) := dk_45 (dk_at dksJ8_init_2_2 7 rfl rfl)
theorem dJ8_init_2_56 : decode cJ8_init_2 56 = .ok (.iconst 0, 1) := dk_3 (dk_at dksJ8_init_2_2 8 rfl rfl)
theorem dJ8_init_2_57 : decode cJ8_init_2 57 = .ok (.iload 4, 2) := dk_21 4 (dk_at dksJ8_init_2_2 9 rfl rfl)
theorem dJ8_init_2_59 : decode cJ8_init_2 59 = .ok (.invokestatic 1051, 3) := dk_184 4 27 (dk_at dksJ8_init_2_2 11 rfl rfl)
theorem dJ8_init_2_62 : decode cJ8_init_2 62 = .ok (.putfield 9, 3) := dk_181 0 9 (dk_at dksJ8_init_2_2 14 rfl rfl)
theorem dJ8_init_2_65 : decode cJ8_init_2 65 = .ok (.aload_n 0, 1) := dk_42 (dk_at dksJ8_init_2_2 17 rfl rfl)
theorem dJ8_init_2_66 : decode cJ8_init_2 66 = .ok (.aload_n 0, 1) := dk_42 (dk_at dksJ8_init_2_2 18 rfl rfl)
theorem dJ8_init_2_67 : decode cJ8_init_2 67 = .ok (.getfield 9, 3) := dk_180 0 9 (dk_at dksJ8_init_2_2 19 rfl rfl)
theorem dJ8_init_2_70 : decode cJ8_init_2 70 = .ok (.iload 4, 2) := dk_21 4 (dk_at dksJ8_init_2_2 22 rfl rfl)
theorem dJ8_init_2_72 : decode cJ8_init_2 72 = .ok (.invokestatic 47, 3) := dk_184 0 47 (dk_at dksJ8_init_2_3 0 rfl rfl)
theorem dJ8_init_2_75 : decode cJ8_init_2 75 = .ok (.putfield 15, 3) := dk_181 0 15 (dk_at dksJ8_init_2_3 3 rfl rfl)
theorem dJ8_init_2_78 : decode cJ8_init_2 78 = .ok (.return_, 1) := dk_177 (dk_at dksJ8_init_2_3 6 rfl rfl)
theorem dJ8_init_2_79 : decode cJ8_init_2 79 = .ok (.aload_n 0, 1) := dk_42 (dk_at dksJ8_init_2_3 7 rfl rfl)
theorem dJ8_init_2_80 : decode cJ8_init_2 80 = .ok (.iconst 1, 1) := dk_4 (dk_at dksJ8_init_2_3 8 rfl rfl)
theorem dJ8_init_2_81 : decode cJ8_init_2 81 = .ok (.putfield 15, 3) := dk_181 0 15 (dk_at dksJ8_init_2_3 9 rfl rfl)
theorem dJ8_init_2_84 : decode cJ8_init_2 84 = .ok (.aload_n 0, 1) := dk_42 (dk_at dksJ8_init_2_3 12 rfl rfl)
theorem dJ8_init_2_85 : decode cJ8_init_2 85 = .ok (.aload_n 3, 1) := dk_45 (dk_at dksJ8_init_2_3 13 rfl rfl)
theorem dJ8_init_2_86 : decode cJ8_init_2 86 = .ok (.iconst 0, 1) := dk_3 (dk_at dksJ8_init_2_3 14 rfl rfl)
theorem dJ8_init_2_87 : decode cJ8_init_2 87 = .ok (.iload 4, 2) := dk_21 4 (dk_at dksJ8_init_2_3 15 rfl rfl)
theorem dJ8_init_2_89 : decode cJ8_init_2 89 = .ok (.iconst 1, 1) := dk_4 (dk_at dksJ8_init_2_3 17 rfl rfl)
theorem dJ8_init_2_90 : decode cJ8_init_2 90 = .ok (.ishl, 1) := dk_120 (dk_at dksJ8_init_2_3 18 rfl rfl)
theorem dJ8_init_2_91 : decode cJ8_init_2 91 = .ok (.invokestatic 54, 3) := dk_184 0 54 (dk_at dksJ8_init_2_3 19 rfl rfl)
theorem dJ8_init_2_94 : decode cJ8_init_2 94 = .ok (.putfield 9, 3) := dk_181 0 9 (dk_at dksJ8_init_2_4 0 rfl rfl)
theorem dJ8_init_2_97 : decode cJ8_init_2 97 = .ok (.return_, 1) := dk_177 (dk_at dksJ8_init_2_4 3 rfl rfl)
abbrev cJ8_equals : ByteArray := prog_38_method_66_code
def yJ8_equals : MethodName := ⟨RJ8, "equals", "(Ljava/lang/Object;)Z"⟩
def dkwJ8_equals_2 : List UInt8 := [184, 2, 29, 153, 0, 7, 4, 167, 0, 4, 3, 172]
abbrev dktJ8_equals_2 : List UInt8 := dkwJ8_equals_2 ++ []
def dkwJ8_equals_1 : List UInt8 := [153, 0, 14, 42, 180, 0, 15, 44, 180, 0, 15, 160, 0, 21, 42, 180, 0, 9, 44, 180, 0, 9]
abbrev dktJ8_equals_1 : List UInt8 := dkwJ8_equals_1 ++ dktJ8_equals_2
def dkwJ8_equals_0 : List UInt8 := [42, 43, 166, 0, 5, 4, 172, 43, 193, 0, 10, 153, 0, 43, 43, 192, 0, 10, 77, 178, 0, 38]
abbrev dktJ8_equals_0 : List UInt8 := dkwJ8_equals_0 ++ dktJ8_equals_1
theorem dksJ8_equals_0 : cJ8_equals.data.toList.drop 0 = dktJ8_equals_0 := by decide +kernel
theorem dksJ8_equals_1 : cJ8_equals.data.toList.drop 22 = dktJ8_equals_1 := dk_seg dksJ8_equals_0 22 rfl rfl
theorem dksJ8_equals_2 : cJ8_equals.data.toList.drop 44 = dktJ8_equals_2 := dk_seg dksJ8_equals_1 22 rfl rfl
theorem dJ8_equals_0 : decode cJ8_equals 0 = .ok (.aload_n 0, 1) := dk_42 (dk_at dksJ8_equals_0 0 rfl rfl)
theorem dJ8_equals_1 : decode cJ8_equals 1 = .ok (.aload_n 1, 1) := dk_43 (dk_at dksJ8_equals_0 1 rfl rfl)
theorem dJ8_equals_2 : decode cJ8_equals 2 = .ok (.if_acmp .ne 5, 3) := dk_166 0 5 (dk_at dksJ8_equals_0 2 rfl rfl)
theorem dJ8_equals_5 : decode cJ8_equals 5 = .ok (.iconst 1, 1) := dk_4 (dk_at dksJ8_equals_0 5 rfl rfl)
theorem dJ8_equals_6 : decode cJ8_equals 6 = .ok (.ireturn, 1) := dk_172 (dk_at dksJ8_equals_0 6 rfl rfl)
theorem dJ8_equals_7 : decode cJ8_equals 7 = .ok (.aload_n 1, 1) := dk_43 (dk_at dksJ8_equals_0 7 rfl rfl)
theorem dJ8_equals_8 : decode cJ8_equals 8 = .ok (.instanceof 10, 3) := dk_193 0 10 (dk_at dksJ8_equals_0 8 rfl rfl)
theorem dJ8_equals_11 : decode cJ8_equals 11 = .ok (.ifCond .eq 43, 3) := dk_153 0 43 (dk_at dksJ8_equals_0 11 rfl rfl)
theorem dJ8_equals_14 : decode cJ8_equals 14 = .ok (.aload_n 1, 1) := dk_43 (dk_at dksJ8_equals_0 14 rfl rfl)
theorem dJ8_equals_15 : decode cJ8_equals 15 = .ok (.checkcast 10, 3) := dk_192 0 10 (dk_at dksJ8_equals_0 15 rfl rfl)
theorem dJ8_equals_18 : decode cJ8_equals 18 = .ok (.astore_n 2, 1) := dk_77 (dk_at dksJ8_equals_0 18 rfl rfl)
theorem dJ8_equals_19 : decode cJ8_equals 19 = .ok (.getstatic 38, 3) := dk_178 0 38 (dk_at dksJ8_equals_0 19 rfl rfl)
theorem dJ8_equals_22 : decode cJ8_equals 22 = .ok (.ifCond .eq 14, 3) := dk_153 0 14 (dk_at dksJ8_equals_1 0 rfl rfl)
theorem dJ8_equals_25 : decode cJ8_equals 25 = .ok (.aload_n 0, 1) := dk_42 (dk_at dksJ8_equals_1 3 rfl rfl)
theorem dJ8_equals_26 : decode cJ8_equals 26 = .ok (.getfield 15, 3) := dk_180 0 15 (dk_at dksJ8_equals_1 4 rfl rfl)
theorem dJ8_equals_29 : decode cJ8_equals 29 = .ok (.aload_n 2, 1) := dk_44 (dk_at dksJ8_equals_1 7 rfl rfl)
theorem dJ8_equals_30 : decode cJ8_equals 30 = .ok (.getfield 15, 3) := dk_180 0 15 (dk_at dksJ8_equals_1 8 rfl rfl)
theorem dJ8_equals_33 : decode cJ8_equals 33 = .ok (.if_icmp .ne 21, 3) := dk_160 0 21 (dk_at dksJ8_equals_1 11 rfl rfl)
theorem dJ8_equals_36 : decode cJ8_equals 36 = .ok (.aload_n 0, 1) := dk_42 (dk_at dksJ8_equals_1 14 rfl rfl)
theorem dJ8_equals_37 : decode cJ8_equals 37 = .ok (.getfield 9, 3) := dk_180 0 9 (dk_at dksJ8_equals_1 15 rfl rfl)
theorem dJ8_equals_40 : decode cJ8_equals 40 = .ok (.aload_n 2, 1) := dk_44 (dk_at dksJ8_equals_1 18 rfl rfl)
theorem dJ8_equals_41 : decode cJ8_equals 41 = .ok (.getfield 9, 3) := dk_180 0 9 (dk_at dksJ8_equals_1 19 rfl rfl)
theorem dJ8_equals_44 : decode cJ8_equals 44 = .ok (.invokestatic 541, 3) := dk_184 2 29 (dk_at dksJ8_equals_2 0 rfl rfl)
theorem dJ8_equals_47 : decode cJ8_equals 47 = .ok (.ifCond .eq 7, 3) := dk_153 0 7 (dk_at dksJ8_equals_2 3 rfl rfl)
theorem dJ8_equals_50 : decode cJ8_equals 50 = .ok (.iconst 1, 1) := dk_4 (dk_at dksJ8_equals_2 6 rfl rfl)
theorem dJ8_equals_51 : decode cJ8_equals 51 = .ok (.goto 4, 3) := dk_167 0 4 (dk_at dksJ8_equals_2 7 rfl rfl)
theorem dJ8_equals_54 : decode cJ8_equals 54 = .ok (.iconst 0, 1) := dk_3 (dk_at dksJ8_equals_2 10 rfl rfl)
theorem dJ8_equals_55 : decode cJ8_equals 55 = .ok (.ireturn, 1) := dk_172 (dk_at dksJ8_equals_2 11 rfl rfl)
abbrev cJ8_checkBoundsBeginEnd : ByteArray := prog_38_method_158_code
def yJ8_checkBoundsBeginEnd : MethodName := ⟨RJ8, "checkBoundsBeginEnd", "(III)V"⟩
def dkwJ8_checkBoundsBeginEnd_0 : List UInt8 := [26, 27, 28, 178, 4, 29, 184, 4, 38, 87, 177]
abbrev dktJ8_checkBoundsBeginEnd_0 : List UInt8 := dkwJ8_checkBoundsBeginEnd_0 ++ []
theorem dksJ8_checkBoundsBeginEnd_0 : cJ8_checkBoundsBeginEnd.data.toList.drop 0 = dktJ8_checkBoundsBeginEnd_0 := by decide +kernel
theorem dJ8_checkBoundsBeginEnd_0 : decode cJ8_checkBoundsBeginEnd 0 = .ok (.iload_n 0, 1) := dk_26 (dk_at dksJ8_checkBoundsBeginEnd_0 0 rfl rfl)
theorem dJ8_checkBoundsBeginEnd_1 : decode cJ8_checkBoundsBeginEnd 1 = .ok (.iload_n 1, 1) := dk_27 (dk_at dksJ8_checkBoundsBeginEnd_0 1 rfl rfl)
theorem dJ8_checkBoundsBeginEnd_2 : decode cJ8_checkBoundsBeginEnd 2 = .ok (.iload_n 2, 1) := dk_28 (dk_at dksJ8_checkBoundsBeginEnd_0 2 rfl rfl)
theorem dJ8_checkBoundsBeginEnd_3 : decode cJ8_checkBoundsBeginEnd 3 = .ok (.getstatic 1053, 3) := dk_178 4 29 (dk_at dksJ8_checkBoundsBeginEnd_0 3 rfl rfl)
theorem dJ8_checkBoundsBeginEnd_6 : decode cJ8_checkBoundsBeginEnd 6 = .ok (.invokestatic 1062, 3) := dk_184 4 38 (dk_at dksJ8_checkBoundsBeginEnd_0 6 rfl rfl)
theorem dJ8_checkBoundsBeginEnd_9 : decode cJ8_checkBoundsBeginEnd 9 = .ok (.pop, 1) := dk_87 (dk_at dksJ8_checkBoundsBeginEnd_0 9 rfl rfl)
theorem dJ8_checkBoundsBeginEnd_10 : decode cJ8_checkBoundsBeginEnd 10 = .ok (.return_, 1) := dk_177 (dk_at dksJ8_checkBoundsBeginEnd_0 10 rfl rfl)
abbrev cJ8_length : ByteArray := prog_38_method_54_code
def yJ8_length : MethodName := ⟨RJ8, "length", "()I"⟩
def dkwJ8_length_0 : List UInt8 := [42, 180, 0, 9, 190, 42, 182, 1, 79, 122, 172]
abbrev dktJ8_length_0 : List UInt8 := dkwJ8_length_0 ++ []
theorem dksJ8_length_0 : cJ8_length.data.toList.drop 0 = dktJ8_length_0 := by decide +kernel
theorem dJ8_length_0 : decode cJ8_length 0 = .ok (.aload_n 0, 1) := dk_42 (dk_at dksJ8_length_0 0 rfl rfl)
theorem dJ8_length_1 : decode cJ8_length 1 = .ok (.getfield 9, 3) := dk_180 0 9 (dk_at dksJ8_length_0 1 rfl rfl)
theorem dJ8_length_4 : decode cJ8_length 4 = .ok (.arraylength, 1) := dk_190 (dk_at dksJ8_length_0 4 rfl rfl)
theorem dJ8_length_5 : decode cJ8_length 5 = .ok (.aload_n 0, 1) := dk_42 (dk_at dksJ8_length_0 5 rfl rfl)
theorem dJ8_length_6 : decode cJ8_length 6 = .ok (.invokevirtual 335, 3) := dk_182 1 79 (dk_at dksJ8_length_0 6 rfl rfl)
theorem dJ8_length_9 : decode cJ8_length 9 = .ok (.ishr, 1) := dk_122 (dk_at dksJ8_length_0 9 rfl rfl)
theorem dJ8_length_10 : decode cJ8_length 10 = .ok (.ireturn, 1) := dk_172 (dk_at dksJ8_length_0 10 rfl rfl)
abbrev cJ8_coder : ByteArray := prog_38_method_152_code
def yJ8_coder : MethodName := ⟨RJ8, "coder", "()B"⟩
def dkwJ8_coder_0 : List UInt8 := [178, 0, 38, 153, 0, 10, 42, 180, 0, 15, 167, 0, 4, 4, 172]
abbrev dktJ8_coder_0 : List UInt8 := dkwJ8_coder_0 ++ []
theorem dksJ8_coder_0 : cJ8_coder.data.toList.drop 0 = dktJ8_coder_0 := by decide +kernel
theorem dJ8_coder_0 : decode cJ8_coder 0 = .ok (.getstatic 38, 3) := dk_178 0 38 (dk_at dksJ8_coder_0 0 rfl rfl)
theorem dJ8_coder_3 : decode cJ8_coder 3 = .ok (.ifCond .eq 10, 3) := dk_153 0 10 (dk_at dksJ8_coder_0 3 rfl rfl)
theorem dJ8_coder_6 : decode cJ8_coder 6 = .ok (.aload_n 0, 1) := dk_42 (dk_at dksJ8_coder_0 6 rfl rfl)
theorem dJ8_coder_7 : decode cJ8_coder 7 = .ok (.getfield 15, 3) := dk_180 0 15 (dk_at dksJ8_coder_0 7 rfl rfl)
theorem dJ8_coder_10 : decode cJ8_coder 10 = .ok (.goto 4, 3) := dk_167 0 4 (dk_at dksJ8_coder_0 10 rfl rfl)
theorem dJ8_coder_13 : decode cJ8_coder 13 = .ok (.iconst 1, 1) := dk_4 (dk_at dksJ8_coder_0 13 rfl rfl)
theorem dJ8_coder_14 : decode cJ8_coder 14 = .ok (.ireturn, 1) := dk_172 (dk_at dksJ8_coder_0 14 rfl rfl)
abbrev cJ8_getBytes : ByteArray := prog_38_method_147_code
def yJ8_getBytes : MethodName := ⟨RJ8, "getBytes", "([BIB)V"⟩
def dkwJ8_getBytes_1 : List UInt8 := [184, 0, 212, 167, 0, 18, 42, 180, 0, 9, 3, 43, 28, 42, 180, 0, 9, 190, 184, 0, 106, 177]
abbrev dktJ8_getBytes_1 : List UInt8 := dkwJ8_getBytes_1 ++ []
def dkwJ8_getBytes_0 : List UInt8 := [42, 182, 1, 79, 29, 160, 0, 23, 42, 180, 0, 9, 3, 43, 28, 29, 120, 42, 180, 0, 9, 190]
abbrev dktJ8_getBytes_0 : List UInt8 := dkwJ8_getBytes_0 ++ dktJ8_getBytes_1
theorem dksJ8_getBytes_0 : cJ8_getBytes.data.toList.drop 0 = dktJ8_getBytes_0 := by decide +kernel
theorem dksJ8_getBytes_1 : cJ8_getBytes.data.toList.drop 22 = dktJ8_getBytes_1 := dk_seg dksJ8_getBytes_0 22 rfl rfl
theorem dJ8_getBytes_0 : decode cJ8_getBytes 0 = .ok (.aload_n 0, 1) := dk_42 (dk_at dksJ8_getBytes_0 0 rfl rfl)
theorem dJ8_getBytes_1 : decode cJ8_getBytes 1 = .ok (.invokevirtual 335, 3) := dk_182 1 79 (dk_at dksJ8_getBytes_0 1 rfl rfl)
theorem dJ8_getBytes_4 : decode cJ8_getBytes 4 = .ok (.iload_n 3, 1) := dk_29 (dk_at dksJ8_getBytes_0 4 rfl rfl)
theorem dJ8_getBytes_5 : decode cJ8_getBytes 5 = .ok (.if_icmp .ne 23, 3) := dk_160 0 23 (dk_at dksJ8_getBytes_0 5 rfl rfl)
theorem dJ8_getBytes_8 : decode cJ8_getBytes 8 = .ok (.aload_n 0, 1) := dk_42 (dk_at dksJ8_getBytes_0 8 rfl rfl)
theorem dJ8_getBytes_9 : decode cJ8_getBytes 9 = .ok (.getfield 9, 3) := dk_180 0 9 (dk_at dksJ8_getBytes_0 9 rfl rfl)
theorem dJ8_getBytes_12 : decode cJ8_getBytes 12 = .ok (.iconst 0, 1) := dk_3 (dk_at dksJ8_getBytes_0 12 rfl rfl)
theorem dJ8_getBytes_13 : decode cJ8_getBytes 13 = .ok (.aload_n 1, 1) := dk_43 (dk_at dksJ8_getBytes_0 13 rfl rfl)
theorem dJ8_getBytes_14 : decode cJ8_getBytes 14 = .ok (.iload_n 2, 1) := dk_28 (dk_at dksJ8_getBytes_0 14 rfl rfl)
theorem dJ8_getBytes_15 : decode cJ8_getBytes 15 = .ok (.iload_n 3, 1) := dk_29 (dk_at dksJ8_getBytes_0 15 rfl rfl)
theorem dJ8_getBytes_16 : decode cJ8_getBytes 16 = .ok (.ishl, 1) := dk_120 (dk_at dksJ8_getBytes_0 16 rfl rfl)
theorem dJ8_getBytes_17 : decode cJ8_getBytes 17 = .ok (.aload_n 0, 1) := dk_42 (dk_at dksJ8_getBytes_0 17 rfl rfl)
theorem dJ8_getBytes_18 : decode cJ8_getBytes 18 = .ok (.getfield 9, 3) := dk_180 0 9 (dk_at dksJ8_getBytes_0 18 rfl rfl)
theorem dJ8_getBytes_21 : decode cJ8_getBytes 21 = .ok (.arraylength, 1) := dk_190 (dk_at dksJ8_getBytes_0 21 rfl rfl)
theorem dJ8_getBytes_22 : decode cJ8_getBytes 22 = .ok (.invokestatic 212, 3) := dk_184 0 212 (dk_at dksJ8_getBytes_1 0 rfl rfl)
theorem dJ8_getBytes_25 : decode cJ8_getBytes 25 = .ok (.goto 18, 3) := dk_167 0 18 (dk_at dksJ8_getBytes_1 3 rfl rfl)
theorem dJ8_getBytes_28 : decode cJ8_getBytes 28 = .ok (.aload_n 0, 1) := dk_42 (dk_at dksJ8_getBytes_1 6 rfl rfl)
theorem dJ8_getBytes_29 : decode cJ8_getBytes 29 = .ok (.getfield 9, 3) := dk_180 0 9 (dk_at dksJ8_getBytes_1 7 rfl rfl)
theorem dJ8_getBytes_32 : decode cJ8_getBytes 32 = .ok (.iconst 0, 1) := dk_3 (dk_at dksJ8_getBytes_1 10 rfl rfl)
theorem dJ8_getBytes_33 : decode cJ8_getBytes 33 = .ok (.aload_n 1, 1) := dk_43 (dk_at dksJ8_getBytes_1 11 rfl rfl)
theorem dJ8_getBytes_34 : decode cJ8_getBytes 34 = .ok (.iload_n 2, 1) := dk_28 (dk_at dksJ8_getBytes_1 12 rfl rfl)
theorem dJ8_getBytes_35 : decode cJ8_getBytes 35 = .ok (.aload_n 0, 1) := dk_42 (dk_at dksJ8_getBytes_1 13 rfl rfl)
theorem dJ8_getBytes_36 : decode cJ8_getBytes 36 = .ok (.getfield 9, 3) := dk_180 0 9 (dk_at dksJ8_getBytes_1 14 rfl rfl)
theorem dJ8_getBytes_39 : decode cJ8_getBytes 39 = .ok (.arraylength, 1) := dk_190 (dk_at dksJ8_getBytes_1 17 rfl rfl)
theorem dJ8_getBytes_40 : decode cJ8_getBytes 40 = .ok (.invokestatic 106, 3) := dk_184 0 106 (dk_at dksJ8_getBytes_1 18 rfl rfl)
theorem dJ8_getBytes_43 : decode cJ8_getBytes 43 = .ok (.return_, 1) := dk_177 (dk_at dksJ8_getBytes_1 21 rfl rfl)
abbrev cJ8_indexOf : ByteArray := prog_38_method_84_code
def yJ8_indexOf : MethodName := ⟨RJ8, "indexOf", "(Ljava/lang/String;)I"⟩
def dkwJ8_indexOf_2 : List UInt8 := [154, 0, 5, 2, 172, 42, 180, 0, 9, 43, 180, 0, 9, 184, 2, 138, 172]
abbrev dktJ8_indexOf_2 : List UInt8 := dkwJ8_indexOf_2 ++ []
def dkwJ8_indexOf_1 : List UInt8 := [43, 180, 0, 9, 184, 2, 135, 167, 0, 14, 42, 180, 0, 9, 43, 180, 0, 9, 184, 2, 137, 172, 28]
abbrev dktJ8_indexOf_1 : List UInt8 := dkwJ8_indexOf_1 ++ dktJ8_indexOf_2
def dkwJ8_indexOf_0 : List UInt8 := [42, 182, 1, 79, 61, 28, 43, 182, 1, 79, 160, 0, 36, 42, 182, 1, 236, 153, 0, 17, 42, 180, 0, 9]
abbrev dktJ8_indexOf_0 : List UInt8 := dkwJ8_indexOf_0 ++ dktJ8_indexOf_1
theorem dksJ8_indexOf_0 : cJ8_indexOf.data.toList.drop 0 = dktJ8_indexOf_0 := by decide +kernel
theorem dksJ8_indexOf_1 : cJ8_indexOf.data.toList.drop 24 = dktJ8_indexOf_1 := dk_seg dksJ8_indexOf_0 24 rfl rfl
theorem dksJ8_indexOf_2 : cJ8_indexOf.data.toList.drop 47 = dktJ8_indexOf_2 := dk_seg dksJ8_indexOf_1 23 rfl rfl
theorem dJ8_indexOf_0 : decode cJ8_indexOf 0 = .ok (.aload_n 0, 1) := dk_42 (dk_at dksJ8_indexOf_0 0 rfl rfl)
theorem dJ8_indexOf_1 : decode cJ8_indexOf 1 = .ok (.invokevirtual 335, 3) := dk_182 1 79 (dk_at dksJ8_indexOf_0 1 rfl rfl)
theorem dJ8_indexOf_4 : decode cJ8_indexOf 4 = .ok (.istore_n 2, 1) := dk_61 (dk_at dksJ8_indexOf_0 4 rfl rfl)
theorem dJ8_indexOf_5 : decode cJ8_indexOf 5 = .ok (.iload_n 2, 1) := dk_28 (dk_at dksJ8_indexOf_0 5 rfl rfl)
theorem dJ8_indexOf_6 : decode cJ8_indexOf 6 = .ok (.aload_n 1, 1) := dk_43 (dk_at dksJ8_indexOf_0 6 rfl rfl)
theorem dJ8_indexOf_7 : decode cJ8_indexOf 7 = .ok (.invokevirtual 335, 3) := dk_182 1 79 (dk_at dksJ8_indexOf_0 7 rfl rfl)
theorem dJ8_indexOf_10 : decode cJ8_indexOf 10 = .ok (.if_icmp .ne 36, 3) := dk_160 0 36 (dk_at dksJ8_indexOf_0 10 rfl rfl)
theorem dJ8_indexOf_13 : decode cJ8_indexOf 13 = .ok (.aload_n 0, 1) := dk_42 (dk_at dksJ8_indexOf_0 13 rfl rfl)
theorem dJ8_indexOf_14 : decode cJ8_indexOf 14 = .ok (.invokevirtual 492, 3) := dk_182 1 236 (dk_at dksJ8_indexOf_0 14 rfl rfl)
theorem dJ8_indexOf_17 : decode cJ8_indexOf 17 = .ok (.ifCond .eq 17, 3) := dk_153 0 17 (dk_at dksJ8_indexOf_0 17 rfl rfl)
theorem dJ8_indexOf_20 : decode cJ8_indexOf 20 = .ok (.aload_n 0, 1) := dk_42 (dk_at dksJ8_indexOf_0 20 rfl rfl)
theorem dJ8_indexOf_21 : decode cJ8_indexOf 21 = .ok (.getfield 9, 3) := dk_180 0 9 (dk_at dksJ8_indexOf_0 21 rfl rfl)
theorem dJ8_indexOf_24 : decode cJ8_indexOf 24 = .ok (.aload_n 1, 1) := dk_43 (dk_at dksJ8_indexOf_1 0 rfl rfl)
theorem dJ8_indexOf_25 : decode cJ8_indexOf 25 = .ok (.getfield 9, 3) := dk_180 0 9 (dk_at dksJ8_indexOf_1 1 rfl rfl)
theorem dJ8_indexOf_28 : decode cJ8_indexOf 28 = .ok (.invokestatic 647, 3) := dk_184 2 135 (dk_at dksJ8_indexOf_1 4 rfl rfl)
theorem dJ8_indexOf_31 : decode cJ8_indexOf 31 = .ok (.goto 14, 3) := dk_167 0 14 (dk_at dksJ8_indexOf_1 7 rfl rfl)
theorem dJ8_indexOf_34 : decode cJ8_indexOf 34 = .ok (.aload_n 0, 1) := dk_42 (dk_at dksJ8_indexOf_1 10 rfl rfl)
theorem dJ8_indexOf_35 : decode cJ8_indexOf 35 = .ok (.getfield 9, 3) := dk_180 0 9 (dk_at dksJ8_indexOf_1 11 rfl rfl)
theorem dJ8_indexOf_38 : decode cJ8_indexOf 38 = .ok (.aload_n 1, 1) := dk_43 (dk_at dksJ8_indexOf_1 14 rfl rfl)
theorem dJ8_indexOf_39 : decode cJ8_indexOf 39 = .ok (.getfield 9, 3) := dk_180 0 9 (dk_at dksJ8_indexOf_1 15 rfl rfl)
theorem dJ8_indexOf_42 : decode cJ8_indexOf 42 = .ok (.invokestatic 649, 3) := dk_184 2 137 (dk_at dksJ8_indexOf_1 18 rfl rfl)
theorem dJ8_indexOf_45 : decode cJ8_indexOf 45 = .ok (.ireturn, 1) := dk_172 (dk_at dksJ8_indexOf_1 21 rfl rfl)
theorem dJ8_indexOf_46 : decode cJ8_indexOf 46 = .ok (.iload_n 2, 1) := dk_28 (dk_at dksJ8_indexOf_1 22 rfl rfl)
theorem dJ8_indexOf_47 : decode cJ8_indexOf 47 = .ok (.ifCond .ne 5, 3) := dk_154 0 5 (dk_at dksJ8_indexOf_2 0 rfl rfl)
theorem dJ8_indexOf_50 : decode cJ8_indexOf 50 = .ok (.iconst (-1), 1) := dk_2 (dk_at dksJ8_indexOf_2 3 rfl rfl)
theorem dJ8_indexOf_51 : decode cJ8_indexOf 51 = .ok (.ireturn, 1) := dk_172 (dk_at dksJ8_indexOf_2 4 rfl rfl)
theorem dJ8_indexOf_52 : decode cJ8_indexOf 52 = .ok (.aload_n 0, 1) := dk_42 (dk_at dksJ8_indexOf_2 5 rfl rfl)
theorem dJ8_indexOf_53 : decode cJ8_indexOf 53 = .ok (.getfield 9, 3) := dk_180 0 9 (dk_at dksJ8_indexOf_2 6 rfl rfl)
theorem dJ8_indexOf_56 : decode cJ8_indexOf 56 = .ok (.aload_n 1, 1) := dk_43 (dk_at dksJ8_indexOf_2 9 rfl rfl)
theorem dJ8_indexOf_57 : decode cJ8_indexOf 57 = .ok (.getfield 9, 3) := dk_180 0 9 (dk_at dksJ8_indexOf_2 10 rfl rfl)
theorem dJ8_indexOf_60 : decode cJ8_indexOf 60 = .ok (.invokestatic 650, 3) := dk_184 2 138 (dk_at dksJ8_indexOf_2 13 rfl rfl)
theorem dJ8_indexOf_63 : decode cJ8_indexOf 63 = .ok (.ireturn, 1) := dk_172 (dk_at dksJ8_indexOf_2 16 rfl rfl)
abbrev cJ8_isLatin1 : ByteArray := prog_38_method_154_code
def yJ8_isLatin1 : MethodName := ⟨RJ8, "isLatin1", "()Z"⟩
def dkwJ8_isLatin1_0 : List UInt8 := [178, 0, 38, 153, 0, 14, 42, 180, 0, 15, 154, 0, 7, 4, 167, 0, 4, 3, 172]
abbrev dktJ8_isLatin1_0 : List UInt8 := dkwJ8_isLatin1_0 ++ []
theorem dksJ8_isLatin1_0 : cJ8_isLatin1.data.toList.drop 0 = dktJ8_isLatin1_0 := by decide +kernel
theorem dJ8_isLatin1_0 : decode cJ8_isLatin1 0 = .ok (.getstatic 38, 3) := dk_178 0 38 (dk_at dksJ8_isLatin1_0 0 rfl rfl)
theorem dJ8_isLatin1_3 : decode cJ8_isLatin1 3 = .ok (.ifCond .eq 14, 3) := dk_153 0 14 (dk_at dksJ8_isLatin1_0 3 rfl rfl)
theorem dJ8_isLatin1_6 : decode cJ8_isLatin1 6 = .ok (.aload_n 0, 1) := dk_42 (dk_at dksJ8_isLatin1_0 6 rfl rfl)
theorem dJ8_isLatin1_7 : decode cJ8_isLatin1 7 = .ok (.getfield 15, 3) := dk_180 0 15 (dk_at dksJ8_isLatin1_0 7 rfl rfl)
theorem dJ8_isLatin1_10 : decode cJ8_isLatin1 10 = .ok (.ifCond .ne 7, 3) := dk_154 0 7 (dk_at dksJ8_isLatin1_0 10 rfl rfl)
theorem dJ8_isLatin1_13 : decode cJ8_isLatin1 13 = .ok (.iconst 1, 1) := dk_4 (dk_at dksJ8_isLatin1_0 13 rfl rfl)
theorem dJ8_isLatin1_14 : decode cJ8_isLatin1 14 = .ok (.goto 4, 3) := dk_167 0 4 (dk_at dksJ8_isLatin1_0 14 rfl rfl)
theorem dJ8_isLatin1_17 : decode cJ8_isLatin1 17 = .ok (.iconst 0, 1) := dk_3 (dk_at dksJ8_isLatin1_0 17 rfl rfl)
theorem dJ8_isLatin1_18 : decode cJ8_isLatin1 18 = .ok (.ireturn, 1) := dk_172 (dk_at dksJ8_isLatin1_0 18 rfl rfl)
theorem q124 : (Jvm.Cond.initialized "java/lang/String") ∈ lw_all := lw_g (lw_at lw_m1 16 rfl) rfl
theorem q558 : (Jvm.Cond.laysStatic "java/lang/String" "COMPACT_STRINGS" "Z") ∈ lw_tbl := lw_at lw_m2 210 rfl
theorem q568 : (Jvm.Cond.fieldLink "java/lang/String" (1048 : Nat) "java/lang/AbstractStringBuilder" "maybeLatin1" "Z") ∈ lw_all := lw_g (lw_at lw_m2 220 rfl) rfl
theorem q646 : (Jvm.Cond.static ({ cls := "java/lang/String", name := "checkBoundsOffCount", desc := "(III)I" } : Jvm.MethodName)) ∈ lw_all := lw_g (lw_at lw_m3 58 rfl) rfl
theorem q647 : (Jvm.Cond.code ({ cls := "java/lang/String", name := "checkBoundsOffCount", desc := "(III)I" } : Jvm.MethodName) prog_38_method_157_code (3 : Nat) (Option.some Jvm.ClassFile.FieldType.int)) ∈ lw_all := lw_g (lw_at lw_m3 59 rfl) rfl
theorem q648 : (Jvm.Cond.fieldLink "java/lang/String" (1053 : Nat) "jdk/internal/util/Preconditions" "SIOOBE_FORMATTER" "Ljava/util/function/BiFunction;") ∈ lw_all := lw_g (lw_at lw_m3 60 rfl) rfl
theorem q650 : (Jvm.Cond.methodLink "java/lang/String" (1065 : Nat) ({ cls := "jdk/internal/util/Preconditions", name := "checkFromIndexSize", desc := "(IIILjava/util/function/BiFunction;)I" } : Jvm.MethodName)) ∈ lw_all := lw_g (lw_at lw_m3 62 rfl) rfl
theorem q669 : (Jvm.Cond.static ({ cls := "java/lang/String", name := "checkIndex", desc := "(II)V" } : Jvm.MethodName)) ∈ lw_all := lw_g (lw_at lw_m3 81 rfl) rfl
theorem q670 : (Jvm.Cond.code ({ cls := "java/lang/String", name := "checkIndex", desc := "(II)V" } : Jvm.MethodName) prog_38_method_155_code (2 : Nat) (Option.none : Option Jvm.ClassFile.FieldType)) ∈ lw_all := lw_g (lw_at lw_m3 82 rfl) rfl
theorem q671 : (Jvm.Cond.methodLink "java/lang/String" (1059 : Nat) ({ cls := "jdk/internal/util/Preconditions", name := "checkIndex", desc := "(IILjava/util/function/BiFunction;)I" } : Jvm.MethodName)) ∈ lw_all := lw_g (lw_at lw_m3 83 rfl) rfl
theorem q677 : (Jvm.Cond.instantiable "java/lang/String" (4 : Nat)) ∈ lw_all := lw_g (lw_at lw_m3 89 rfl) rfl
theorem q679 : (Jvm.Cond.instanceMethod ({ cls := "java/lang/String", name := "<init>", desc := "(Ljava/lang/StringBuilder;)V" } : Jvm.MethodName)) ∈ lw_all := lw_g (lw_at lw_m3 91 rfl) rfl
theorem q680 : (Jvm.Cond.code ({ cls := "java/lang/String", name := "<init>", desc := "(Ljava/lang/StringBuilder;)V" } : Jvm.MethodName) prog_38_method_53_code (2 : Nat) (Option.none : Option Jvm.ClassFile.FieldType)) ∈ lw_all := lw_g (lw_at lw_m3 92 rfl) rfl
theorem q681 : (Jvm.Cond.methodLink "java/lang/String" (489 : Nat) ({ cls := "java/lang/String", name := "<init>", desc := "(Ljava/lang/AbstractStringBuilder;Ljava/lang/Void;)V" } : Jvm.MethodName)) ∈ lw_all := lw_g (lw_at lw_m3 93 rfl) rfl
theorem q682 : (Jvm.Cond.instanceMethod ({ cls := "java/lang/String", name := "<init>", desc := "(Ljava/lang/AbstractStringBuilder;Ljava/lang/Void;)V" } : Jvm.MethodName)) ∈ lw_all := lw_g (lw_at lw_m3 94 rfl) rfl
theorem q683 : (Jvm.Cond.code ({ cls := "java/lang/String", name := "<init>", desc := "(Ljava/lang/AbstractStringBuilder;Ljava/lang/Void;)V" } : Jvm.MethodName) prog_38_method_150_code (5 : Nat) (Option.none : Option Jvm.ClassFile.FieldType)) ∈ lw_all := lw_g (lw_at lw_m3 95 rfl) rfl
theorem q684 : (Jvm.Cond.methodLink "java/lang/String" (1 : Nat) ({ cls := "java/lang/Object", name := "<init>", desc := "()V" } : Jvm.MethodName)) ∈ lw_all := lw_g (lw_at lw_m3 96 rfl) rfl
theorem q685 : (Jvm.Cond.methodLink "java/lang/String" (552 : Nat) ({ cls := "java/lang/AbstractStringBuilder", name := "getValue", desc := "()[B" } : Jvm.MethodName)) ∈ lw_all := lw_g (lw_at lw_m3 97 rfl) rfl
theorem q690 : (Jvm.Cond.methodLink "java/lang/String" (549 : Nat) ({ cls := "java/lang/AbstractStringBuilder", name := "length", desc := "()I" } : Jvm.MethodName)) ∈ lw_all := lw_g (lw_at lw_m3 102 rfl) rfl
theorem q698 : (Jvm.Cond.methodLink "java/lang/String" (1047 : Nat) ({ cls := "java/lang/AbstractStringBuilder", name := "isLatin1", desc := "()Z" } : Jvm.MethodName)) ∈ lw_all := lw_g (lw_at lw_m3 110 rfl) rfl
theorem q699 : (Jvm.Cond.methodLink "java/lang/String" (54 : Nat) ({ cls := "java/util/Arrays", name := "copyOfRange", desc := "([BII)[B" } : Jvm.MethodName)) ∈ lw_all := lw_g (lw_at lw_m3 111 rfl) rfl
theorem q708 : (Jvm.Cond.fieldLink "java/lang/String" (38 : Nat) "java/lang/String" "COMPACT_STRINGS" "Z") ∈ lw_all := lw_g (lw_at lw_m3 120 rfl) rfl
theorem q709 : (Jvm.Cond.methodLink "java/lang/String" (1051 : Nat) ({ cls := "java/lang/StringUTF16", name := "compress", desc := "([BII)[B" } : Jvm.MethodName)) ∈ lw_all := lw_g (lw_at lw_m3 121 rfl) rfl
theorem q719 : (Jvm.Cond.methodLink "java/lang/String" (47 : Nat) ({ cls := "java/lang/StringUTF16", name := "coderFromArrayLen", desc := "([BI)B" } : Jvm.MethodName)) ∈ lw_all := lw_g (lw_at lw_m3 131 rfl) rfl
theorem q722 : (Jvm.Cond.fieldLink "java/lang/String" (9 : Nat) "java/lang/String" "value" "[B") ∈ lw_all := lw_g (lw_at lw_m3 134 rfl) rfl
theorem q723 : (Jvm.Cond.fieldLink "java/lang/String" (15 : Nat) "java/lang/String" "coder" "B") ∈ lw_all := lw_g (lw_at lw_m3 135 rfl) rfl
theorem q724 : (Jvm.Cond.laysFinal "java/lang/String" "java/lang/String" "value" "[B") ∈ lw_all := lw_g (lw_at lw_m3 136 rfl) rfl
theorem q725 : (Jvm.Cond.soleField "java/lang/String" "value") ∈ lw_all := lw_g (lw_at lw_m3 137 rfl) rfl
theorem q726 : (Jvm.Cond.laysFinal "java/lang/String" "java/lang/String" "coder" "B") ∈ lw_all := lw_g (lw_at lw_m3 138 rfl) rfl
theorem q727 : (Jvm.Cond.soleField "java/lang/String" "coder") ∈ lw_all := lw_g (lw_at lw_m3 139 rfl) rfl
theorem q728 : (Jvm.Cond.lays "java/lang/String" "java/lang/String" "hash" "I") ∈ lw_all := lw_g (lw_at lw_m3 140 rfl) rfl
theorem q729 : (Jvm.Cond.soleField "java/lang/String" "hash") ∈ lw_all := lw_g (lw_at lw_m3 141 rfl) rfl
theorem q730 : (Jvm.Cond.lays "java/lang/String" "java/lang/String" "hashIsZero" "Z") ∈ lw_all := lw_g (lw_at lw_m3 142 rfl) rfl
theorem q731 : (Jvm.Cond.soleField "java/lang/String" "hashIsZero") ∈ lw_all := lw_g (lw_at lw_m3 143 rfl) rfl
theorem q732 : (Jvm.Cond.superclass "java/lang/String" "java/lang/Object") ∈ lw_all := lw_g (lw_at lw_m3 144 rfl) rfl
theorem q745 : (Jvm.Cond.instanceMethod ({ cls := "java/lang/String", name := "equals", desc := "(Ljava/lang/Object;)Z" } : Jvm.MethodName)) ∈ lw_all := lw_g (lw_at lw_m3 157 rfl) rfl
theorem q746 : (Jvm.Cond.selects "java/lang/String" ({ cls := "java/lang/String", name := "equals", desc := "(Ljava/lang/Object;)Z" } : Jvm.MethodName) ({ cls := "java/lang/String", name := "equals", desc := "(Ljava/lang/Object;)Z" } : Jvm.MethodName)) ∈ lw_all := lw_g (lw_at lw_m3 158 rfl) rfl
theorem q747 : (Jvm.Cond.code ({ cls := "java/lang/String", name := "equals", desc := "(Ljava/lang/Object;)Z" } : Jvm.MethodName) prog_38_method_66_code (3 : Nat) (Option.some Jvm.ClassFile.FieldType.boolean)) ∈ lw_all := lw_g (lw_at lw_m3 159 rfl) rfl
theorem q748 : (Jvm.Cond.classLink "java/lang/String" (10 : Nat) "java/lang/String") ∈ lw_all := lw_g (lw_at lw_m3 160 rfl) rfl
theorem q749 : (Jvm.Cond.methodLink "java/lang/String" (541 : Nat) ({ cls := "java/lang/StringLatin1", name := "equals", desc := "([B[B)Z" } : Jvm.MethodName)) ∈ lw_all := lw_g (lw_at lw_m3 161 rfl) rfl
theorem q878 : (Jvm.Cond.static ({ cls := "java/lang/String", name := "checkBoundsBeginEnd", desc := "(III)V" } : Jvm.MethodName)) ∈ lw_all := lw_g (lw_at lw_m4 50 rfl) rfl
theorem q879 : (Jvm.Cond.code ({ cls := "java/lang/String", name := "checkBoundsBeginEnd", desc := "(III)V" } : Jvm.MethodName) prog_38_method_158_code (3 : Nat) (Option.none : Option Jvm.ClassFile.FieldType)) ∈ lw_all := lw_g (lw_at lw_m4 51 rfl) rfl
theorem q880 : (Jvm.Cond.methodLink "java/lang/String" (1062 : Nat) ({ cls := "jdk/internal/util/Preconditions", name := "checkFromToIndex", desc := "(IIILjava/util/function/BiFunction;)I" } : Jvm.MethodName)) ∈ lw_all := lw_g (lw_at lw_m4 52 rfl) rfl
theorem q884 : (Jvm.Cond.instanceMethod ({ cls := "java/lang/String", name := "length", desc := "()I" } : Jvm.MethodName)) ∈ lw_all := lw_g (lw_at lw_m4 56 rfl) rfl
theorem q885 : (Jvm.Cond.selects "java/lang/String" ({ cls := "java/lang/String", name := "length", desc := "()I" } : Jvm.MethodName) ({ cls := "java/lang/String", name := "length", desc := "()I" } : Jvm.MethodName)) ∈ lw_all := lw_g (lw_at lw_m4 57 rfl) rfl
theorem q886 : (Jvm.Cond.code ({ cls := "java/lang/String", name := "length", desc := "()I" } : Jvm.MethodName) prog_38_method_54_code (1 : Nat) (Option.some Jvm.ClassFile.FieldType.int)) ∈ lw_all := lw_g (lw_at lw_m4 58 rfl) rfl
theorem q887 : (Jvm.Cond.methodLink "java/lang/String" (335 : Nat) ({ cls := "java/lang/String", name := "coder", desc := "()B" } : Jvm.MethodName)) ∈ lw_all := lw_g (lw_at lw_m4 59 rfl) rfl
theorem q888 : (Jvm.Cond.instanceMethod ({ cls := "java/lang/String", name := "coder", desc := "()B" } : Jvm.MethodName)) ∈ lw_all := lw_g (lw_at lw_m4 60 rfl) rfl
theorem q889 : (Jvm.Cond.selects "java/lang/String" ({ cls := "java/lang/String", name := "coder", desc := "()B" } : Jvm.MethodName) ({ cls := "java/lang/String", name := "coder", desc := "()B" } : Jvm.MethodName)) ∈ lw_all := lw_g (lw_at lw_m4 61 rfl) rfl
theorem q890 : (Jvm.Cond.code ({ cls := "java/lang/String", name := "coder", desc := "()B" } : Jvm.MethodName) prog_38_method_152_code (1 : Nat) (Option.some Jvm.ClassFile.FieldType.byte)) ∈ lw_all := lw_g (lw_at lw_m4 62 rfl) rfl
theorem q901 : (Jvm.Cond.instanceMethod ({ cls := "java/lang/String", name := "getBytes", desc := "([BIB)V" } : Jvm.MethodName)) ∈ lw_all := lw_g (lw_at lw_m4 73 rfl) rfl
theorem q902 : (Jvm.Cond.selects "java/lang/String" ({ cls := "java/lang/String", name := "getBytes", desc := "([BIB)V" } : Jvm.MethodName) ({ cls := "java/lang/String", name := "getBytes", desc := "([BIB)V" } : Jvm.MethodName)) ∈ lw_all := lw_g (lw_at lw_m4 74 rfl) rfl
theorem q903 : (Jvm.Cond.code ({ cls := "java/lang/String", name := "getBytes", desc := "([BIB)V" } : Jvm.MethodName) prog_38_method_147_code (4 : Nat) (Option.none : Option Jvm.ClassFile.FieldType)) ∈ lw_all := lw_g (lw_at lw_m4 75 rfl) rfl
theorem q904 : (Jvm.Cond.methodLink "java/lang/String" (212 : Nat) ({ cls := "java/lang/System", name := "arraycopy", desc := "(Ljava/lang/Object;ILjava/lang/Object;II)V" } : Jvm.MethodName)) ∈ lw_all := lw_g (lw_at lw_m4 76 rfl) rfl
theorem q905 : (Jvm.Cond.methodLink "java/lang/String" (106 : Nat) ({ cls := "java/lang/StringLatin1", name := "inflate", desc := "([BI[BII)V" } : Jvm.MethodName)) ∈ lw_all := lw_g (lw_at lw_m4 77 rfl) rfl
theorem q907 : (Jvm.Cond.instanceMethod ({ cls := "java/lang/String", name := "indexOf", desc := "(Ljava/lang/String;)I" } : Jvm.MethodName)) ∈ lw_all := lw_g (lw_at lw_m4 79 rfl) rfl
theorem q908 : (Jvm.Cond.selects "java/lang/String" ({ cls := "java/lang/String", name := "indexOf", desc := "(Ljava/lang/String;)I" } : Jvm.MethodName) ({ cls := "java/lang/String", name := "indexOf", desc := "(Ljava/lang/String;)I" } : Jvm.MethodName)) ∈ lw_all := lw_g (lw_at lw_m4 80 rfl) rfl
theorem q909 : (Jvm.Cond.code ({ cls := "java/lang/String", name := "indexOf", desc := "(Ljava/lang/String;)I" } : Jvm.MethodName) prog_38_method_84_code (3 : Nat) (Option.some Jvm.ClassFile.FieldType.int)) ∈ lw_all := lw_g (lw_at lw_m4 81 rfl) rfl
theorem q910 : (Jvm.Cond.methodLink "java/lang/String" (492 : Nat) ({ cls := "java/lang/String", name := "isLatin1", desc := "()Z" } : Jvm.MethodName)) ∈ lw_all := lw_g (lw_at lw_m4 82 rfl) rfl
theorem q911 : (Jvm.Cond.instanceMethod ({ cls := "java/lang/String", name := "isLatin1", desc := "()Z" } : Jvm.MethodName)) ∈ lw_all := lw_g (lw_at lw_m4 83 rfl) rfl
theorem q912 : (Jvm.Cond.selects "java/lang/String" ({ cls := "java/lang/String", name := "isLatin1", desc := "()Z" } : Jvm.MethodName) ({ cls := "java/lang/String", name := "isLatin1", desc := "()Z" } : Jvm.MethodName)) ∈ lw_all := lw_g (lw_at lw_m4 84 rfl) rfl
theorem q913 : (Jvm.Cond.code ({ cls := "java/lang/String", name := "isLatin1", desc := "()Z" } : Jvm.MethodName) prog_38_method_154_code (1 : Nat) (Option.some Jvm.ClassFile.FieldType.boolean)) ∈ lw_all := lw_g (lw_at lw_m4 85 rfl) rfl
theorem q914 : (Jvm.Cond.methodLink "java/lang/String" (647 : Nat) ({ cls := "java/lang/StringLatin1", name := "indexOf", desc := "([B[B)I" } : Jvm.MethodName)) ∈ lw_all := lw_g (lw_at lw_m4 86 rfl) rfl
theorem q920 : (Jvm.Cond.methodLink "java/lang/String" (649 : Nat) ({ cls := "java/lang/StringUTF16", name := "indexOf", desc := "([B[B)I" } : Jvm.MethodName)) ∈ lw_all := lw_g (lw_at lw_m4 92 rfl) rfl
theorem q926 : (Jvm.Cond.methodLink "java/lang/String" (650 : Nat) ({ cls := "java/lang/StringUTF16", name := "indexOfLatin1", desc := "([B[B)I" } : Jvm.MethodName)) ∈ lw_all := lw_g (lw_at lw_m4 98 rfl) rfl
theorem q994 : (Jvm.Cond.selects "java/lang/String" ({ cls := "java/lang/Object", name := "getClass", desc := "()Ljava/lang/Class;" } : Jvm.MethodName) ({ cls := "java/lang/Object", name := "getClass", desc := "()Ljava/lang/Class;" } : Jvm.MethodName)) ∈ lw_all := lw_g (lw_at lw_m4 166 rfl) rfl
theorem q2556 : (Jvm.Cond.castable "java/lang/String" "java/lang/Object") ∈ lw_tbl := lw_at lw_m11 48 rfl

/-! java/lang/StringUTF16 -/
set_option maxRecDepth 100000
abbrev cJ9_newBytesFor : ByteArray := prog_41_method_2_code
def yJ9_newBytesFor : MethodName := ⟨RJ9, "newBytesFor", "(I)[B"⟩
def dkwJ9_newBytesFor_0 : List UInt8 := [26, 184, 0, 11, 188, 8, 176]
abbrev dktJ9_newBytesFor_0 : List UInt8 := dkwJ9_newBytesFor_0 ++ []
theorem dksJ9_newBytesFor_0 : cJ9_newBytesFor.data.toList.drop 0 = dktJ9_newBytesFor_0 := by decide +kernel
theorem dJ9_newBytesFor_0 : decode cJ9_newBytesFor 0 = .ok (.iload_n 0, 1) := dk_26 (dk_at dksJ9_newBytesFor_0 0 rfl rfl)
theorem dJ9_newBytesFor_1 : decode cJ9_newBytesFor 1 = .ok (.invokestatic 11, 3) := dk_184 0 11 (dk_at dksJ9_newBytesFor_0 1 rfl rfl)
theorem dJ9_newBytesFor_4 : decode cJ9_newBytesFor 4 = .ok (.newarray .byte, 2) := dk_188_8 (dk_at dksJ9_newBytesFor_0 4 rfl rfl)
theorem dJ9_newBytesFor_6 : decode cJ9_newBytesFor 6 = .ok (.areturn, 1) := dk_176 (dk_at dksJ9_newBytesFor_0 6 rfl rfl)
abbrev cJ9_newBytesLength : ByteArray := prog_41_method_3_code
def yJ9_newBytesLength : MethodName := ⟨RJ9, "newBytesLength", "(I)I"⟩
def dkwJ9_newBytesLength_2 : List UInt8 := [182, 0, 32, 182, 0, 37, 183, 0, 41, 191, 26, 4, 120, 172]
abbrev dktJ9_newBytesLength_2 : List UInt8 := dkwJ9_newBytesLength_2 ++ []
def dkwJ9_newBytesLength_1 : List UInt8 := [187, 0, 23, 89, 183, 0, 25, 18, 26, 182, 0, 28, 26, 182, 0, 32, 18, 35, 182, 0, 28, 18, 20]
abbrev dktJ9_newBytesLength_1 : List UInt8 := dkwJ9_newBytesLength_1 ++ dktJ9_newBytesLength_2
def dkwJ9_newBytesLength_0 : List UInt8 := [26, 156, 0, 11, 187, 0, 17, 89, 183, 0, 19, 191, 26, 18, 20, 161, 0, 40, 187, 0, 21, 89]
abbrev dktJ9_newBytesLength_0 : List UInt8 := dkwJ9_newBytesLength_0 ++ dktJ9_newBytesLength_1
theorem dksJ9_newBytesLength_0 : cJ9_newBytesLength.data.toList.drop 0 = dktJ9_newBytesLength_0 := by decide +kernel
theorem dksJ9_newBytesLength_1 : cJ9_newBytesLength.data.toList.drop 22 = dktJ9_newBytesLength_1 := dk_seg dksJ9_newBytesLength_0 22 rfl rfl
theorem dksJ9_newBytesLength_2 : cJ9_newBytesLength.data.toList.drop 45 = dktJ9_newBytesLength_2 := dk_seg dksJ9_newBytesLength_1 23 rfl rfl
theorem dJ9_newBytesLength_0 : decode cJ9_newBytesLength 0 = .ok (.iload_n 0, 1) := dk_26 (dk_at dksJ9_newBytesLength_0 0 rfl rfl)
theorem dJ9_newBytesLength_1 : decode cJ9_newBytesLength 1 = .ok (.ifCond .ge 11, 3) := dk_156 0 11 (dk_at dksJ9_newBytesLength_0 1 rfl rfl)
theorem dJ9_newBytesLength_4 : decode cJ9_newBytesLength 4 = .ok (.new 17, 3) := dk_187 0 17 (dk_at dksJ9_newBytesLength_0 4 rfl rfl)
theorem dJ9_newBytesLength_7 : decode cJ9_newBytesLength 7 = .ok (.dup, 1) := dk_89 (dk_at dksJ9_newBytesLength_0 7 rfl rfl)
theorem dJ9_newBytesLength_8 : decode cJ9_newBytesLength 8 = .ok (.invokespecial 19, 3) := dk_183 0 19 (dk_at dksJ9_newBytesLength_0 8 rfl rfl)
theorem dJ9_newBytesLength_11 : decode cJ9_newBytesLength 11 = .ok (.athrow, 1) := dk_191 (dk_at dksJ9_newBytesLength_0 11 rfl rfl)
theorem dJ9_newBytesLength_12 : decode cJ9_newBytesLength 12 = .ok (.iload_n 0, 1) := dk_26 (dk_at dksJ9_newBytesLength_0 12 rfl rfl)
theorem dJ9_newBytesLength_13 : decode cJ9_newBytesLength 13 = .ok (.ldc 20, 2) := dk_18 20 (dk_at dksJ9_newBytesLength_0 13 rfl rfl)
theorem dJ9_newBytesLength_15 : decode cJ9_newBytesLength 15 = .ok (.if_icmp .lt 40, 3) := dk_161 0 40 (dk_at dksJ9_newBytesLength_0 15 rfl rfl)
theorem dJ9_newBytesLength_18 : decode cJ9_newBytesLength 18 = .ok (.new 21, 3) := dk_187 0 21 (dk_at dksJ9_newBytesLength_0 18 rfl rfl)
theorem dJ9_newBytesLength_21 : decode cJ9_newBytesLength 21 = .ok (.dup, 1) := dk_89 (dk_at dksJ9_newBytesLength_0 21 rfl rfl)
theorem dJ9_newBytesLength_22 : decode cJ9_newBytesLength 22 = .ok (.new 23, 3) := dk_187 0 23 (dk_at dksJ9_newBytesLength_1 0 rfl rfl)
theorem dJ9_newBytesLength_25 : decode cJ9_newBytesLength 25 = .ok (.dup, 1) := dk_89 (dk_at dksJ9_newBytesLength_1 3 rfl rfl)
theorem dJ9_newBytesLength_26 : decode cJ9_newBytesLength 26 = .ok (.invokespecial 25, 3) := dk_183 0 25 (dk_at dksJ9_newBytesLength_1 4 rfl rfl)
theorem dJ9_newBytesLength_29 : decode cJ9_newBytesLength 29 = .ok (.ldc 26, 2) := dk_18 26 (dk_at dksJ9_newBytesLength_1 7 rfl rfl)
theorem dJ9_newBytesLength_31 : decode cJ9_newBytesLength 31 = .ok (.invokevirtual 28, 3) := dk_182 0 28 (dk_at dksJ9_newBytesLength_1 9 rfl rfl)
theorem dJ9_newBytesLength_34 : decode cJ9_newBytesLength 34 = .ok (.iload_n 0, 1) := dk_26 (dk_at dksJ9_newBytesLength_1 12 rfl rfl)
theorem dJ9_newBytesLength_35 : decode cJ9_newBytesLength 35 = .ok (.invokevirtual 32, 3) := dk_182 0 32 (dk_at dksJ9_newBytesLength_1 13 rfl rfl)
theorem dJ9_newBytesLength_38 : decode cJ9_newBytesLength 38 = .ok (.ldc 35, 2) := dk_18 35 (dk_at dksJ9_newBytesLength_1 16 rfl rfl)
theorem dJ9_newBytesLength_40 : decode cJ9_newBytesLength 40 = .ok (.invokevirtual 28, 3) := dk_182 0 28 (dk_at dksJ9_newBytesLength_1 18 rfl rfl)
theorem dJ9_newBytesLength_43 : decode cJ9_newBytesLength 43 = .ok (.ldc 20, 2) := dk_18 20 (dk_at dksJ9_newBytesLength_1 21 rfl rfl)
theorem dJ9_newBytesLength_45 : decode cJ9_newBytesLength 45 = .ok (.invokevirtual 32, 3) := dk_182 0 32 (dk_at dksJ9_newBytesLength_2 0 rfl rfl)
theorem dJ9_newBytesLength_48 : decode cJ9_newBytesLength 48 = .ok (.invokevirtual 37, 3) := dk_182 0 37 (dk_at dksJ9_newBytesLength_2 3 rfl rfl)
theorem dJ9_newBytesLength_51 : decode cJ9_newBytesLength 51 = .ok (.invokespecial 41, 3) := dk_183 0 41 (dk_at dksJ9_newBytesLength_2 6 rfl rfl)
theorem dJ9_newBytesLength_54 : decode cJ9_newBytesLength 54 = .ok (.athrow, 1) := dk_191 (dk_at dksJ9_newBytesLength_2 9 rfl rfl)
theorem dJ9_newBytesLength_55 : decode cJ9_newBytesLength 55 = .ok (.iload_n 0, 1) := dk_26 (dk_at dksJ9_newBytesLength_2 10 rfl rfl)
theorem dJ9_newBytesLength_56 : decode cJ9_newBytesLength 56 = .ok (.iconst 1, 1) := dk_4 (dk_at dksJ9_newBytesLength_2 11 rfl rfl)
theorem dJ9_newBytesLength_57 : decode cJ9_newBytesLength 57 = .ok (.ishl, 1) := dk_120 (dk_at dksJ9_newBytesLength_2 12 rfl rfl)
theorem dJ9_newBytesLength_58 : decode cJ9_newBytesLength 58 = .ok (.ireturn, 1) := dk_172 (dk_at dksJ9_newBytesLength_2 13 rfl rfl)
abbrev cJ9_inflate : ByteArray := prog_41_method_86_code
def yJ9_inflate : MethodName := ⟨RJ9, "inflate", "([BI[BII)V"⟩
def dkwJ9_inflate_1 : List UInt8 := [132, 1, 1, 51, 17, 0, 255, 126, 184, 0, 111, 132, 5, 1, 167, 255, 228, 177]
abbrev dktJ9_inflate_1 : List UInt8 := dkwJ9_inflate_1 ++ []
def dkwJ9_inflate_0 : List UInt8 := [29, 21, 4, 44, 184, 0, 173, 3, 54, 5, 21, 5, 21, 4, 162, 0, 27, 44, 29, 132, 3, 1, 42, 27]
abbrev dktJ9_inflate_0 : List UInt8 := dkwJ9_inflate_0 ++ dktJ9_inflate_1
theorem dksJ9_inflate_0 : cJ9_inflate.data.toList.drop 0 = dktJ9_inflate_0 := by decide +kernel
theorem dksJ9_inflate_1 : cJ9_inflate.data.toList.drop 24 = dktJ9_inflate_1 := dk_seg dksJ9_inflate_0 24 rfl rfl
theorem dJ9_inflate_0 : decode cJ9_inflate 0 = .ok (.iload_n 3, 1) := dk_29 (dk_at dksJ9_inflate_0 0 rfl rfl)
theorem dJ9_inflate_1 : decode cJ9_inflate 1 = .ok (.iload 4, 2) := dk_21 4 (dk_at dksJ9_inflate_0 1 rfl rfl)
theorem dJ9_inflate_3 : decode cJ9_inflate 3 = .ok (.aload_n 2, 1) := dk_44 (dk_at dksJ9_inflate_0 3 rfl rfl)
theorem dJ9_inflate_4 : decode cJ9_inflate 4 = .ok (.invokestatic 173, 3) := dk_184 0 173 (dk_at dksJ9_inflate_0 4 rfl rfl)
theorem dJ9_inflate_7 : decode cJ9_inflate 7 = .ok (.iconst 0, 1) := dk_3 (dk_at dksJ9_inflate_0 7 rfl rfl)
theorem dJ9_inflate_8 : decode cJ9_inflate 8 = .ok (.istore 5, 2) := dk_54 5 (dk_at dksJ9_inflate_0 8 rfl rfl)
theorem dJ9_inflate_10 : decode cJ9_inflate 10 = .ok (.iload 5, 2) := dk_21 5 (dk_at dksJ9_inflate_0 10 rfl rfl)
theorem dJ9_inflate_12 : decode cJ9_inflate 12 = .ok (.iload 4, 2) := dk_21 4 (dk_at dksJ9_inflate_0 12 rfl rfl)
theorem dJ9_inflate_14 : decode cJ9_inflate 14 = .ok (.if_icmp .ge 27, 3) := dk_162 0 27 (dk_at dksJ9_inflate_0 14 rfl rfl)
theorem dJ9_inflate_17 : decode cJ9_inflate 17 = .ok (.aload_n 2, 1) := dk_44 (dk_at dksJ9_inflate_0 17 rfl rfl)
theorem dJ9_inflate_18 : decode cJ9_inflate 18 = .ok (.iload_n 3, 1) := dk_29 (dk_at dksJ9_inflate_0 18 rfl rfl)
theorem dJ9_inflate_19 : decode cJ9_inflate 19 = .ok (.iinc 3 1, 3) := dk_132 3 1 (dk_at dksJ9_inflate_0 19 rfl rfl)
theorem dJ9_inflate_22 : decode cJ9_inflate 22 = .ok (.aload_n 0, 1) := dk_42 (dk_at dksJ9_inflate_0 22 rfl rfl)
theorem dJ9_inflate_23 : decode cJ9_inflate 23 = .ok (.iload_n 1, 1) := dk_27 (dk_at dksJ9_inflate_0 23 rfl rfl)
theorem dJ9_inflate_24 : decode cJ9_inflate 24 = .ok (.iinc 1 1, 3) := dk_132 1 1 (dk_at dksJ9_inflate_1 0 rfl rfl)
theorem dJ9_inflate_27 : decode cJ9_inflate 27 = .ok (.baload, 1) := dk_51 (dk_at dksJ9_inflate_1 3 rfl rfl)
theorem dJ9_inflate_28 : decode cJ9_inflate 28 = .ok (.sipush 255, 3) := dk_17 0 255 (dk_at dksJ9_inflate_1 4 rfl rfl)
theorem dJ9_inflate_31 : decode cJ9_inflate 31 = .ok (.iand, 1) := dk_126 (dk_at dksJ9_inflate_1 7 rfl rfl)
theorem dJ9_inflate_32 : decode cJ9_inflate 32 = .ok (.invokestatic 111, 3) := dk_184 0 111 (dk_at dksJ9_inflate_1 8 rfl rfl)
theorem dJ9_inflate_35 : decode cJ9_inflate 35 = .ok (.iinc 5 1, 3) := dk_132 5 1 (dk_at dksJ9_inflate_1 11 rfl rfl)
theorem dJ9_inflate_38 : decode cJ9_inflate 38 = .ok (.goto (-28), 3) := dk_167 255 228 (dk_at dksJ9_inflate_1 14 rfl rfl)
theorem dJ9_inflate_41 : decode cJ9_inflate 41 = .ok (.return_, 1) := dk_177 (dk_at dksJ9_inflate_1 17 rfl rfl)
abbrev cJ9_checkBoundsOffCount : ByteArray := prog_41_method_94_code
def yJ9_checkBoundsOffCount : MethodName := ⟨RJ9, "checkBoundsOffCount", "(II[B)V"⟩
def dkwJ9_checkBoundsOffCount_0 : List UInt8 := [26, 27, 44, 184, 0, 48, 184, 1, 163, 87, 177]
abbrev dktJ9_checkBoundsOffCount_0 : List UInt8 := dkwJ9_checkBoundsOffCount_0 ++ []
theorem dksJ9_checkBoundsOffCount_0 : cJ9_checkBoundsOffCount.data.toList.drop 0 = dktJ9_checkBoundsOffCount_0 := by decide +kernel
theorem dJ9_checkBoundsOffCount_0 : decode cJ9_checkBoundsOffCount 0 = .ok (.iload_n 0, 1) := dk_26 (dk_at dksJ9_checkBoundsOffCount_0 0 rfl rfl)
theorem dJ9_checkBoundsOffCount_1 : decode cJ9_checkBoundsOffCount 1 = .ok (.iload_n 1, 1) := dk_27 (dk_at dksJ9_checkBoundsOffCount_0 1 rfl rfl)
theorem dJ9_checkBoundsOffCount_2 : decode cJ9_checkBoundsOffCount 2 = .ok (.aload_n 2, 1) := dk_44 (dk_at dksJ9_checkBoundsOffCount_0 2 rfl rfl)
theorem dJ9_checkBoundsOffCount_3 : decode cJ9_checkBoundsOffCount 3 = .ok (.invokestatic 48, 3) := dk_184 0 48 (dk_at dksJ9_checkBoundsOffCount_0 3 rfl rfl)
theorem dJ9_checkBoundsOffCount_6 : decode cJ9_checkBoundsOffCount 6 = .ok (.invokestatic 419, 3) := dk_184 1 163 (dk_at dksJ9_checkBoundsOffCount_0 6 rfl rfl)
theorem dJ9_checkBoundsOffCount_9 : decode cJ9_checkBoundsOffCount 9 = .ok (.pop, 1) := dk_87 (dk_at dksJ9_checkBoundsOffCount_0 9 rfl rfl)
theorem dJ9_checkBoundsOffCount_10 : decode cJ9_checkBoundsOffCount 10 = .ok (.return_, 1) := dk_177 (dk_at dksJ9_checkBoundsOffCount_0 10 rfl rfl)
abbrev cJ9_length : ByteArray := prog_41_method_6_code
def yJ9_length : MethodName := ⟨RJ9, "length", "([B)I"⟩
def dkwJ9_length_0 : List UInt8 := [42, 190, 4, 122, 172]
abbrev dktJ9_length_0 : List UInt8 := dkwJ9_length_0 ++ []
theorem dksJ9_length_0 : cJ9_length.data.toList.drop 0 = dktJ9_length_0 := by decide +kernel
theorem dJ9_length_0 : decode cJ9_length 0 = .ok (.aload_n 0, 1) := dk_42 (dk_at dksJ9_length_0 0 rfl rfl)
theorem dJ9_length_1 : decode cJ9_length 1 = .ok (.arraylength, 1) := dk_190 (dk_at dksJ9_length_0 1 rfl rfl)
theorem dJ9_length_2 : decode cJ9_length 2 = .ok (.iconst 1, 1) := dk_4 (dk_at dksJ9_length_0 2 rfl rfl)
theorem dJ9_length_3 : decode cJ9_length 3 = .ok (.ishr, 1) := dk_122 (dk_at dksJ9_length_0 3 rfl rfl)
theorem dJ9_length_4 : decode cJ9_length 4 = .ok (.ireturn, 1) := dk_172 (dk_at dksJ9_length_0 4 rfl rfl)
abbrev cJ9_putChar : ByteArray := prog_41_method_4_code
def yJ9_putChar : MethodName := ⟨RJ9, "putChar", "([BII)V"⟩
def dkwJ9_putChar_2 : List UInt8 := [178, 0, 63, 122, 145, 84, 177]
abbrev dktJ9_putChar_2 : List UInt8 := dkwJ9_putChar_2 ++ []
def dkwJ9_putChar_1 : List UInt8 := [183, 0, 56, 191, 27, 4, 120, 60, 42, 27, 132, 1, 1, 28, 178, 0, 59, 122, 145, 84, 42, 27, 28]
abbrev dktJ9_putChar_1 : List UInt8 := dkwJ9_putChar_1 ++ dktJ9_putChar_2
def dkwJ9_putChar_0 : List UInt8 := [178, 0, 44, 154, 0, 25, 27, 155, 0, 11, 27, 42, 184, 0, 48, 161, 0, 13, 187, 0, 52, 89, 18, 54]
abbrev dktJ9_putChar_0 : List UInt8 := dkwJ9_putChar_0 ++ dktJ9_putChar_1
theorem dksJ9_putChar_0 : cJ9_putChar.data.toList.drop 0 = dktJ9_putChar_0 := by decide +kernel
theorem dksJ9_putChar_1 : cJ9_putChar.data.toList.drop 24 = dktJ9_putChar_1 := dk_seg dksJ9_putChar_0 24 rfl rfl
theorem dksJ9_putChar_2 : cJ9_putChar.data.toList.drop 47 = dktJ9_putChar_2 := dk_seg dksJ9_putChar_1 23 rfl rfl
theorem dJ9_putChar_0 : decode cJ9_putChar 0 = .ok (.getstatic 44, 3) := dk_178 0 44 (dk_at dksJ9_putChar_0 0 rfl rfl)
theorem dJ9_putChar_3 : decode cJ9_putChar 3 = .ok (.ifCond .ne 25, 3) := dk_154 0 25 (dk_at dksJ9_putChar_0 3 rfl rfl)
theorem dJ9_putChar_6 : decode cJ9_putChar 6 = .ok (.iload_n 1, 1) := dk_27 (dk_at dksJ9_putChar_0 6 rfl rfl)
theorem dJ9_putChar_7 : decode cJ9_putChar 7 = .ok (.ifCond .lt 11, 3) := dk_155 0 11 (dk_at dksJ9_putChar_0 7 rfl rfl)
theorem dJ9_putChar_10 : decode cJ9_putChar 10 = .ok (.iload_n 1, 1) := dk_27 (dk_at dksJ9_putChar_0 10 rfl rfl)
theorem dJ9_putChar_11 : decode cJ9_putChar 11 = .ok (.aload_n 0, 1) := dk_42 (dk_at dksJ9_putChar_0 11 rfl rfl)
theorem dJ9_putChar_12 : decode cJ9_putChar 12 = .ok (.invokestatic 48, 3) := dk_184 0 48 (dk_at dksJ9_putChar_0 12 rfl rfl)
theorem dJ9_putChar_15 : decode cJ9_putChar 15 = .ok (.if_icmp .lt 13, 3) := dk_161 0 13 (dk_at dksJ9_putChar_0 15 rfl rfl)
theorem dJ9_putChar_18 : decode cJ9_putChar 18 = .ok (.new 52, 3) := dk_187 0 52 (dk_at dksJ9_putChar_0 18 rfl rfl)
theorem dJ9_putChar_21 : decode cJ9_putChar 21 = .ok (.dup, 1) := dk_89 (dk_at dksJ9_putChar_0 21 rfl rfl)
theorem dJ9_putChar_22 : decode cJ9_putChar 22 = .ok (.ldc 54, 2) := dk_18 54 (dk_at dksJ9_putChar_0 22 rfl rfl)
theorem dJ9_putChar_24 : decode cJ9_putChar 24 = .ok (.invokespecial 56, 3) := dk_183 0 56 (dk_at dksJ9_putChar_1 0 rfl rfl)
theorem dJ9_putChar_27 : decode cJ9_putChar 27 = .ok (.athrow, 1) := dk_191 (dk_at dksJ9_putChar_1 3 rfl rfl)
theorem dJ9_putChar_28 : decode cJ9_putChar 28 = .ok (.iload_n 1, 1) := dk_27 (dk_at dksJ9_putChar_1 4 rfl rfl)
theorem dJ9_putChar_29 : decode cJ9_putChar 29 = .ok (.iconst 1, 1) := dk_4 (dk_at dksJ9_putChar_1 5 rfl rfl)
theorem dJ9_putChar_30 : decode cJ9_putChar 30 = .ok (.ishl, 1) := dk_120 (dk_at dksJ9_putChar_1 6 rfl rfl)
theorem dJ9_putChar_31 : decode cJ9_putChar 31 = .ok (.istore_n 1, 1) := dk_60 (dk_at dksJ9_putChar_1 7 rfl rfl)
theorem dJ9_putChar_32 : decode cJ9_putChar 32 = .ok (.aload_n 0, 1) := dk_42 (dk_at dksJ9_putChar_1 8 rfl rfl)
theorem dJ9_putChar_33 : decode cJ9_putChar 33 = .ok (.iload_n 1, 1) := dk_27 (dk_at dksJ9_putChar_1 9 rfl rfl)
theorem dJ9_putChar_34 : decode cJ9_putChar 34 = .ok (.iinc 1 1, 3) := dk_132 1 1 (dk_at dksJ9_putChar_1 10 rfl rfl)
theorem dJ9_putChar_37 : decode cJ9_putChar 37 = .ok (.iload_n 2, 1) := dk_28 (dk_at dksJ9_putChar_1 13 rfl rfl)
theorem dJ9_putChar_38 : decode cJ9_putChar 38 = .ok (.getstatic 59, 3) := dk_178 0 59 (dk_at dksJ9_putChar_1 14 rfl rfl)
theorem dJ9_putChar_41 : decode cJ9_putChar 41 = .ok (.ishr, 1) := dk_122 (dk_at dksJ9_putChar_1 17 rfl rfl)
theorem dJ9_putChar_42 : decode cJ9_putChar 42 = .ok (.i2b, 1) := dk_145 (dk_at dksJ9_putChar_1 18 rfl rfl)
theorem dJ9_putChar_43 : decode cJ9_putChar 43 = .ok (.bastore, 1) := dk_84 (dk_at dksJ9_putChar_1 19 rfl rfl)
theorem dJ9_putChar_44 : decode cJ9_putChar 44 = .ok (.aload_n 0, 1) := dk_42 (dk_at dksJ9_putChar_1 20 rfl rfl)
theorem dJ9_putChar_45 : decode cJ9_putChar 45 = .ok (.iload_n 1, 1) := dk_27 (dk_at dksJ9_putChar_1 21 rfl rfl)
theorem dJ9_putChar_46 : decode cJ9_putChar 46 = .ok (.iload_n 2, 1) := dk_28 (dk_at dksJ9_putChar_1 22 rfl rfl)
theorem dJ9_putChar_47 : decode cJ9_putChar 47 = .ok (.getstatic 63, 3) := dk_178 0 63 (dk_at dksJ9_putChar_2 0 rfl rfl)
theorem dJ9_putChar_50 : decode cJ9_putChar 50 = .ok (.ishr, 1) := dk_122 (dk_at dksJ9_putChar_2 3 rfl rfl)
theorem dJ9_putChar_51 : decode cJ9_putChar 51 = .ok (.i2b, 1) := dk_145 (dk_at dksJ9_putChar_2 4 rfl rfl)
theorem dJ9_putChar_52 : decode cJ9_putChar 52 = .ok (.bastore, 1) := dk_84 (dk_at dksJ9_putChar_2 5 rfl rfl)
theorem dJ9_putChar_53 : decode cJ9_putChar 53 = .ok (.return_, 1) := dk_177 (dk_at dksJ9_putChar_2 6 rfl rfl)
abbrev cJ9_putCharSB : ByteArray := prog_41_method_71_code
def yJ9_putCharSB : MethodName := ⟨RJ9, "putCharSB", "([BII)V"⟩
def dkwJ9_putCharSB_0 : List UInt8 := [27, 42, 184, 0, 67, 42, 27, 28, 184, 0, 111, 177]
abbrev dktJ9_putCharSB_0 : List UInt8 := dkwJ9_putCharSB_0 ++ []
theorem dksJ9_putCharSB_0 : cJ9_putCharSB.data.toList.drop 0 = dktJ9_putCharSB_0 := by decide +kernel
theorem dJ9_putCharSB_0 : decode cJ9_putCharSB 0 = .ok (.iload_n 1, 1) := dk_27 (dk_at dksJ9_putCharSB_0 0 rfl rfl)
theorem dJ9_putCharSB_1 : decode cJ9_putCharSB 1 = .ok (.aload_n 0, 1) := dk_42 (dk_at dksJ9_putCharSB_0 1 rfl rfl)
theorem dJ9_putCharSB_2 : decode cJ9_putCharSB 2 = .ok (.invokestatic 67, 3) := dk_184 0 67 (dk_at dksJ9_putCharSB_0 2 rfl rfl)
theorem dJ9_putCharSB_5 : decode cJ9_putCharSB 5 = .ok (.aload_n 0, 1) := dk_42 (dk_at dksJ9_putCharSB_0 5 rfl rfl)
theorem dJ9_putCharSB_6 : decode cJ9_putCharSB 6 = .ok (.iload_n 1, 1) := dk_27 (dk_at dksJ9_putCharSB_0 6 rfl rfl)
theorem dJ9_putCharSB_7 : decode cJ9_putCharSB 7 = .ok (.iload_n 2, 1) := dk_28 (dk_at dksJ9_putCharSB_0 7 rfl rfl)
theorem dJ9_putCharSB_8 : decode cJ9_putCharSB 8 = .ok (.invokestatic 111, 3) := dk_184 0 111 (dk_at dksJ9_putCharSB_0 8 rfl rfl)
theorem dJ9_putCharSB_11 : decode cJ9_putCharSB 11 = .ok (.return_, 1) := dk_177 (dk_at dksJ9_putCharSB_0 11 rfl rfl)
abbrev cJ9_checkIndex : ByteArray := prog_41_method_91_code
def yJ9_checkIndex : MethodName := ⟨RJ9, "checkIndex", "(I[B)V"⟩
def dkwJ9_checkIndex_0 : List UInt8 := [26, 43, 184, 0, 48, 184, 1, 158, 177]
abbrev dktJ9_checkIndex_0 : List UInt8 := dkwJ9_checkIndex_0 ++ []
theorem dksJ9_checkIndex_0 : cJ9_checkIndex.data.toList.drop 0 = dktJ9_checkIndex_0 := by decide +kernel
theorem dJ9_checkIndex_0 : decode cJ9_checkIndex 0 = .ok (.iload_n 0, 1) := dk_26 (dk_at dksJ9_checkIndex_0 0 rfl rfl)
theorem dJ9_checkIndex_1 : decode cJ9_checkIndex 1 = .ok (.aload_n 1, 1) := dk_43 (dk_at dksJ9_checkIndex_0 1 rfl rfl)
theorem dJ9_checkIndex_2 : decode cJ9_checkIndex 2 = .ok (.invokestatic 48, 3) := dk_184 0 48 (dk_at dksJ9_checkIndex_0 2 rfl rfl)
theorem dJ9_checkIndex_5 : decode cJ9_checkIndex 5 = .ok (.invokestatic 414, 3) := dk_184 1 158 (dk_at dksJ9_checkIndex_0 5 rfl rfl)
theorem dJ9_checkIndex_8 : decode cJ9_checkIndex 8 = .ok (.return_, 1) := dk_177 (dk_at dksJ9_checkIndex_0 8 rfl rfl)
abbrev cJ9_compress : ByteArray := prog_41_method_17_code
def yJ9_compress : MethodName := ⟨RJ9, "compress", "([BII)[B"⟩
def dkwJ9_compress_2 : List UInt8 := [25, 5, 3, 45, 3, 28, 184, 0, 123, 28, 159, 0, 6, 25, 5, 176, 45, 176]
abbrev dktJ9_compress_2 : List UInt8 := dkwJ9_compress_2 ++ []
def dkwJ9_compress_1 : List UInt8 := [27, 28, 96, 184, 0, 11, 184, 0, 126, 58, 5, 25, 5, 21, 4, 184, 0, 71, 17, 0, 255, 163, 0, 16]
abbrev dktJ9_compress_1 : List UInt8 := dkwJ9_compress_1 ++ dktJ9_compress_2
def dkwJ9_compress_0 : List UInt8 := [28, 188, 8, 78, 42, 27, 45, 3, 28, 184, 0, 123, 54, 4, 21, 4, 28, 159, 0, 47, 42, 27, 4, 120]
abbrev dktJ9_compress_0 : List UInt8 := dkwJ9_compress_0 ++ dktJ9_compress_1
theorem dksJ9_compress_0 : cJ9_compress.data.toList.drop 0 = dktJ9_compress_0 := by decide +kernel
theorem dksJ9_compress_1 : cJ9_compress.data.toList.drop 24 = dktJ9_compress_1 := dk_seg dksJ9_compress_0 24 rfl rfl
theorem dksJ9_compress_2 : cJ9_compress.data.toList.drop 48 = dktJ9_compress_2 := dk_seg dksJ9_compress_1 24 rfl rfl
theorem dJ9_compress_0 : decode cJ9_compress 0 = .ok (.iload_n 2, 1) := dk_28 (dk_at dksJ9_compress_0 0 rfl rfl)
theorem dJ9_compress_1 : decode cJ9_compress 1 = .ok (.newarray .byte, 2) := dk_188_8 (dk_at dksJ9_compress_0 1 rfl rfl)
theorem dJ9_compress_3 : decode cJ9_compress 3 = .ok (.astore_n 3, 1) := dk_78 (dk_at dksJ9_compress_0 3 rfl rfl)
theorem dJ9_compress_4 : decode cJ9_compress 4 = .ok (.aload_n 0, 1) := dk_42 (dk_at dksJ9_compress_0 4 rfl rfl)
theorem dJ9_compress_5 : decode cJ9_compress 5 = .ok (.iload_n 1, 1) := dk_27 (dk_at dksJ9_compress_0 5 rfl rfl)
theorem dJ9_compress_6 : decode cJ9_compress 6 = .ok (.aload_n 3, 1) := dk_45 (dk_at dksJ9_compress_0 6 rfl rfl)
theorem dJ9_compress_7 : decode cJ9_compress 7 = .ok (.iconst 0, 1) := dk_3 (dk_at dksJ9_compress_0 7 rfl rfl)
theorem dJ9_compress_8 : decode cJ9_compress 8 = .ok (.iload_n 2, 1) := dk_28 (dk_at dksJ9_compress_0 8 rfl rfl)
theorem dJ9_compress_9 : decode cJ9_compress 9 = .ok (.invokestatic 123, 3) := dk_184 0 123 (dk_at dksJ9_compress_0 9 rfl rfl)
theorem dJ9_compress_12 : decode cJ9_compress 12 = .ok (.istore 4, 2) := dk_54 4 (dk_at dksJ9_compress_0 12 rfl rfl)
theorem dJ9_compress_14 : decode cJ9_compress 14 = .ok (.iload 4, 2) := dk_21 4 (dk_at dksJ9_compress_0 14 rfl rfl)
theorem dJ9_compress_16 : decode cJ9_compress 16 = .ok (.iload_n 2, 1) := dk_28 (dk_at dksJ9_compress_0 16 rfl rfl)
theorem dJ9_compress_17 : decode cJ9_compress 17 = .ok (.if_icmp .eq 47, 3) := dk_159 0 47 (dk_at dksJ9_compress_0 17 rfl rfl)
theorem dJ9_compress_20 : decode cJ9_compress 20 = .ok (.aload_n 0, 1) := dk_42 (dk_at dksJ9_compress_0 20 rfl rfl)
theorem dJ9_compress_21 : decode cJ9_compress 21 = .ok (.iload_n 1, 1) := dk_27 (dk_at dksJ9_compress_0 21 rfl rfl)
theorem dJ9_compress_22 : decode cJ9_compress 22 = .ok (.iconst 1, 1) := dk_4 (dk_at dksJ9_compress_0 22 rfl rfl)
theorem dJ9_compress_23 : decode cJ9_compress 23 = .ok (.ishl, 1) := dk_120 (dk_at dksJ9_compress_0 23 rfl rfl)
theorem dJ9_compress_24 : decode cJ9_compress 24 = .ok (.iload_n 1, 1) := dk_27 (dk_at dksJ9_compress_1 0 rfl rfl)
theorem dJ9_compress_25 : decode cJ9_compress 25 = .ok (.iload_n 2, 1) := dk_28 (dk_at dksJ9_compress_1 1 rfl rfl)
theorem dJ9_compress_26 : decode cJ9_compress 26 = .ok (.iadd, 1) := dk_96 (dk_at dksJ9_compress_1 2 rfl rfl)
theorem dJ9_compress_27 : decode cJ9_compress 27 = .ok (.invokestatic 11, 3) := dk_184 0 11 (dk_at dksJ9_compress_1 3 rfl rfl)
theorem dJ9_compress_30 : decode cJ9_compress 30 = .ok (.invokestatic 126, 3) := dk_184 0 126 (dk_at dksJ9_compress_1 6 rfl rfl)
theorem dJ9_compress_33 : decode cJ9_compress 33 = .ok (.astore 5, 2) := dk_58 5 (dk_at dksJ9_compress_1 9 rfl rfl)
theorem dJ9_compress_35 : decode cJ9_compress 35 = .ok (.aload 5, 2) := dk_25 5 (dk_at dksJ9_compress_1 11 rfl rfl)
theorem dJ9_compress_37 : decode cJ9_compress 37 = .ok (.iload 4, 2) := dk_21 4 (dk_at dksJ9_compress_1 13 rfl rfl)
theorem dJ9_compress_39 : decode cJ9_compress 39 = .ok (.invokestatic 71, 3) := dk_184 0 71 (dk_at dksJ9_compress_1 15 rfl rfl)
theorem dJ9_compress_42 : decode cJ9_compress 42 = .ok (.sipush 255, 3) := dk_17 0 255 (dk_at dksJ9_compress_1 18 rfl rfl)
theorem dJ9_compress_45 : decode cJ9_compress 45 = .ok (.if_icmp .gt 16, 3) := dk_163 0 16 (dk_at dksJ9_compress_1 21 rfl rfl)
theorem dJ9_compress_48 : decode cJ9_compress 48 = .ok (.aload 5, 2) := dk_25 5 (dk_at dksJ9_compress_2 0 rfl rfl)
theorem dJ9_compress_50 : decode cJ9_compress 50 = .ok (.iconst 0, 1) := dk_3 (dk_at dksJ9_compress_2 2 rfl rfl)
theorem dJ9_compress_51 : decode cJ9_compress 51 = .ok (.aload_n 3, 1) := dk_45 (dk_at dksJ9_compress_2 3 rfl rfl)
theorem dJ9_compress_52 : decode cJ9_compress 52 = .ok (.iconst 0, 1) := dk_3 (dk_at dksJ9_compress_2 4 rfl rfl)
theorem dJ9_compress_53 : decode cJ9_compress 53 = .ok (.iload_n 2, 1) := dk_28 (dk_at dksJ9_compress_2 5 rfl rfl)
theorem dJ9_compress_54 : decode cJ9_compress 54 = .ok (.invokestatic 123, 3) := dk_184 0 123 (dk_at dksJ9_compress_2 6 rfl rfl)
theorem dJ9_compress_57 : decode cJ9_compress 57 = .ok (.iload_n 2, 1) := dk_28 (dk_at dksJ9_compress_2 9 rfl rfl)
theorem dJ9_compress_58 : decode cJ9_compress 58 = .ok (.if_icmp .eq 6, 3) := dk_159 0 6 (dk_at dksJ9_compress_2 10 rfl rfl)
theorem dJ9_compress_61 : decode cJ9_compress 61 = .ok (.aload 5, 2) := dk_25 5 (dk_at dksJ9_compress_2 13 rfl rfl)
theorem dJ9_compress_63 : decode cJ9_compress 63 = .ok (.areturn, 1) := dk_176 (dk_at dksJ9_compress_2 15 rfl rfl)
theorem dJ9_compress_64 : decode cJ9_compress 64 = .ok (.aload_n 3, 1) := dk_45 (dk_at dksJ9_compress_2 16 rfl rfl)
theorem dJ9_compress_65 : decode cJ9_compress 65 = .ok (.areturn, 1) := dk_176 (dk_at dksJ9_compress_2 17 rfl rfl)
abbrev cJ9_compress_2 : ByteArray := prog_41_method_22_code
def yJ9_compress_2 : MethodName := ⟨RJ9, "compress", "([BI[BII)I"⟩
def dkwJ9_compress_2_2 : List UInt8 := [132, 5, 1, 167, 255, 216, 21, 4, 172]
abbrev dktJ9_compress_2_2 : List UInt8 := dkwJ9_compress_2_2 ++ []
def dkwJ9_compress_2_1 : List UInt8 := [21, 6, 17, 0, 255, 164, 0, 6, 21, 5, 172, 44, 29, 21, 6, 145, 84, 132, 1, 1, 132, 3, 1]
abbrev dktJ9_compress_2_1 : List UInt8 := dkwJ9_compress_2_1 ++ dktJ9_compress_2_2
def dkwJ9_compress_2_0 : List UInt8 := [27, 21, 4, 42, 184, 0, 173, 3, 54, 5, 21, 5, 21, 4, 162, 0, 39, 42, 27, 184, 0, 71, 54, 6]
abbrev dktJ9_compress_2_0 : List UInt8 := dkwJ9_compress_2_0 ++ dktJ9_compress_2_1
theorem dksJ9_compress_2_0 : cJ9_compress_2.data.toList.drop 0 = dktJ9_compress_2_0 := by decide +kernel
theorem dksJ9_compress_2_1 : cJ9_compress_2.data.toList.drop 24 = dktJ9_compress_2_1 := dk_seg dksJ9_compress_2_0 24 rfl rfl
theorem dksJ9_compress_2_2 : cJ9_compress_2.data.toList.drop 47 = dktJ9_compress_2_2 := dk_seg dksJ9_compress_2_1 23 rfl rfl
theorem dJ9_compress_2_0 : decode cJ9_compress_2 0 = .ok (.iload_n 1, 1) := dk_27 (dk_at dksJ9_compress_2_0 0 rfl rfl)
theorem dJ9_compress_2_1 : decode cJ9_compress_2 1 = .ok (.iload 4, 2) := dk_21 4 (dk_at dksJ9_compress_2_0 1 rfl rfl)
theorem dJ9_compress_2_3 : decode cJ9_compress_2 3 = .ok (.aload_n 0, 1) := dk_42 (dk_at dksJ9_compress_2_0 3 rfl rfl)
theorem dJ9_compress_2_4 : decode cJ9_compress_2 4 = .ok (.invokestatic 173, 3) := dk_184 0 173 (dk_at dksJ9_compress_2_0 4 rfl rfl)
theorem dJ9_compress_2_7 : decode cJ9_compress_2 7 = .ok (.iconst 0, 1) := dk_3 (dk_at dksJ9_compress_2_0 7 rfl rfl)
theorem dJ9_compress_2_8 : decode cJ9_compress_2 8 = .ok (.istore 5, 2) := dk_54 5 (dk_at dksJ9_compress_2_0 8 rfl rfl)
theorem dJ9_compress_2_10 : decode cJ9_compress_2 10 = .ok (.iload 5, 2) := dk_21 5 (dk_at dksJ9_compress_2_0 10 rfl rfl)
theorem dJ9_compress_2_12 : decode cJ9_compress_2 12 = .ok (.iload 4, 2) := dk_21 4 (dk_at dksJ9_compress_2_0 12 rfl rfl)
theorem dJ9_compress_2_14 : decode cJ9_compress_2 14 = .ok (.if_icmp .ge 39, 3) := dk_162 0 39 (dk_at dksJ9_compress_2_0 14 rfl rfl)
theorem dJ9_compress_2_17 : decode cJ9_compress_2 17 = .ok (.aload_n 0, 1) := dk_42 (dk_at dksJ9_compress_2_0 17 rfl rfl)
theorem dJ9_compress_2_18 : decode cJ9_compress_2 18 = .ok (.iload_n 1, 1) := dk_27 (dk_at dksJ9_compress_2_0 18 rfl rfl)
theorem dJ9_compress_2_19 : decode cJ9_compress_2 19 = .ok (.invokestatic 71, 3) := dk_184 0 71 (dk_at dksJ9_compress_2_0 19 rfl rfl)
theorem dJ9_compress_2_22 : decode cJ9_compress_2 22 = .ok (.istore 6, 2) := dk_54 6 (dk_at dksJ9_compress_2_0 22 rfl rfl)
theorem dJ9_compress_2_24 : decode cJ9_compress_2 24 = .ok (.iload 6, 2) := dk_21 6 (dk_at dksJ9_compress_2_1 0 rfl rfl)
theorem dJ9_compress_2_26 : decode cJ9_compress_2 26 = .ok (.sipush 255, 3) := dk_17 0 255 (dk_at dksJ9_compress_2_1 2 rfl rfl)
theorem dJ9_compress_2_29 : decode cJ9_compress_2 29 = .ok (.if_icmp .le 6, 3) := dk_164 0 6 (dk_at dksJ9_compress_2_1 5 rfl rfl)
theorem dJ9_compress_2_32 : decode cJ9_compress_2 32 = .ok (.iload 5, 2) := dk_21 5 (dk_at dksJ9_compress_2_1 8 rfl rfl)
theorem dJ9_compress_2_34 : decode cJ9_compress_2 34 = .ok (.ireturn, 1) := dk_172 (dk_at dksJ9_compress_2_1 10 rfl rfl)
theorem dJ9_compress_2_35 : decode cJ9_compress_2 35 = .ok (.aload_n 2, 1) := dk_44 (dk_at dksJ9_compress_2_1 11 rfl rfl)
theorem dJ9_compress_2_36 : decode cJ9_compress_2 36 = .ok (.iload_n 3, 1) := dk_29 (dk_at dksJ9_compress_2_1 12 rfl rfl)
theorem dJ9_compress_2_37 : decode cJ9_compress_2 37 = .ok (.iload 6, 2) := dk_21 6 (dk_at dksJ9_compress_2_1 13 rfl rfl)
theorem dJ9_compress_2_39 : decode cJ9_compress_2 39 = .ok (.i2b, 1) := dk_145 (dk_at dksJ9_compress_2_1 15 rfl rfl)
theorem dJ9_compress_2_40 : decode cJ9_compress_2 40 = .ok (.bastore, 1) := dk_84 (dk_at dksJ9_compress_2_1 16 rfl rfl)
theorem dJ9_compress_2_41 : decode cJ9_compress_2 41 = .ok (.iinc 1 1, 3) := dk_132 1 1 (dk_at dksJ9_compress_2_1 17 rfl rfl)
theorem dJ9_compress_2_44 : decode cJ9_compress_2 44 = .ok (.iinc 3 1, 3) := dk_132 3 1 (dk_at dksJ9_compress_2_1 20 rfl rfl)
theorem dJ9_compress_2_47 : decode cJ9_compress_2 47 = .ok (.iinc 5 1, 3) := dk_132 5 1 (dk_at dksJ9_compress_2_2 0 rfl rfl)
theorem dJ9_compress_2_50 : decode cJ9_compress_2 50 = .ok (.goto (-40), 3) := dk_167 255 216 (dk_at dksJ9_compress_2_2 3 rfl rfl)
theorem dJ9_compress_2_53 : decode cJ9_compress_2 53 = .ok (.iload 4, 2) := dk_21 4 (dk_at dksJ9_compress_2_2 6 rfl rfl)
theorem dJ9_compress_2_55 : decode cJ9_compress_2 55 = .ok (.ireturn, 1) := dk_172 (dk_at dksJ9_compress_2_2 8 rfl rfl)
abbrev cJ9_getChar : ByteArray := prog_41_method_5_code
def yJ9_getChar : MethodName := ⟨RJ9, "getChar", "([BI)C"⟩
def dkwJ9_getChar_2 : List UInt8 := [51, 17, 0, 255, 126, 178, 0, 63, 120, 128, 146, 172]
abbrev dktJ9_getChar_2 : List UInt8 := dkwJ9_getChar_2 ++ []
def dkwJ9_getChar_1 : List UInt8 := [183, 0, 56, 191, 27, 4, 120, 60, 42, 27, 132, 1, 1, 51, 17, 0, 255, 126, 178, 0, 59, 120, 42, 27]
abbrev dktJ9_getChar_1 : List UInt8 := dkwJ9_getChar_1 ++ dktJ9_getChar_2
def dkwJ9_getChar_0 : List UInt8 := [178, 0, 44, 154, 0, 25, 27, 155, 0, 11, 27, 42, 184, 0, 48, 161, 0, 13, 187, 0, 52, 89, 18, 54]
abbrev dktJ9_getChar_0 : List UInt8 := dkwJ9_getChar_0 ++ dktJ9_getChar_1
theorem dksJ9_getChar_0 : cJ9_getChar.data.toList.drop 0 = dktJ9_getChar_0 := by decide +kernel
theorem dksJ9_getChar_1 : cJ9_getChar.data.toList.drop 24 = dktJ9_getChar_1 := dk_seg dksJ9_getChar_0 24 rfl rfl
theorem dksJ9_getChar_2 : cJ9_getChar.data.toList.drop 48 = dktJ9_getChar_2 := dk_seg dksJ9_getChar_1 24 rfl rfl
theorem dJ9_getChar_0 : decode cJ9_getChar 0 = .ok (.getstatic 44, 3) := dk_178 0 44 (dk_at dksJ9_getChar_0 0 rfl rfl)
theorem dJ9_getChar_3 : decode cJ9_getChar 3 = .ok (.ifCond .ne 25, 3) := dk_154 0 25 (dk_at dksJ9_getChar_0 3 rfl rfl)
theorem dJ9_getChar_6 : decode cJ9_getChar 6 = .ok (.iload_n 1, 1) := dk_27 (dk_at dksJ9_getChar_0 6 rfl rfl)
theorem dJ9_getChar_7 : decode cJ9_getChar 7 = .ok (.ifCond .lt 11, 3) := dk_155 0 11 (dk_at dksJ9_getChar_0 7 rfl rfl)
theorem dJ9_getChar_10 : decode cJ9_getChar 10 = .ok (.iload_n 1, 1) := dk_27 (dk_at dksJ9_getChar_0 10 rfl rfl)
theorem dJ9_getChar_11 : decode cJ9_getChar 11 = .ok (.aload_n 0, 1) := dk_42 (dk_at dksJ9_getChar_0 11 rfl rfl)
theorem dJ9_getChar_12 : decode cJ9_getChar 12 = .ok (.invokestatic 48, 3) := dk_184 0 48 (dk_at dksJ9_getChar_0 12 rfl rfl)
theorem dJ9_getChar_15 : decode cJ9_getChar 15 = .ok (.if_icmp .lt 13, 3) := dk_161 0 13 (dk_at dksJ9_getChar_0 15 rfl rfl)
theorem dJ9_getChar_18 : decode cJ9_getChar 18 = .ok (.new 52, 3) := dk_187 0 52 (dk_at dksJ9_getChar_0 18 rfl rfl)
theorem dJ9_getChar_21 : decode cJ9_getChar 21 = .ok (.dup, 1) := dk_89 (dk_at dksJ9_getChar_0 21 rfl rfl)
theorem dJ9_getChar_22 : decode cJ9_getChar 22 = .ok (.ldc 54, 2) := dk_18 54 (dk_at dksJ9_getChar_0 22 rfl rfl)
theorem dJ9_getChar_24 : decode cJ9_getChar 24 = .ok (.invokespecial 56, 3) := dk_183 0 56 (dk_at dksJ9_getChar_1 0 rfl rfl)
theorem dJ9_getChar_27 : decode cJ9_getChar 27 = .ok (.athrow, 1) := dk_191 (dk_at dksJ9_getChar_1 3 rfl rfl)
theorem dJ9_getChar_28 : decode cJ9_getChar 28 = .ok (.iload_n 1, 1) := dk_27 (dk_at dksJ9_getChar_1 4 rfl rfl)
theorem dJ9_getChar_29 : decode cJ9_getChar 29 = .ok (.iconst 1, 1) := dk_4 (dk_at dksJ9_getChar_1 5 rfl rfl)
theorem dJ9_getChar_30 : decode cJ9_getChar 30 = .ok (.ishl, 1) := dk_120 (dk_at dksJ9_getChar_1 6 rfl rfl)
theorem dJ9_getChar_31 : decode cJ9_getChar 31 = .ok (.istore_n 1, 1) := dk_60 (dk_at dksJ9_getChar_1 7 rfl rfl)
theorem dJ9_getChar_32 : decode cJ9_getChar 32 = .ok (.aload_n 0, 1) := dk_42 (dk_at dksJ9_getChar_1 8 rfl rfl)
theorem dJ9_getChar_33 : decode cJ9_getChar 33 = .ok (.iload_n 1, 1) := dk_27 (dk_at dksJ9_getChar_1 9 rfl rfl)
theorem dJ9_getChar_34 : decode cJ9_getChar 34 = .ok (.iinc 1 1, 3) := dk_132 1 1 (dk_at dksJ9_getChar_1 10 rfl rfl)
theorem dJ9_getChar_37 : decode cJ9_getChar 37 = .ok (.baload, 1) := dk_51 (dk_at dksJ9_getChar_1 13 rfl rfl)
theorem dJ9_getChar_38 : decode cJ9_getChar 38 = .ok (.sipush 255, 3) := dk_17 0 255 (dk_at dksJ9_getChar_1 14 rfl rfl)
theorem dJ9_getChar_41 : decode cJ9_getChar 41 = .ok (.iand, 1) := dk_126 (dk_at dksJ9_getChar_1 17 rfl rfl)
theorem dJ9_getChar_42 : decode cJ9_getChar 42 = .ok (.getstatic 59, 3) := dk_178 0 59 (dk_at dksJ9_getChar_1 18 rfl rfl)
theorem dJ9_getChar_45 : decode cJ9_getChar 45 = .ok (.ishl, 1) := dk_120 (dk_at dksJ9_getChar_1 21 rfl rfl)
theorem dJ9_getChar_46 : decode cJ9_getChar 46 = .ok (.aload_n 0, 1) := dk_42 (dk_at dksJ9_getChar_1 22 rfl rfl)
theorem dJ9_getChar_47 : decode cJ9_getChar 47 = .ok (.iload_n 1, 1) := dk_27 (dk_at dksJ9_getChar_1 23 rfl rfl)
theorem dJ9_getChar_48 : decode cJ9_getChar 48 = .ok (.baload, 1) := dk_51 (dk_at dksJ9_getChar_2 0 rfl rfl)
theorem dJ9_getChar_49 : decode cJ9_getChar 49 = .ok (.sipush 255, 3) := dk_17 0 255 (dk_at dksJ9_getChar_2 1 rfl rfl)
theorem dJ9_getChar_52 : decode cJ9_getChar 52 = .ok (.iand, 1) := dk_126 (dk_at dksJ9_getChar_2 4 rfl rfl)
theorem dJ9_getChar_53 : decode cJ9_getChar 53 = .ok (.getstatic 63, 3) := dk_178 0 63 (dk_at dksJ9_getChar_2 5 rfl rfl)
theorem dJ9_getChar_56 : decode cJ9_getChar 56 = .ok (.ishl, 1) := dk_120 (dk_at dksJ9_getChar_2 8 rfl rfl)
theorem dJ9_getChar_57 : decode cJ9_getChar 57 = .ok (.ior, 1) := dk_128 (dk_at dksJ9_getChar_2 9 rfl rfl)
theorem dJ9_getChar_58 : decode cJ9_getChar 58 = .ok (.i2c, 1) := dk_146 (dk_at dksJ9_getChar_2 10 rfl rfl)
theorem dJ9_getChar_59 : decode cJ9_getChar 59 = .ok (.ireturn, 1) := dk_172 (dk_at dksJ9_getChar_2 11 rfl rfl)
abbrev cJ9_coderFromArrayLen : ByteArray := prog_41_method_15_code
def yJ9_coderFromArrayLen : MethodName := ⟨RJ9, "coderFromArrayLen", "([BI)B"⟩
def dkwJ9_coderFromArrayLen_0 : List UInt8 := [27, 42, 190, 100, 16, 31, 124, 145, 172]
abbrev dktJ9_coderFromArrayLen_0 : List UInt8 := dkwJ9_coderFromArrayLen_0 ++ []
theorem dksJ9_coderFromArrayLen_0 : cJ9_coderFromArrayLen.data.toList.drop 0 = dktJ9_coderFromArrayLen_0 := by decide +kernel
theorem dJ9_coderFromArrayLen_0 : decode cJ9_coderFromArrayLen 0 = .ok (.iload_n 1, 1) := dk_27 (dk_at dksJ9_coderFromArrayLen_0 0 rfl rfl)
theorem dJ9_coderFromArrayLen_1 : decode cJ9_coderFromArrayLen 1 = .ok (.aload_n 0, 1) := dk_42 (dk_at dksJ9_coderFromArrayLen_0 1 rfl rfl)
theorem dJ9_coderFromArrayLen_2 : decode cJ9_coderFromArrayLen 2 = .ok (.arraylength, 1) := dk_190 (dk_at dksJ9_coderFromArrayLen_0 2 rfl rfl)
theorem dJ9_coderFromArrayLen_3 : decode cJ9_coderFromArrayLen 3 = .ok (.isub, 1) := dk_100 (dk_at dksJ9_coderFromArrayLen_0 3 rfl rfl)
theorem dJ9_coderFromArrayLen_4 : decode cJ9_coderFromArrayLen 4 = .ok (.bipush 31, 2) := dk_16 31 (dk_at dksJ9_coderFromArrayLen_0 4 rfl rfl)
theorem dJ9_coderFromArrayLen_6 : decode cJ9_coderFromArrayLen 6 = .ok (.iushr, 1) := dk_124 (dk_at dksJ9_coderFromArrayLen_0 6 rfl rfl)
theorem dJ9_coderFromArrayLen_7 : decode cJ9_coderFromArrayLen 7 = .ok (.i2b, 1) := dk_145 (dk_at dksJ9_coderFromArrayLen_0 7 rfl rfl)
theorem dJ9_coderFromArrayLen_8 : decode cJ9_coderFromArrayLen 8 = .ok (.ireturn, 1) := dk_172 (dk_at dksJ9_coderFromArrayLen_0 8 rfl rfl)
abbrev cJ9_putCharsAt : ByteArray := prog_41_method_81_code
def yJ9_putCharsAt : MethodName := ⟨RJ9, "putCharsAt", "([BICCCC)I"⟩
def dkwJ9_putCharsAt_3 : List UInt8 := [21, 6, 172]
abbrev dktJ9_putCharsAt_3 : List UInt8 := dkwJ9_putCharsAt_3 ++ []
def dkwJ9_putCharsAt_2 : List UInt8 := [184, 0, 111, 178, 0, 44, 154, 0, 17, 27, 21, 6, 159, 0, 11, 187, 0, 52, 89, 183, 0, 66, 191]
abbrev dktJ9_putCharsAt_2 : List UInt8 := dkwJ9_putCharsAt_2 ++ dktJ9_putCharsAt_3
def dkwJ9_putCharsAt_1 : List UInt8 := [132, 1, 1, 29, 184, 0, 111, 42, 27, 132, 1, 1, 21, 4, 184, 0, 111, 42, 27, 132, 1, 1, 21, 5]
abbrev dktJ9_putCharsAt_1 : List UInt8 := dkwJ9_putCharsAt_1 ++ dktJ9_putCharsAt_2
def dkwJ9_putCharsAt_0 : List UInt8 := [27, 7, 96, 54, 6, 27, 21, 6, 42, 184, 0, 96, 42, 27, 132, 1, 1, 28, 184, 0, 111, 42, 27]
abbrev dktJ9_putCharsAt_0 : List UInt8 := dkwJ9_putCharsAt_0 ++ dktJ9_putCharsAt_1
theorem dksJ9_putCharsAt_0 : cJ9_putCharsAt.data.toList.drop 0 = dktJ9_putCharsAt_0 := by decide +kernel
theorem dksJ9_putCharsAt_1 : cJ9_putCharsAt.data.toList.drop 23 = dktJ9_putCharsAt_1 := dk_seg dksJ9_putCharsAt_0 23 rfl rfl
theorem dksJ9_putCharsAt_2 : cJ9_putCharsAt.data.toList.drop 47 = dktJ9_putCharsAt_2 := dk_seg dksJ9_putCharsAt_1 24 rfl rfl
theorem dksJ9_putCharsAt_3 : cJ9_putCharsAt.data.toList.drop 70 = dktJ9_putCharsAt_3 := dk_seg dksJ9_putCharsAt_2 23 rfl rfl
theorem dJ9_putCharsAt_0 : decode cJ9_putCharsAt 0 = .ok (.iload_n 1, 1) := dk_27 (dk_at dksJ9_putCharsAt_0 0 rfl rfl)
theorem dJ9_putCharsAt_1 : decode cJ9_putCharsAt 1 = .ok (.iconst 4, 1) := dk_7 (dk_at dksJ9_putCharsAt_0 1 rfl rfl)
theorem dJ9_putCharsAt_2 : decode cJ9_putCharsAt 2 = .ok (.iadd, 1) := dk_96 (dk_at dksJ9_putCharsAt_0 2 rfl rfl)
theorem dJ9_putCharsAt_3 : decode cJ9_putCharsAt 3 = .ok (.istore 6, 2) := dk_54 6 (dk_at dksJ9_putCharsAt_0 3 rfl rfl)
theorem dJ9_putCharsAt_5 : decode cJ9_putCharsAt 5 = .ok (.iload_n 1, 1) := dk_27 (dk_at dksJ9_putCharsAt_0 5 rfl rfl)
theorem dJ9_putCharsAt_6 : decode cJ9_putCharsAt 6 = .ok (.iload 6, 2) := dk_21 6 (dk_at dksJ9_putCharsAt_0 6 rfl rfl)
theorem dJ9_putCharsAt_8 : decode cJ9_putCharsAt 8 = .ok (.aload_n 0, 1) := dk_42 (dk_at dksJ9_putCharsAt_0 8 rfl rfl)
theorem dJ9_putCharsAt_9 : decode cJ9_putCharsAt 9 = .ok (.invokestatic 96, 3) := dk_184 0 96 (dk_at dksJ9_putCharsAt_0 9 rfl rfl)
theorem dJ9_putCharsAt_12 : decode cJ9_putCharsAt 12 = .ok (.aload_n 0, 1) := dk_42 (dk_at dksJ9_putCharsAt_0 12 rfl rfl)
theorem dJ9_putCharsAt_13 : decode cJ9_putCharsAt 13 = .ok (.iload_n 1, 1) := dk_27 (dk_at dksJ9_putCharsAt_0 13 rfl rfl)
theorem dJ9_putCharsAt_14 : decode cJ9_putCharsAt 14 = .ok (.iinc 1 1, 3) := dk_132 1 1 (dk_at dksJ9_putCharsAt_0 14 rfl rfl)
theorem dJ9_putCharsAt_17 : decode cJ9_putCharsAt 17 = .ok (.iload_n 2, 1) := dk_28 (dk_at dksJ9_putCharsAt_0 17 rfl rfl)
theorem dJ9_putCharsAt_18 : decode cJ9_putCharsAt 18 = .ok (.invokestatic 111, 3) := dk_184 0 111 (dk_at dksJ9_putCharsAt_0 18 rfl rfl)
theorem dJ9_putCharsAt_21 : decode cJ9_putCharsAt 21 = .ok (.aload_n 0, 1) := dk_42 (dk_at dksJ9_putCharsAt_0 21 rfl rfl)
theorem dJ9_putCharsAt_22 : decode cJ9_putCharsAt 22 = .ok (.iload_n 1, 1) := dk_27 (dk_at dksJ9_putCharsAt_0 22 rfl rfl)
theorem dJ9_putCharsAt_23 : decode cJ9_putCharsAt 23 = .ok (.iinc 1 1, 3) := dk_132 1 1 (dk_at dksJ9_putCharsAt_1 0 rfl rfl)
theorem dJ9_putCharsAt_26 : decode cJ9_putCharsAt 26 = .ok (.iload_n 3, 1) := dk_29 (dk_at dksJ9_putCharsAt_1 3 rfl rfl)
theorem dJ9_putCharsAt_27 : decode cJ9_putCharsAt 27 = .ok (.invokestatic 111, 3) := dk_184 0 111 (dk_at dksJ9_putCharsAt_1 4 rfl rfl)
theorem dJ9_putCharsAt_30 : decode cJ9_putCharsAt 30 = .ok (.aload_n 0, 1) := dk_42 (dk_at dksJ9_putCharsAt_1 7 rfl rfl)
theorem dJ9_putCharsAt_31 : decode cJ9_putCharsAt 31 = .ok (.iload_n 1, 1) := dk_27 (dk_at dksJ9_putCharsAt_1 8 rfl rfl)
theorem dJ9_putCharsAt_32 : decode cJ9_putCharsAt 32 = .ok (.iinc 1 1, 3) := dk_132 1 1 (dk_at dksJ9_putCharsAt_1 9 rfl rfl)
theorem dJ9_putCharsAt_35 : decode cJ9_putCharsAt 35 = .ok (.iload 4, 2) := dk_21 4 (dk_at dksJ9_putCharsAt_1 12 rfl rfl)
theorem dJ9_putCharsAt_37 : decode cJ9_putCharsAt 37 = .ok (.invokestatic 111, 3) := dk_184 0 111 (dk_at dksJ9_putCharsAt_1 14 rfl rfl)
theorem dJ9_putCharsAt_40 : decode cJ9_putCharsAt 40 = .ok (.aload_n 0, 1) := dk_42 (dk_at dksJ9_putCharsAt_1 17 rfl rfl)
theorem dJ9_putCharsAt_41 : decode cJ9_putCharsAt 41 = .ok (.iload_n 1, 1) := dk_27 (dk_at dksJ9_putCharsAt_1 18 rfl rfl)
theorem dJ9_putCharsAt_42 : decode cJ9_putCharsAt 42 = .ok (.iinc 1 1, 3) := dk_132 1 1 (dk_at dksJ9_putCharsAt_1 19 rfl rfl)
theorem dJ9_putCharsAt_45 : decode cJ9_putCharsAt 45 = .ok (.iload 5, 2) := dk_21 5 (dk_at dksJ9_putCharsAt_1 22 rfl rfl)
theorem dJ9_putCharsAt_47 : decode cJ9_putCharsAt 47 = .ok (.invokestatic 111, 3) := dk_184 0 111 (dk_at dksJ9_putCharsAt_2 0 rfl rfl)
theorem dJ9_putCharsAt_50 : decode cJ9_putCharsAt 50 = .ok (.getstatic 44, 3) := dk_178 0 44 (dk_at dksJ9_putCharsAt_2 3 rfl rfl)
theorem dJ9_putCharsAt_53 : decode cJ9_putCharsAt 53 = .ok (.ifCond .ne 17, 3) := dk_154 0 17 (dk_at dksJ9_putCharsAt_2 6 rfl rfl)
theorem dJ9_putCharsAt_56 : decode cJ9_putCharsAt 56 = .ok (.iload_n 1, 1) := dk_27 (dk_at dksJ9_putCharsAt_2 9 rfl rfl)
theorem dJ9_putCharsAt_57 : decode cJ9_putCharsAt 57 = .ok (.iload 6, 2) := dk_21 6 (dk_at dksJ9_putCharsAt_2 10 rfl rfl)
theorem dJ9_putCharsAt_59 : decode cJ9_putCharsAt 59 = .ok (.if_icmp .eq 11, 3) := dk_159 0 11 (dk_at dksJ9_putCharsAt_2 12 rfl rfl)
theorem dJ9_putCharsAt_62 : decode cJ9_putCharsAt 62 = .ok (.new 52, 3) := dk_187 0 52 (dk_at dksJ9_putCharsAt_2 15 rfl rfl)
theorem dJ9_putCharsAt_65 : decode cJ9_putCharsAt 65 = .ok (.dup, 1) := dk_89 (dk_at dksJ9_putCharsAt_2 18 rfl rfl)
theorem dJ9_putCharsAt_66 : decode cJ9_putCharsAt 66 = .ok (.invokespecial 66, 3) := dk_183 0 66 (dk_at dksJ9_putCharsAt_2 19 rfl rfl)
theorem dJ9_putCharsAt_69 : decode cJ9_putCharsAt 69 = .ok (.athrow, 1) := dk_191 (dk_at dksJ9_putCharsAt_2 22 rfl rfl)
theorem dJ9_putCharsAt_70 : decode cJ9_putCharsAt 70 = .ok (.iload 6, 2) := dk_21 6 (dk_at dksJ9_putCharsAt_3 0 rfl rfl)
theorem dJ9_putCharsAt_72 : decode cJ9_putCharsAt 72 = .ok (.ireturn, 1) := dk_172 (dk_at dksJ9_putCharsAt_3 2 rfl rfl)
abbrev cJ9_checkBoundsBeginEnd : ByteArray := prog_41_method_93_code
def yJ9_checkBoundsBeginEnd : MethodName := ⟨RJ9, "checkBoundsBeginEnd", "(II[B)V"⟩
def dkwJ9_checkBoundsBeginEnd_0 : List UInt8 := [26, 27, 44, 184, 0, 48, 184, 0, 241, 177]
abbrev dktJ9_checkBoundsBeginEnd_0 : List UInt8 := dkwJ9_checkBoundsBeginEnd_0 ++ []
theorem dksJ9_checkBoundsBeginEnd_0 : cJ9_checkBoundsBeginEnd.data.toList.drop 0 = dktJ9_checkBoundsBeginEnd_0 := by decide +kernel
theorem dJ9_checkBoundsBeginEnd_0 : decode cJ9_checkBoundsBeginEnd 0 = .ok (.iload_n 0, 1) := dk_26 (dk_at dksJ9_checkBoundsBeginEnd_0 0 rfl rfl)
theorem dJ9_checkBoundsBeginEnd_1 : decode cJ9_checkBoundsBeginEnd 1 = .ok (.iload_n 1, 1) := dk_27 (dk_at dksJ9_checkBoundsBeginEnd_0 1 rfl rfl)
theorem dJ9_checkBoundsBeginEnd_2 : decode cJ9_checkBoundsBeginEnd 2 = .ok (.aload_n 2, 1) := dk_44 (dk_at dksJ9_checkBoundsBeginEnd_0 2 rfl rfl)
theorem dJ9_checkBoundsBeginEnd_3 : decode cJ9_checkBoundsBeginEnd 3 = .ok (.invokestatic 48, 3) := dk_184 0 48 (dk_at dksJ9_checkBoundsBeginEnd_0 3 rfl rfl)
theorem dJ9_checkBoundsBeginEnd_6 : decode cJ9_checkBoundsBeginEnd 6 = .ok (.invokestatic 241, 3) := dk_184 0 241 (dk_at dksJ9_checkBoundsBeginEnd_0 6 rfl rfl)
theorem dJ9_checkBoundsBeginEnd_9 : decode cJ9_checkBoundsBeginEnd 9 = .ok (.return_, 1) := dk_177 (dk_at dksJ9_checkBoundsBeginEnd_0 9 rfl rfl)
abbrev cJ9_indexOf : ByteArray := prog_41_method_41_code
def yJ9_indexOf : MethodName := ⟨RJ9, "indexOf", "([B[B)I"⟩
def dkwJ9_indexOf_1 : List UInt8 := [184, 0, 48, 3, 184, 0, 235, 172]
abbrev dktJ9_indexOf_1 : List UInt8 := dkwJ9_indexOf_1 ++ []
def dkwJ9_indexOf_0 : List UInt8 := [43, 190, 154, 0, 5, 3, 172, 42, 190, 43, 190, 162, 0, 5, 2, 172, 42, 42, 184, 0, 48, 43, 43]
abbrev dktJ9_indexOf_0 : List UInt8 := dkwJ9_indexOf_0 ++ dktJ9_indexOf_1
theorem dksJ9_indexOf_0 : cJ9_indexOf.data.toList.drop 0 = dktJ9_indexOf_0 := by decide +kernel
theorem dksJ9_indexOf_1 : cJ9_indexOf.data.toList.drop 23 = dktJ9_indexOf_1 := dk_seg dksJ9_indexOf_0 23 rfl rfl
theorem dJ9_indexOf_0 : decode cJ9_indexOf 0 = .ok (.aload_n 1, 1) := dk_43 (dk_at dksJ9_indexOf_0 0 rfl rfl)
theorem dJ9_indexOf_1 : decode cJ9_indexOf 1 = .ok (.arraylength, 1) := dk_190 (dk_at dksJ9_indexOf_0 1 rfl rfl)
theorem dJ9_indexOf_2 : decode cJ9_indexOf 2 = .ok (.ifCond .ne 5, 3) := dk_154 0 5 (dk_at dksJ9_indexOf_0 2 rfl rfl)
theorem dJ9_indexOf_5 : decode cJ9_indexOf 5 = .ok (.iconst 0, 1) := dk_3 (dk_at dksJ9_indexOf_0 5 rfl rfl)
theorem dJ9_indexOf_6 : decode cJ9_indexOf 6 = .ok (.ireturn, 1) := dk_172 (dk_at dksJ9_indexOf_0 6 rfl rfl)
theorem dJ9_indexOf_7 : decode cJ9_indexOf 7 = .ok (.aload_n 0, 1) := dk_42 (dk_at dksJ9_indexOf_0 7 rfl rfl)
theorem dJ9_indexOf_8 : decode cJ9_indexOf 8 = .ok (.arraylength, 1) := dk_190 (dk_at dksJ9_indexOf_0 8 rfl rfl)
theorem dJ9_indexOf_9 : decode cJ9_indexOf 9 = .ok (.aload_n 1, 1) := dk_43 (dk_at dksJ9_indexOf_0 9 rfl rfl)
theorem dJ9_indexOf_10 : decode cJ9_indexOf 10 = .ok (.arraylength, 1) := dk_190 (dk_at dksJ9_indexOf_0 10 rfl rfl)
theorem dJ9_indexOf_11 : decode cJ9_indexOf 11 = .ok (.if_icmp .ge 5, 3) := dk_162 0 5 (dk_at dksJ9_indexOf_0 11 rfl rfl)
theorem dJ9_indexOf_14 : decode cJ9_indexOf 14 = .ok (.iconst (-1), 1) := dk_2 (dk_at dksJ9_indexOf_0 14 rfl rfl)
theorem dJ9_indexOf_15 : decode cJ9_indexOf 15 = .ok (.ireturn, 1) := dk_172 (dk_at dksJ9_indexOf_0 15 rfl rfl)
theorem dJ9_indexOf_16 : decode cJ9_indexOf 16 = .ok (.aload_n 0, 1) := dk_42 (dk_at dksJ9_indexOf_0 16 rfl rfl)
theorem dJ9_indexOf_17 : decode cJ9_indexOf 17 = .ok (.aload_n 0, 1) := dk_42 (dk_at dksJ9_indexOf_0 17 rfl rfl)
theorem dJ9_indexOf_18 : decode cJ9_indexOf 18 = .ok (.invokestatic 48, 3) := dk_184 0 48 (dk_at dksJ9_indexOf_0 18 rfl rfl)
theorem dJ9_indexOf_21 : decode cJ9_indexOf 21 = .ok (.aload_n 1, 1) := dk_43 (dk_at dksJ9_indexOf_0 21 rfl rfl)
theorem dJ9_indexOf_22 : decode cJ9_indexOf 22 = .ok (.aload_n 1, 1) := dk_43 (dk_at dksJ9_indexOf_0 22 rfl rfl)
theorem dJ9_indexOf_23 : decode cJ9_indexOf 23 = .ok (.invokestatic 48, 3) := dk_184 0 48 (dk_at dksJ9_indexOf_1 0 rfl rfl)
theorem dJ9_indexOf_26 : decode cJ9_indexOf 26 = .ok (.iconst 0, 1) := dk_3 (dk_at dksJ9_indexOf_1 3 rfl rfl)
theorem dJ9_indexOf_27 : decode cJ9_indexOf 27 = .ok (.invokestatic 235, 3) := dk_184 0 235 (dk_at dksJ9_indexOf_1 4 rfl rfl)
theorem dJ9_indexOf_30 : decode cJ9_indexOf 30 = .ok (.ireturn, 1) := dk_172 (dk_at dksJ9_indexOf_1 7 rfl rfl)
abbrev cJ9_indexOfUnsafe : ByteArray := prog_41_method_43_code
def yJ9_indexOfUnsafe : MethodName := ⟨RJ9, "indexOfUnsafe", "([BI[BII)I"⟩
def dkwJ9_indexOfUnsafe_9 : List UInt8 := [167, 255, 146, 2, 172]
abbrev dktJ9_indexOfUnsafe_9 : List UInt8 := dkwJ9_indexOfUnsafe_9 ++ []
def dkwJ9_indexOfUnsafe_8 : List UInt8 := [132, 8, 1, 132, 10, 1, 167, 255, 228, 21, 8, 21, 9, 160, 0, 6, 21, 7, 172, 132, 7, 1]
abbrev dktJ9_indexOfUnsafe_8 : List UInt8 := dkwJ9_indexOfUnsafe_8 ++ dktJ9_indexOfUnsafe_9
def dkwJ9_indexOfUnsafe_7 : List UInt8 := [21, 8, 21, 9, 162, 0, 27, 42, 21, 8, 184, 0, 71, 44, 21, 10, 184, 0, 71, 160, 0, 12]
abbrev dktJ9_indexOfUnsafe_7 : List UInt8 := dkwJ9_indexOfUnsafe_7 ++ dktJ9_indexOfUnsafe_8
def dkwJ9_indexOfUnsafe_6 : List UInt8 := [21, 7, 21, 6, 163, 0, 61, 21, 7, 4, 96, 54, 8, 21, 8, 29, 96, 4, 100, 54, 9, 4, 54, 10]
abbrev dktJ9_indexOfUnsafe_6 : List UInt8 := dkwJ9_indexOfUnsafe_6 ++ dktJ9_indexOfUnsafe_7
def dkwJ9_indexOfUnsafe_5 : List UInt8 := [132, 7, 1, 21, 7, 21, 6, 163, 0, 17, 42, 21, 7, 184, 0, 71, 21, 5, 159, 0, 6, 167, 255, 235]
abbrev dktJ9_indexOfUnsafe_5 : List UInt8 := dkwJ9_indexOfUnsafe_5 ++ dktJ9_indexOfUnsafe_6
def dkwJ9_indexOfUnsafe_4 : List UInt8 := [21, 4, 54, 7, 21, 7, 21, 6, 163, 0, 109, 42, 21, 7, 184, 0, 71, 21, 5, 159, 0, 27]
abbrev dktJ9_indexOfUnsafe_4 : List UInt8 := dkwJ9_indexOfUnsafe_4 ++ dktJ9_indexOfUnsafe_5
def dkwJ9_indexOfUnsafe_3 : List UInt8 := [162, 0, 11, 187, 0, 52, 89, 183, 0, 66, 191, 44, 3, 184, 0, 71, 54, 5, 27, 29, 100, 54, 6]
abbrev dktJ9_indexOfUnsafe_3 : List UInt8 := dkwJ9_indexOfUnsafe_3 ++ dktJ9_indexOfUnsafe_4
def dkwJ9_indexOfUnsafe_2 : List UInt8 := [184, 0, 48, 164, 0, 11, 187, 0, 52, 89, 183, 0, 66, 191, 178, 0, 44, 154, 0, 16, 27, 29]
abbrev dktJ9_indexOfUnsafe_2 : List UInt8 := dkwJ9_indexOfUnsafe_2 ++ dktJ9_indexOfUnsafe_3
def dkwJ9_indexOfUnsafe_1 : List UInt8 := [154, 0, 15, 29, 157, 0, 11, 187, 0, 52, 89, 183, 0, 66, 191, 178, 0, 44, 154, 0, 19, 29, 44]
abbrev dktJ9_indexOfUnsafe_1 : List UInt8 := dkwJ9_indexOfUnsafe_1 ++ dktJ9_indexOfUnsafe_2
def dkwJ9_indexOfUnsafe_0 : List UInt8 := [178, 0, 44, 154, 0, 16, 21, 4, 156, 0, 11, 187, 0, 52, 89, 183, 0, 66, 191, 178, 0, 44]
abbrev dktJ9_indexOfUnsafe_0 : List UInt8 := dkwJ9_indexOfUnsafe_0 ++ dktJ9_indexOfUnsafe_1
theorem dksJ9_indexOfUnsafe_0 : cJ9_indexOfUnsafe.data.toList.drop 0 = dktJ9_indexOfUnsafe_0 := by decide +kernel
theorem dksJ9_indexOfUnsafe_1 : cJ9_indexOfUnsafe.data.toList.drop 22 = dktJ9_indexOfUnsafe_1 := dk_seg dksJ9_indexOfUnsafe_0 22 rfl rfl
theorem dksJ9_indexOfUnsafe_2 : cJ9_indexOfUnsafe.data.toList.drop 45 = dktJ9_indexOfUnsafe_2 := dk_seg dksJ9_indexOfUnsafe_1 23 rfl rfl
theorem dksJ9_indexOfUnsafe_3 : cJ9_indexOfUnsafe.data.toList.drop 67 = dktJ9_indexOfUnsafe_3 := dk_seg dksJ9_indexOfUnsafe_2 22 rfl rfl
theorem dksJ9_indexOfUnsafe_4 : cJ9_indexOfUnsafe.data.toList.drop 90 = dktJ9_indexOfUnsafe_4 := dk_seg dksJ9_indexOfUnsafe_3 23 rfl rfl
theorem dksJ9_indexOfUnsafe_5 : cJ9_indexOfUnsafe.data.toList.drop 112 = dktJ9_indexOfUnsafe_5 := dk_seg dksJ9_indexOfUnsafe_4 22 rfl rfl
theorem dksJ9_indexOfUnsafe_6 : cJ9_indexOfUnsafe.data.toList.drop 136 = dktJ9_indexOfUnsafe_6 := dk_seg dksJ9_indexOfUnsafe_5 24 rfl rfl
theorem dksJ9_indexOfUnsafe_7 : cJ9_indexOfUnsafe.data.toList.drop 160 = dktJ9_indexOfUnsafe_7 := dk_seg dksJ9_indexOfUnsafe_6 24 rfl rfl
theorem dksJ9_indexOfUnsafe_8 : cJ9_indexOfUnsafe.data.toList.drop 182 = dktJ9_indexOfUnsafe_8 := dk_seg dksJ9_indexOfUnsafe_7 22 rfl rfl
theorem dksJ9_indexOfUnsafe_9 : cJ9_indexOfUnsafe.data.toList.drop 204 = dktJ9_indexOfUnsafe_9 := dk_seg dksJ9_indexOfUnsafe_8 22 rfl rfl
theorem dJ9_indexOfUnsafe_0 : decode cJ9_indexOfUnsafe 0 = .ok (.getstatic 44, 3) := dk_178 0 44 (dk_at dksJ9_indexOfUnsafe_0 0 rfl rfl)
theorem dJ9_indexOfUnsafe_3 : decode cJ9_indexOfUnsafe 3 = .ok (.ifCond .ne 16, 3) := dk_154 0 16 (dk_at dksJ9_indexOfUnsafe_0 3 rfl rfl)
theorem dJ9_indexOfUnsafe_6 : decode cJ9_indexOfUnsafe 6 = .ok (.iload 4, 2) := dk_21 4 (dk_at dksJ9_indexOfUnsafe_0 6 rfl rfl)
theorem dJ9_indexOfUnsafe_8 : decode cJ9_indexOfUnsafe 8 = .ok (.ifCond .ge 11, 3) := dk_156 0 11 (dk_at dksJ9_indexOfUnsafe_0 8 rfl rfl)
theorem dJ9_indexOfUnsafe_11 : decode cJ9_indexOfUnsafe 11 = .ok (.new 52, 3) := dk_187 0 52 (dk_at dksJ9_indexOfUnsafe_0 11 rfl rfl)
theorem dJ9_indexOfUnsafe_14 : decode cJ9_indexOfUnsafe 14 = .ok (.dup, 1) := dk_89 (dk_at dksJ9_indexOfUnsafe_0 14 rfl rfl)
theorem dJ9_indexOfUnsafe_15 : decode cJ9_indexOfUnsafe 15 = .ok (.invokespecial 66, 3) := dk_183 0 66 (dk_at dksJ9_indexOfUnsafe_0 15 rfl rfl)
theorem dJ9_indexOfUnsafe_18 : decode cJ9_indexOfUnsafe 18 = .ok (.athrow, 1) := dk_191 (dk_at dksJ9_indexOfUnsafe_0 18 rfl rfl)
theorem dJ9_indexOfUnsafe_19 : decode cJ9_indexOfUnsafe 19 = .ok (.getstatic 44, 3) := dk_178 0 44 (dk_at dksJ9_indexOfUnsafe_0 19 rfl rfl)
theorem dJ9_indexOfUnsafe_22 : decode cJ9_indexOfUnsafe 22 = .ok (.ifCond .ne 15, 3) := dk_154 0 15 (dk_at dksJ9_indexOfUnsafe_1 0 rfl rfl)
theorem dJ9_indexOfUnsafe_25 : decode cJ9_indexOfUnsafe 25 = .ok (.iload_n 3, 1) := dk_29 (dk_at dksJ9_indexOfUnsafe_1 3 rfl rfl)
theorem dJ9_indexOfUnsafe_26 : decode cJ9_indexOfUnsafe 26 = .ok (.ifCond .gt 11, 3) := dk_157 0 11 (dk_at dksJ9_indexOfUnsafe_1 4 rfl rfl)
theorem dJ9_indexOfUnsafe_29 : decode cJ9_indexOfUnsafe 29 = .ok (.new 52, 3) := dk_187 0 52 (dk_at dksJ9_indexOfUnsafe_1 7 rfl rfl)
theorem dJ9_indexOfUnsafe_32 : decode cJ9_indexOfUnsafe 32 = .ok (.dup, 1) := dk_89 (dk_at dksJ9_indexOfUnsafe_1 10 rfl rfl)
theorem dJ9_indexOfUnsafe_33 : decode cJ9_indexOfUnsafe 33 = .ok (.invokespecial 66, 3) := dk_183 0 66 (dk_at dksJ9_indexOfUnsafe_1 11 rfl rfl)
theorem dJ9_indexOfUnsafe_36 : decode cJ9_indexOfUnsafe 36 = .ok (.athrow, 1) := dk_191 (dk_at dksJ9_indexOfUnsafe_1 14 rfl rfl)
theorem dJ9_indexOfUnsafe_37 : decode cJ9_indexOfUnsafe 37 = .ok (.getstatic 44, 3) := dk_178 0 44 (dk_at dksJ9_indexOfUnsafe_1 15 rfl rfl)
theorem dJ9_indexOfUnsafe_40 : decode cJ9_indexOfUnsafe 40 = .ok (.ifCond .ne 19, 3) := dk_154 0 19 (dk_at dksJ9_indexOfUnsafe_1 18 rfl rfl)
theorem dJ9_indexOfUnsafe_43 : decode cJ9_indexOfUnsafe 43 = .ok (.iload_n 3, 1) := dk_29 (dk_at dksJ9_indexOfUnsafe_1 21 rfl rfl)
theorem dJ9_indexOfUnsafe_44 : decode cJ9_indexOfUnsafe 44 = .ok (.aload_n 2, 1) := dk_44 (dk_at dksJ9_indexOfUnsafe_1 22 rfl rfl)
theorem dJ9_indexOfUnsafe_45 : decode cJ9_indexOfUnsafe 45 = .ok (.invokestatic 48, 3) := dk_184 0 48 (dk_at dksJ9_indexOfUnsafe_2 0 rfl rfl)
theorem dJ9_indexOfUnsafe_48 : decode cJ9_indexOfUnsafe 48 = .ok (.if_icmp .le 11, 3) := dk_164 0 11 (dk_at dksJ9_indexOfUnsafe_2 3 rfl rfl)
theorem dJ9_indexOfUnsafe_51 : decode cJ9_indexOfUnsafe 51 = .ok (.new 52, 3) := dk_187 0 52 (dk_at dksJ9_indexOfUnsafe_2 6 rfl rfl)
theorem dJ9_indexOfUnsafe_54 : decode cJ9_indexOfUnsafe 54 = .ok (.dup, 1) := dk_89 (dk_at dksJ9_indexOfUnsafe_2 9 rfl rfl)
theorem dJ9_indexOfUnsafe_55 : decode cJ9_indexOfUnsafe 55 = .ok (.invokespecial 66, 3) := dk_183 0 66 (dk_at dksJ9_indexOfUnsafe_2 10 rfl rfl)
theorem dJ9_indexOfUnsafe_58 : decode cJ9_indexOfUnsafe 58 = .ok (.athrow, 1) := dk_191 (dk_at dksJ9_indexOfUnsafe_2 13 rfl rfl)
theorem dJ9_indexOfUnsafe_59 : decode cJ9_indexOfUnsafe 59 = .ok (.getstatic 44, 3) := dk_178 0 44 (dk_at dksJ9_indexOfUnsafe_2 14 rfl rfl)
theorem dJ9_indexOfUnsafe_62 : decode cJ9_indexOfUnsafe 62 = .ok (.ifCond .ne 16, 3) := dk_154 0 16 (dk_at dksJ9_indexOfUnsafe_2 17 rfl rfl)
theorem dJ9_indexOfUnsafe_65 : decode cJ9_indexOfUnsafe 65 = .ok (.iload_n 1, 1) := dk_27 (dk_at dksJ9_indexOfUnsafe_2 20 rfl rfl)
theorem dJ9_indexOfUnsafe_66 : decode cJ9_indexOfUnsafe 66 = .ok (.iload_n 3, 1) := dk_29 (dk_at dksJ9_indexOfUnsafe_2 21 rfl rfl)
theorem dJ9_indexOfUnsafe_67 : decode cJ9_indexOfUnsafe 67 = .ok (.if_icmp .ge 11, 3) := dk_162 0 11 (dk_at dksJ9_indexOfUnsafe_3 0 rfl rfl)
theorem dJ9_indexOfUnsafe_70 : decode cJ9_indexOfUnsafe 70 = .ok (.new 52, 3) := dk_187 0 52 (dk_at dksJ9_indexOfUnsafe_3 3 rfl rfl)
theorem dJ9_indexOfUnsafe_73 : decode cJ9_indexOfUnsafe 73 = .ok (.dup, 1) := dk_89 (dk_at dksJ9_indexOfUnsafe_3 6 rfl rfl)
theorem dJ9_indexOfUnsafe_74 : decode cJ9_indexOfUnsafe 74 = .ok (.invokespecial 66, 3) := dk_183 0 66 (dk_at dksJ9_indexOfUnsafe_3 7 rfl rfl)
theorem dJ9_indexOfUnsafe_77 : decode cJ9_indexOfUnsafe 77 = .ok (.athrow, 1) := dk_191 (dk_at dksJ9_indexOfUnsafe_3 10 rfl rfl)
theorem dJ9_indexOfUnsafe_78 : decode cJ9_indexOfUnsafe 78 = .ok (.aload_n 2, 1) := dk_44 (dk_at dksJ9_indexOfUnsafe_3 11 rfl rfl)
theorem dJ9_indexOfUnsafe_79 : decode cJ9_indexOfUnsafe 79 = .ok (.iconst 0, 1) := dk_3 (dk_at dksJ9_indexOfUnsafe_3 12 rfl rfl)
theorem dJ9_indexOfUnsafe_80 : decode cJ9_indexOfUnsafe 80 = .ok (.invokestatic 71, 3) := dk_184 0 71 (dk_at dksJ9_indexOfUnsafe_3 13 rfl rfl)
theorem dJ9_indexOfUnsafe_83 : decode cJ9_indexOfUnsafe 83 = .ok (.istore 5, 2) := dk_54 5 (dk_at dksJ9_indexOfUnsafe_3 16 rfl rfl)
theorem dJ9_indexOfUnsafe_85 : decode cJ9_indexOfUnsafe 85 = .ok (.iload_n 1, 1) := dk_27 (dk_at dksJ9_indexOfUnsafe_3 18 rfl rfl)
theorem dJ9_indexOfUnsafe_86 : decode cJ9_indexOfUnsafe 86 = .ok (.iload_n 3, 1) := dk_29 (dk_at dksJ9_indexOfUnsafe_3 19 rfl rfl)
theorem dJ9_indexOfUnsafe_87 : decode cJ9_indexOfUnsafe 87 = .ok (.isub, 1) := dk_100 (dk_at dksJ9_indexOfUnsafe_3 20 rfl rfl)
theorem dJ9_indexOfUnsafe_88 : decode cJ9_indexOfUnsafe 88 = .ok (.istore 6, 2) := dk_54 6 (dk_at dksJ9_indexOfUnsafe_3 21 rfl rfl)
theorem dJ9_indexOfUnsafe_90 : decode cJ9_indexOfUnsafe 90 = .ok (.iload 4, 2) := dk_21 4 (dk_at dksJ9_indexOfUnsafe_4 0 rfl rfl)
theorem dJ9_indexOfUnsafe_92 : decode cJ9_indexOfUnsafe 92 = .ok (.istore 7, 2) := dk_54 7 (dk_at dksJ9_indexOfUnsafe_4 2 rfl rfl)
theorem dJ9_indexOfUnsafe_94 : decode cJ9_indexOfUnsafe 94 = .ok (.iload 7, 2) := dk_21 7 (dk_at dksJ9_indexOfUnsafe_4 4 rfl rfl)
theorem dJ9_indexOfUnsafe_96 : decode cJ9_indexOfUnsafe 96 = .ok (.iload 6, 2) := dk_21 6 (dk_at dksJ9_indexOfUnsafe_4 6 rfl rfl)
theorem dJ9_indexOfUnsafe_98 : decode cJ9_indexOfUnsafe 98 = .ok (.if_icmp .gt 109, 3) := dk_163 0 109 (dk_at dksJ9_indexOfUnsafe_4 8 rfl rfl)
theorem dJ9_indexOfUnsafe_101 : decode cJ9_indexOfUnsafe 101 = .ok (.aload_n 0, 1) := dk_42 (dk_at dksJ9_indexOfUnsafe_4 11 rfl rfl)
theorem dJ9_indexOfUnsafe_102 : decode cJ9_indexOfUnsafe 102 = .ok (.iload 7, 2) := dk_21 7 (dk_at dksJ9_indexOfUnsafe_4 12 rfl rfl)
theorem dJ9_indexOfUnsafe_104 : decode cJ9_indexOfUnsafe 104 = .ok (.invokestatic 71, 3) := dk_184 0 71 (dk_at dksJ9_indexOfUnsafe_4 14 rfl rfl)
theorem dJ9_indexOfUnsafe_107 : decode cJ9_indexOfUnsafe 107 = .ok (.iload 5, 2) := dk_21 5 (dk_at dksJ9_indexOfUnsafe_4 17 rfl rfl)
theorem dJ9_indexOfUnsafe_109 : decode cJ9_indexOfUnsafe 109 = .ok (.if_icmp .eq 27, 3) := dk_159 0 27 (dk_at dksJ9_indexOfUnsafe_4 19 rfl rfl)
theorem dJ9_indexOfUnsafe_112 : decode cJ9_indexOfUnsafe 112 = .ok (.iinc 7 1, 3) := dk_132 7 1 (dk_at dksJ9_indexOfUnsafe_5 0 rfl rfl)
theorem dJ9_indexOfUnsafe_115 : decode cJ9_indexOfUnsafe 115 = .ok (.iload 7, 2) := dk_21 7 (dk_at dksJ9_indexOfUnsafe_5 3 rfl rfl)
theorem dJ9_indexOfUnsafe_117 : decode cJ9_indexOfUnsafe 117 = .ok (.iload 6, 2) := dk_21 6 (dk_at dksJ9_indexOfUnsafe_5 5 rfl rfl)
theorem dJ9_indexOfUnsafe_119 : decode cJ9_indexOfUnsafe 119 = .ok (.if_icmp .gt 17, 3) := dk_163 0 17 (dk_at dksJ9_indexOfUnsafe_5 7 rfl rfl)
theorem dJ9_indexOfUnsafe_122 : decode cJ9_indexOfUnsafe 122 = .ok (.aload_n 0, 1) := dk_42 (dk_at dksJ9_indexOfUnsafe_5 10 rfl rfl)
theorem dJ9_indexOfUnsafe_123 : decode cJ9_indexOfUnsafe 123 = .ok (.iload 7, 2) := dk_21 7 (dk_at dksJ9_indexOfUnsafe_5 11 rfl rfl)
theorem dJ9_indexOfUnsafe_125 : decode cJ9_indexOfUnsafe 125 = .ok (.invokestatic 71, 3) := dk_184 0 71 (dk_at dksJ9_indexOfUnsafe_5 13 rfl rfl)
theorem dJ9_indexOfUnsafe_128 : decode cJ9_indexOfUnsafe 128 = .ok (.iload 5, 2) := dk_21 5 (dk_at dksJ9_indexOfUnsafe_5 16 rfl rfl)
theorem dJ9_indexOfUnsafe_130 : decode cJ9_indexOfUnsafe 130 = .ok (.if_icmp .eq 6, 3) := dk_159 0 6 (dk_at dksJ9_indexOfUnsafe_5 18 rfl rfl)
theorem dJ9_indexOfUnsafe_133 : decode cJ9_indexOfUnsafe 133 = .ok (.goto (-21), 3) := dk_167 255 235 (dk_at dksJ9_indexOfUnsafe_5 21 rfl rfl)
theorem dJ9_indexOfUnsafe_136 : decode cJ9_indexOfUnsafe 136 = .ok (.iload 7, 2) := dk_21 7 (dk_at dksJ9_indexOfUnsafe_6 0 rfl rfl)
theorem dJ9_indexOfUnsafe_138 : decode cJ9_indexOfUnsafe 138 = .ok (.iload 6, 2) := dk_21 6 (dk_at dksJ9_indexOfUnsafe_6 2 rfl rfl)
theorem dJ9_indexOfUnsafe_140 : decode cJ9_indexOfUnsafe 140 = .ok (.if_icmp .gt 61, 3) := dk_163 0 61 (dk_at dksJ9_indexOfUnsafe_6 4 rfl rfl)
theorem dJ9_indexOfUnsafe_143 : decode cJ9_indexOfUnsafe 143 = .ok (.iload 7, 2) := dk_21 7 (dk_at dksJ9_indexOfUnsafe_6 7 rfl rfl)
theorem dJ9_indexOfUnsafe_145 : decode cJ9_indexOfUnsafe 145 = .ok (.iconst 1, 1) := dk_4 (dk_at dksJ9_indexOfUnsafe_6 9 rfl rfl)
theorem dJ9_indexOfUnsafe_146 : decode cJ9_indexOfUnsafe 146 = .ok (.iadd, 1) := dk_96 (dk_at dksJ9_indexOfUnsafe_6 10 rfl rfl)
theorem dJ9_indexOfUnsafe_147 : decode cJ9_indexOfUnsafe 147 = .ok (.istore 8, 2) := dk_54 8 (dk_at dksJ9_indexOfUnsafe_6 11 rfl rfl)
theorem dJ9_indexOfUnsafe_149 : decode cJ9_indexOfUnsafe 149 = .ok (.iload 8, 2) := dk_21 8 (dk_at dksJ9_indexOfUnsafe_6 13 rfl rfl)
theorem dJ9_indexOfUnsafe_151 : decode cJ9_indexOfUnsafe 151 = .ok (.iload_n 3, 1) := dk_29 (dk_at dksJ9_indexOfUnsafe_6 15 rfl rfl)
theorem dJ9_indexOfUnsafe_152 : decode cJ9_indexOfUnsafe 152 = .ok (.iadd, 1) := dk_96 (dk_at dksJ9_indexOfUnsafe_6 16 rfl rfl)
theorem dJ9_indexOfUnsafe_153 : decode cJ9_indexOfUnsafe 153 = .ok (.iconst 1, 1) := dk_4 (dk_at dksJ9_indexOfUnsafe_6 17 rfl rfl)
theorem dJ9_indexOfUnsafe_154 : decode cJ9_indexOfUnsafe 154 = .ok (.isub, 1) := dk_100 (dk_at dksJ9_indexOfUnsafe_6 18 rfl rfl)
theorem dJ9_indexOfUnsafe_155 : decode cJ9_indexOfUnsafe 155 = .ok (.istore 9, 2) := dk_54 9 (dk_at dksJ9_indexOfUnsafe_6 19 rfl rfl)
theorem dJ9_indexOfUnsafe_157 : decode cJ9_indexOfUnsafe 157 = .ok (.iconst 1, 1) := dk_4 (dk_at dksJ9_indexOfUnsafe_6 21 rfl rfl)
theorem dJ9_indexOfUnsafe_158 : decode cJ9_indexOfUnsafe 158 = .ok (.istore 10, 2) := dk_54 10 (dk_at dksJ9_indexOfUnsafe_6 22 rfl rfl)
theorem dJ9_indexOfUnsafe_160 : decode cJ9_indexOfUnsafe 160 = .ok (.iload 8, 2) := dk_21 8 (dk_at dksJ9_indexOfUnsafe_7 0 rfl rfl)
theorem dJ9_indexOfUnsafe_162 : decode cJ9_indexOfUnsafe 162 = .ok (.iload 9, 2) := dk_21 9 (dk_at dksJ9_indexOfUnsafe_7 2 rfl rfl)
theorem dJ9_indexOfUnsafe_164 : decode cJ9_indexOfUnsafe 164 = .ok (.if_icmp .ge 27, 3) := dk_162 0 27 (dk_at dksJ9_indexOfUnsafe_7 4 rfl rfl)
theorem dJ9_indexOfUnsafe_167 : decode cJ9_indexOfUnsafe 167 = .ok (.aload_n 0, 1) := dk_42 (dk_at dksJ9_indexOfUnsafe_7 7 rfl rfl)
theorem dJ9_indexOfUnsafe_168 : decode cJ9_indexOfUnsafe 168 = .ok (.iload 8, 2) := dk_21 8 (dk_at dksJ9_indexOfUnsafe_7 8 rfl rfl)
theorem dJ9_indexOfUnsafe_170 : decode cJ9_indexOfUnsafe 170 = .ok (.invokestatic 71, 3) := dk_184 0 71 (dk_at dksJ9_indexOfUnsafe_7 10 rfl rfl)
theorem dJ9_indexOfUnsafe_173 : decode cJ9_indexOfUnsafe 173 = .ok (.aload_n 2, 1) := dk_44 (dk_at dksJ9_indexOfUnsafe_7 13 rfl rfl)
theorem dJ9_indexOfUnsafe_174 : decode cJ9_indexOfUnsafe 174 = .ok (.iload 10, 2) := dk_21 10 (dk_at dksJ9_indexOfUnsafe_7 14 rfl rfl)
theorem dJ9_indexOfUnsafe_176 : decode cJ9_indexOfUnsafe 176 = .ok (.invokestatic 71, 3) := dk_184 0 71 (dk_at dksJ9_indexOfUnsafe_7 16 rfl rfl)
theorem dJ9_indexOfUnsafe_179 : decode cJ9_indexOfUnsafe 179 = .ok (.if_icmp .ne 12, 3) := dk_160 0 12 (dk_at dksJ9_indexOfUnsafe_7 19 rfl rfl)
theorem dJ9_indexOfUnsafe_182 : decode cJ9_indexOfUnsafe 182 = .ok (.iinc 8 1, 3) := dk_132 8 1 (dk_at dksJ9_indexOfUnsafe_8 0 rfl rfl)
theorem dJ9_indexOfUnsafe_185 : decode cJ9_indexOfUnsafe 185 = .ok (.iinc 10 1, 3) := dk_132 10 1 (dk_at dksJ9_indexOfUnsafe_8 3 rfl rfl)
theorem dJ9_indexOfUnsafe_188 : decode cJ9_indexOfUnsafe 188 = .ok (.goto (-28), 3) := dk_167 255 228 (dk_at dksJ9_indexOfUnsafe_8 6 rfl rfl)
theorem dJ9_indexOfUnsafe_191 : decode cJ9_indexOfUnsafe 191 = .ok (.iload 8, 2) := dk_21 8 (dk_at dksJ9_indexOfUnsafe_8 9 rfl rfl)
theorem dJ9_indexOfUnsafe_193 : decode cJ9_indexOfUnsafe 193 = .ok (.iload 9, 2) := dk_21 9 (dk_at dksJ9_indexOfUnsafe_8 11 rfl rfl)
theorem dJ9_indexOfUnsafe_195 : decode cJ9_indexOfUnsafe 195 = .ok (.if_icmp .ne 6, 3) := dk_160 0 6 (dk_at dksJ9_indexOfUnsafe_8 13 rfl rfl)
theorem dJ9_indexOfUnsafe_198 : decode cJ9_indexOfUnsafe 198 = .ok (.iload 7, 2) := dk_21 7 (dk_at dksJ9_indexOfUnsafe_8 16 rfl rfl)
theorem dJ9_indexOfUnsafe_200 : decode cJ9_indexOfUnsafe 200 = .ok (.ireturn, 1) := dk_172 (dk_at dksJ9_indexOfUnsafe_8 18 rfl rfl)
theorem dJ9_indexOfUnsafe_201 : decode cJ9_indexOfUnsafe 201 = .ok (.iinc 7 1, 3) := dk_132 7 1 (dk_at dksJ9_indexOfUnsafe_8 19 rfl rfl)
theorem dJ9_indexOfUnsafe_204 : decode cJ9_indexOfUnsafe 204 = .ok (.goto (-110), 3) := dk_167 255 146 (dk_at dksJ9_indexOfUnsafe_9 0 rfl rfl)
theorem dJ9_indexOfUnsafe_207 : decode cJ9_indexOfUnsafe 207 = .ok (.iconst (-1), 1) := dk_2 (dk_at dksJ9_indexOfUnsafe_9 3 rfl rfl)
theorem dJ9_indexOfUnsafe_208 : decode cJ9_indexOfUnsafe 208 = .ok (.ireturn, 1) := dk_172 (dk_at dksJ9_indexOfUnsafe_9 4 rfl rfl)
abbrev cJ9_indexOfLatin1 : ByteArray := prog_41_method_44_code
def yJ9_indexOfLatin1 : MethodName := ⟨RJ9, "indexOfLatin1", "([B[B)I"⟩
def dkwJ9_indexOfLatin1_1 : List UInt8 := [43, 190, 3, 184, 0, 238, 172]
abbrev dktJ9_indexOfLatin1_1 : List UInt8 := dkwJ9_indexOfLatin1_1 ++ []
def dkwJ9_indexOfLatin1_0 : List UInt8 := [43, 190, 154, 0, 5, 3, 172, 42, 184, 0, 48, 43, 190, 162, 0, 5, 2, 172, 42, 42, 184, 0, 48, 43]
abbrev dktJ9_indexOfLatin1_0 : List UInt8 := dkwJ9_indexOfLatin1_0 ++ dktJ9_indexOfLatin1_1
theorem dksJ9_indexOfLatin1_0 : cJ9_indexOfLatin1.data.toList.drop 0 = dktJ9_indexOfLatin1_0 := by decide +kernel
theorem dksJ9_indexOfLatin1_1 : cJ9_indexOfLatin1.data.toList.drop 24 = dktJ9_indexOfLatin1_1 := dk_seg dksJ9_indexOfLatin1_0 24 rfl rfl
theorem dJ9_indexOfLatin1_0 : decode cJ9_indexOfLatin1 0 = .ok (.aload_n 1, 1) := dk_43 (dk_at dksJ9_indexOfLatin1_0 0 rfl rfl)
theorem dJ9_indexOfLatin1_1 : decode cJ9_indexOfLatin1 1 = .ok (.arraylength, 1) := dk_190 (dk_at dksJ9_indexOfLatin1_0 1 rfl rfl)
theorem dJ9_indexOfLatin1_2 : decode cJ9_indexOfLatin1 2 = .ok (.ifCond .ne 5, 3) := dk_154 0 5 (dk_at dksJ9_indexOfLatin1_0 2 rfl rfl)
theorem dJ9_indexOfLatin1_5 : decode cJ9_indexOfLatin1 5 = .ok (.iconst 0, 1) := dk_3 (dk_at dksJ9_indexOfLatin1_0 5 rfl rfl)
theorem dJ9_indexOfLatin1_6 : decode cJ9_indexOfLatin1 6 = .ok (.ireturn, 1) := dk_172 (dk_at dksJ9_indexOfLatin1_0 6 rfl rfl)
theorem dJ9_indexOfLatin1_7 : decode cJ9_indexOfLatin1 7 = .ok (.aload_n 0, 1) := dk_42 (dk_at dksJ9_indexOfLatin1_0 7 rfl rfl)
theorem dJ9_indexOfLatin1_8 : decode cJ9_indexOfLatin1 8 = .ok (.invokestatic 48, 3) := dk_184 0 48 (dk_at dksJ9_indexOfLatin1_0 8 rfl rfl)
theorem dJ9_indexOfLatin1_11 : decode cJ9_indexOfLatin1 11 = .ok (.aload_n 1, 1) := dk_43 (dk_at dksJ9_indexOfLatin1_0 11 rfl rfl)
theorem dJ9_indexOfLatin1_12 : decode cJ9_indexOfLatin1 12 = .ok (.arraylength, 1) := dk_190 (dk_at dksJ9_indexOfLatin1_0 12 rfl rfl)
theorem dJ9_indexOfLatin1_13 : decode cJ9_indexOfLatin1 13 = .ok (.if_icmp .ge 5, 3) := dk_162 0 5 (dk_at dksJ9_indexOfLatin1_0 13 rfl rfl)
theorem dJ9_indexOfLatin1_16 : decode cJ9_indexOfLatin1 16 = .ok (.iconst (-1), 1) := dk_2 (dk_at dksJ9_indexOfLatin1_0 16 rfl rfl)
theorem dJ9_indexOfLatin1_17 : decode cJ9_indexOfLatin1 17 = .ok (.ireturn, 1) := dk_172 (dk_at dksJ9_indexOfLatin1_0 17 rfl rfl)
theorem dJ9_indexOfLatin1_18 : decode cJ9_indexOfLatin1 18 = .ok (.aload_n 0, 1) := dk_42 (dk_at dksJ9_indexOfLatin1_0 18 rfl rfl)
theorem dJ9_indexOfLatin1_19 : decode cJ9_indexOfLatin1 19 = .ok (.aload_n 0, 1) := dk_42 (dk_at dksJ9_indexOfLatin1_0 19 rfl rfl)
theorem dJ9_indexOfLatin1_20 : decode cJ9_indexOfLatin1 20 = .ok (.invokestatic 48, 3) := dk_184 0 48 (dk_at dksJ9_indexOfLatin1_0 20 rfl rfl)
theorem dJ9_indexOfLatin1_23 : decode cJ9_indexOfLatin1 23 = .ok (.aload_n 1, 1) := dk_43 (dk_at dksJ9_indexOfLatin1_0 23 rfl rfl)
theorem dJ9_indexOfLatin1_24 : decode cJ9_indexOfLatin1 24 = .ok (.aload_n 1, 1) := dk_43 (dk_at dksJ9_indexOfLatin1_1 0 rfl rfl)
theorem dJ9_indexOfLatin1_25 : decode cJ9_indexOfLatin1 25 = .ok (.arraylength, 1) := dk_190 (dk_at dksJ9_indexOfLatin1_1 1 rfl rfl)
theorem dJ9_indexOfLatin1_26 : decode cJ9_indexOfLatin1 26 = .ok (.iconst 0, 1) := dk_3 (dk_at dksJ9_indexOfLatin1_1 2 rfl rfl)
theorem dJ9_indexOfLatin1_27 : decode cJ9_indexOfLatin1 27 = .ok (.invokestatic 238, 3) := dk_184 0 238 (dk_at dksJ9_indexOfLatin1_1 3 rfl rfl)
theorem dJ9_indexOfLatin1_30 : decode cJ9_indexOfLatin1 30 = .ok (.ireturn, 1) := dk_172 (dk_at dksJ9_indexOfLatin1_1 6 rfl rfl)
abbrev cJ9_indexOfLatin1Unsafe : ByteArray := prog_41_method_46_code
def yJ9_indexOfLatin1Unsafe : MethodName := ⟨RJ9, "indexOfLatin1Unsafe", "([BI[BII)I"⟩
def dkwJ9_indexOfLatin1Unsafe_9 : List UInt8 := [167, 255, 144, 2, 172]
abbrev dktJ9_indexOfLatin1Unsafe_9 : List UInt8 := dkwJ9_indexOfLatin1Unsafe_9 ++ []
def dkwJ9_indexOfLatin1Unsafe_8 : List UInt8 := [132, 8, 1, 132, 10, 1, 167, 255, 226, 21, 8, 21, 9, 160, 0, 6, 21, 7, 172, 132, 7, 1]
abbrev dktJ9_indexOfLatin1Unsafe_8 : List UInt8 := dkwJ9_indexOfLatin1Unsafe_8 ++ dktJ9_indexOfLatin1Unsafe_9
def dkwJ9_indexOfLatin1Unsafe_7 : List UInt8 := [21, 8, 21, 9, 162, 0, 29, 42, 21, 8, 184, 0, 71, 44, 21, 10, 51, 17, 0, 255, 126, 160, 0, 12]
abbrev dktJ9_indexOfLatin1Unsafe_7 : List UInt8 := dkwJ9_indexOfLatin1Unsafe_7 ++ dktJ9_indexOfLatin1Unsafe_8
def dkwJ9_indexOfLatin1Unsafe_6 : List UInt8 := [21, 7, 21, 6, 163, 0, 63, 21, 7, 4, 96, 54, 8, 21, 8, 29, 96, 4, 100, 54, 9, 4, 54, 10]
abbrev dktJ9_indexOfLatin1Unsafe_6 : List UInt8 := dkwJ9_indexOfLatin1Unsafe_6 ++ dktJ9_indexOfLatin1Unsafe_7
def dkwJ9_indexOfLatin1Unsafe_5 : List UInt8 := [132, 7, 1, 21, 7, 21, 6, 163, 0, 17, 42, 21, 7, 184, 0, 71, 21, 5, 159, 0, 6, 167, 255, 235]
abbrev dktJ9_indexOfLatin1Unsafe_5 : List UInt8 := dkwJ9_indexOfLatin1Unsafe_5 ++ dktJ9_indexOfLatin1Unsafe_6
def dkwJ9_indexOfLatin1Unsafe_4 : List UInt8 := [21, 4, 54, 7, 21, 7, 21, 6, 163, 0, 111, 42, 21, 7, 184, 0, 71, 21, 5, 159, 0, 27]
abbrev dktJ9_indexOfLatin1Unsafe_4 : List UInt8 := dkwJ9_indexOfLatin1Unsafe_4 ++ dktJ9_indexOfLatin1Unsafe_5
def dkwJ9_indexOfLatin1Unsafe_3 : List UInt8 := [187, 0, 52, 89, 183, 0, 66, 191, 44, 3, 51, 17, 0, 255, 126, 146, 54, 5, 27, 29, 100, 54, 6]
abbrev dktJ9_indexOfLatin1Unsafe_3 : List UInt8 := dkwJ9_indexOfLatin1Unsafe_3 ++ dktJ9_indexOfLatin1Unsafe_4
def dkwJ9_indexOfLatin1Unsafe_2 : List UInt8 := [164, 0, 11, 187, 0, 52, 89, 183, 0, 66, 191, 178, 0, 44, 154, 0, 16, 27, 29, 162, 0, 11]
abbrev dktJ9_indexOfLatin1Unsafe_2 : List UInt8 := dkwJ9_indexOfLatin1Unsafe_2 ++ dktJ9_indexOfLatin1Unsafe_3
def dkwJ9_indexOfLatin1Unsafe_1 : List UInt8 := [154, 0, 15, 29, 157, 0, 11, 187, 0, 52, 89, 183, 0, 66, 191, 178, 0, 44, 154, 0, 17, 29, 44, 190]
abbrev dktJ9_indexOfLatin1Unsafe_1 : List UInt8 := dkwJ9_indexOfLatin1Unsafe_1 ++ dktJ9_indexOfLatin1Unsafe_2
def dkwJ9_indexOfLatin1Unsafe_0 : List UInt8 := [178, 0, 44, 154, 0, 16, 21, 4, 156, 0, 11, 187, 0, 52, 89, 183, 0, 66, 191, 178, 0, 44]
abbrev dktJ9_indexOfLatin1Unsafe_0 : List UInt8 := dkwJ9_indexOfLatin1Unsafe_0 ++ dktJ9_indexOfLatin1Unsafe_1
theorem dksJ9_indexOfLatin1Unsafe_0 : cJ9_indexOfLatin1Unsafe.data.toList.drop 0 = dktJ9_indexOfLatin1Unsafe_0 := by decide +kernel
theorem dksJ9_indexOfLatin1Unsafe_1 : cJ9_indexOfLatin1Unsafe.data.toList.drop 22 = dktJ9_indexOfLatin1Unsafe_1 := dk_seg dksJ9_indexOfLatin1Unsafe_0 22 rfl rfl
theorem dksJ9_indexOfLatin1Unsafe_2 : cJ9_indexOfLatin1Unsafe.data.toList.drop 46 = dktJ9_indexOfLatin1Unsafe_2 := dk_seg dksJ9_indexOfLatin1Unsafe_1 24 rfl rfl
theorem dksJ9_indexOfLatin1Unsafe_3 : cJ9_indexOfLatin1Unsafe.data.toList.drop 68 = dktJ9_indexOfLatin1Unsafe_3 := dk_seg dksJ9_indexOfLatin1Unsafe_2 22 rfl rfl
theorem dksJ9_indexOfLatin1Unsafe_4 : cJ9_indexOfLatin1Unsafe.data.toList.drop 91 = dktJ9_indexOfLatin1Unsafe_4 := dk_seg dksJ9_indexOfLatin1Unsafe_3 23 rfl rfl
theorem dksJ9_indexOfLatin1Unsafe_5 : cJ9_indexOfLatin1Unsafe.data.toList.drop 113 = dktJ9_indexOfLatin1Unsafe_5 := dk_seg dksJ9_indexOfLatin1Unsafe_4 22 rfl rfl
theorem dksJ9_indexOfLatin1Unsafe_6 : cJ9_indexOfLatin1Unsafe.data.toList.drop 137 = dktJ9_indexOfLatin1Unsafe_6 := dk_seg dksJ9_indexOfLatin1Unsafe_5 24 rfl rfl
theorem dksJ9_indexOfLatin1Unsafe_7 : cJ9_indexOfLatin1Unsafe.data.toList.drop 161 = dktJ9_indexOfLatin1Unsafe_7 := dk_seg dksJ9_indexOfLatin1Unsafe_6 24 rfl rfl
theorem dksJ9_indexOfLatin1Unsafe_8 : cJ9_indexOfLatin1Unsafe.data.toList.drop 185 = dktJ9_indexOfLatin1Unsafe_8 := dk_seg dksJ9_indexOfLatin1Unsafe_7 24 rfl rfl
theorem dksJ9_indexOfLatin1Unsafe_9 : cJ9_indexOfLatin1Unsafe.data.toList.drop 207 = dktJ9_indexOfLatin1Unsafe_9 := dk_seg dksJ9_indexOfLatin1Unsafe_8 22 rfl rfl
theorem dJ9_indexOfLatin1Unsafe_0 : decode cJ9_indexOfLatin1Unsafe 0 = .ok (.getstatic 44, 3) := dk_178 0 44 (dk_at dksJ9_indexOfLatin1Unsafe_0 0 rfl rfl)
theorem dJ9_indexOfLatin1Unsafe_3 : decode cJ9_indexOfLatin1Unsafe 3 = .ok (.ifCond .ne 16, 3) := dk_154 0 16 (dk_at dksJ9_indexOfLatin1Unsafe_0 3 rfl rfl)
theorem dJ9_indexOfLatin1Unsafe_6 : decode cJ9_indexOfLatin1Unsafe 6 = .ok (.iload 4, 2) := dk_21 4 (dk_at dksJ9_indexOfLatin1Unsafe_0 6 rfl rfl)
theorem dJ9_indexOfLatin1Unsafe_8 : decode cJ9_indexOfLatin1Unsafe 8 = .ok (.ifCond .ge 11, 3) := dk_156 0 11 (dk_at dksJ9_indexOfLatin1Unsafe_0 8 rfl rfl)
theorem dJ9_indexOfLatin1Unsafe_11 : decode cJ9_indexOfLatin1Unsafe 11 = .ok (.new 52, 3) := dk_187 0 52 (dk_at dksJ9_indexOfLatin1Unsafe_0 11 rfl rfl)
theorem dJ9_indexOfLatin1Unsafe_14 : decode cJ9_indexOfLatin1Unsafe 14 = .ok (.dup, 1) := dk_89 (dk_at dksJ9_indexOfLatin1Unsafe_0 14 rfl rfl)
theorem dJ9_indexOfLatin1Unsafe_15 : decode cJ9_indexOfLatin1Unsafe 15 = .ok (.invokespecial 66, 3) := dk_183 0 66 (dk_at dksJ9_indexOfLatin1Unsafe_0 15 rfl rfl)
theorem dJ9_indexOfLatin1Unsafe_18 : decode cJ9_indexOfLatin1Unsafe 18 = .ok (.athrow, 1) := dk_191 (dk_at dksJ9_indexOfLatin1Unsafe_0 18 rfl rfl)
theorem dJ9_indexOfLatin1Unsafe_19 : decode cJ9_indexOfLatin1Unsafe 19 = .ok (.getstatic 44, 3) := dk_178 0 44 (dk_at dksJ9_indexOfLatin1Unsafe_0 19 rfl rfl)
theorem dJ9_indexOfLatin1Unsafe_22 : decode cJ9_indexOfLatin1Unsafe 22 = .ok (.ifCond .ne 15, 3) := dk_154 0 15 (dk_at dksJ9_indexOfLatin1Unsafe_1 0 rfl rfl)
theorem dJ9_indexOfLatin1Unsafe_25 : decode cJ9_indexOfLatin1Unsafe 25 = .ok (.iload_n 3, 1) := dk_29 (dk_at dksJ9_indexOfLatin1Unsafe_1 3 rfl rfl)
theorem dJ9_indexOfLatin1Unsafe_26 : decode cJ9_indexOfLatin1Unsafe 26 = .ok (.ifCond .gt 11, 3) := dk_157 0 11 (dk_at dksJ9_indexOfLatin1Unsafe_1 4 rfl rfl)
theorem dJ9_indexOfLatin1Unsafe_29 : decode cJ9_indexOfLatin1Unsafe 29 = .ok (.new 52, 3) := dk_187 0 52 (dk_at dksJ9_indexOfLatin1Unsafe_1 7 rfl rfl)
theorem dJ9_indexOfLatin1Unsafe_32 : decode cJ9_indexOfLatin1Unsafe 32 = .ok (.dup, 1) := dk_89 (dk_at dksJ9_indexOfLatin1Unsafe_1 10 rfl rfl)
theorem dJ9_indexOfLatin1Unsafe_33 : decode cJ9_indexOfLatin1Unsafe 33 = .ok (.invokespecial 66, 3) := dk_183 0 66 (dk_at dksJ9_indexOfLatin1Unsafe_1 11 rfl rfl)
theorem dJ9_indexOfLatin1Unsafe_36 : decode cJ9_indexOfLatin1Unsafe 36 = .ok (.athrow, 1) := dk_191 (dk_at dksJ9_indexOfLatin1Unsafe_1 14 rfl rfl)
theorem dJ9_indexOfLatin1Unsafe_37 : decode cJ9_indexOfLatin1Unsafe 37 = .ok (.getstatic 44, 3) := dk_178 0 44 (dk_at dksJ9_indexOfLatin1Unsafe_1 15 rfl rfl)
theorem dJ9_indexOfLatin1Unsafe_40 : decode cJ9_indexOfLatin1Unsafe 40 = .ok (.ifCond .ne 17, 3) := dk_154 0 17 (dk_at dksJ9_indexOfLatin1Unsafe_1 18 rfl rfl)
theorem dJ9_indexOfLatin1Unsafe_43 : decode cJ9_indexOfLatin1Unsafe 43 = .ok (.iload_n 3, 1) := dk_29 (dk_at dksJ9_indexOfLatin1Unsafe_1 21 rfl rfl)
theorem dJ9_indexOfLatin1Unsafe_44 : decode cJ9_indexOfLatin1Unsafe 44 = .ok (.aload_n 2, 1) := dk_44 (dk_at dksJ9_indexOfLatin1Unsafe_1 22 rfl rfl)
theorem dJ9_indexOfLatin1Unsafe_45 : decode cJ9_indexOfLatin1Unsafe 45 = .ok (.arraylength, 1) := dk_190 (dk_at dksJ9_indexOfLatin1Unsafe_1 23 rfl rfl)
theorem dJ9_indexOfLatin1Unsafe_46 : decode cJ9_indexOfLatin1Unsafe 46 = .ok (.if_icmp .le 11, 3) := dk_164 0 11 (dk_at dksJ9_indexOfLatin1Unsafe_2 0 rfl rfl)
theorem dJ9_indexOfLatin1Unsafe_49 : decode cJ9_indexOfLatin1Unsafe 49 = .ok (.new 52, 3) := dk_187 0 52 (dk_at dksJ9_indexOfLatin1Unsafe_2 3 rfl rfl)
theorem dJ9_indexOfLatin1Unsafe_52 : decode cJ9_indexOfLatin1Unsafe 52 = .ok (.dup, 1) := dk_89 (dk_at dksJ9_indexOfLatin1Unsafe_2 6 rfl rfl)
theorem dJ9_indexOfLatin1Unsafe_53 : decode cJ9_indexOfLatin1Unsafe 53 = .ok (.invokespecial 66, 3) := dk_183 0 66 (dk_at dksJ9_indexOfLatin1Unsafe_2 7 rfl rfl)
theorem dJ9_indexOfLatin1Unsafe_56 : decode cJ9_indexOfLatin1Unsafe 56 = .ok (.athrow, 1) := dk_191 (dk_at dksJ9_indexOfLatin1Unsafe_2 10 rfl rfl)
theorem dJ9_indexOfLatin1Unsafe_57 : decode cJ9_indexOfLatin1Unsafe 57 = .ok (.getstatic 44, 3) := dk_178 0 44 (dk_at dksJ9_indexOfLatin1Unsafe_2 11 rfl rfl)
theorem dJ9_indexOfLatin1Unsafe_60 : decode cJ9_indexOfLatin1Unsafe 60 = .ok (.ifCond .ne 16, 3) := dk_154 0 16 (dk_at dksJ9_indexOfLatin1Unsafe_2 14 rfl rfl)
theorem dJ9_indexOfLatin1Unsafe_63 : decode cJ9_indexOfLatin1Unsafe 63 = .ok (.iload_n 1, 1) := dk_27 (dk_at dksJ9_indexOfLatin1Unsafe_2 17 rfl rfl)
theorem dJ9_indexOfLatin1Unsafe_64 : decode cJ9_indexOfLatin1Unsafe 64 = .ok (.iload_n 3, 1) := dk_29 (dk_at dksJ9_indexOfLatin1Unsafe_2 18 rfl rfl)
theorem dJ9_indexOfLatin1Unsafe_65 : decode cJ9_indexOfLatin1Unsafe 65 = .ok (.if_icmp .ge 11, 3) := dk_162 0 11 (dk_at dksJ9_indexOfLatin1Unsafe_2 19 rfl rfl)
theorem dJ9_indexOfLatin1Unsafe_68 : decode cJ9_indexOfLatin1Unsafe 68 = .ok (.new 52, 3) := dk_187 0 52 (dk_at dksJ9_indexOfLatin1Unsafe_3 0 rfl rfl)
theorem dJ9_indexOfLatin1Unsafe_71 : decode cJ9_indexOfLatin1Unsafe 71 = .ok (.dup, 1) := dk_89 (dk_at dksJ9_indexOfLatin1Unsafe_3 3 rfl rfl)
theorem dJ9_indexOfLatin1Unsafe_72 : decode cJ9_indexOfLatin1Unsafe 72 = .ok (.invokespecial 66, 3) := dk_183 0 66 (dk_at dksJ9_indexOfLatin1Unsafe_3 4 rfl rfl)
theorem dJ9_indexOfLatin1Unsafe_75 : decode cJ9_indexOfLatin1Unsafe 75 = .ok (.athrow, 1) := dk_191 (dk_at dksJ9_indexOfLatin1Unsafe_3 7 rfl rfl)
theorem dJ9_indexOfLatin1Unsafe_76 : decode cJ9_indexOfLatin1Unsafe 76 = .ok (.aload_n 2, 1) := dk_44 (dk_at dksJ9_indexOfLatin1Unsafe_3 8 rfl rfl)
theorem dJ9_indexOfLatin1Unsafe_77 : decode cJ9_indexOfLatin1Unsafe 77 = .ok (.iconst 0, 1) := dk_3 (dk_at dksJ9_indexOfLatin1Unsafe_3 9 rfl rfl)
theorem dJ9_indexOfLatin1Unsafe_78 : decode cJ9_indexOfLatin1Unsafe 78 = .ok (.baload, 1) := dk_51 (dk_at dksJ9_indexOfLatin1Unsafe_3 10 rfl rfl)
theorem dJ9_indexOfLatin1Unsafe_79 : decode cJ9_indexOfLatin1Unsafe 79 = .ok (.sipush 255, 3) := dk_17 0 255 (dk_at dksJ9_indexOfLatin1Unsafe_3 11 rfl rfl)
theorem dJ9_indexOfLatin1Unsafe_82 : decode cJ9_indexOfLatin1Unsafe 82 = .ok (.iand, 1) := dk_126 (dk_at dksJ9_indexOfLatin1Unsafe_3 14 rfl rfl)
theorem dJ9_indexOfLatin1Unsafe_83 : decode cJ9_indexOfLatin1Unsafe 83 = .ok (.i2c, 1) := dk_146 (dk_at dksJ9_indexOfLatin1Unsafe_3 15 rfl rfl)
theorem dJ9_indexOfLatin1Unsafe_84 : decode cJ9_indexOfLatin1Unsafe 84 = .ok (.istore 5, 2) := dk_54 5 (dk_at dksJ9_indexOfLatin1Unsafe_3 16 rfl rfl)
theorem dJ9_indexOfLatin1Unsafe_86 : decode cJ9_indexOfLatin1Unsafe 86 = .ok (.iload_n 1, 1) := dk_27 (dk_at dksJ9_indexOfLatin1Unsafe_3 18 rfl rfl)
theorem dJ9_indexOfLatin1Unsafe_87 : decode cJ9_indexOfLatin1Unsafe 87 = .ok (.iload_n 3, 1) := dk_29 (dk_at dksJ9_indexOfLatin1Unsafe_3 19 rfl rfl)
theorem dJ9_indexOfLatin1Unsafe_88 : decode cJ9_indexOfLatin1Unsafe 88 = .ok (.isub, 1) := dk_100 (dk_at dksJ9_indexOfLatin1Unsafe_3 20 rfl rfl)
theorem dJ9_indexOfLatin1Unsafe_89 : decode cJ9_indexOfLatin1Unsafe 89 = .ok (.istore 6, 2) := dk_54 6 (dk_at dksJ9_indexOfLatin1Unsafe_3 21 rfl rfl)
theorem dJ9_indexOfLatin1Unsafe_91 : decode cJ9_indexOfLatin1Unsafe 91 = .ok (.iload 4, 2) := dk_21 4 (dk_at dksJ9_indexOfLatin1Unsafe_4 0 rfl rfl)
theorem dJ9_indexOfLatin1Unsafe_93 : decode cJ9_indexOfLatin1Unsafe 93 = .ok (.istore 7, 2) := dk_54 7 (dk_at dksJ9_indexOfLatin1Unsafe_4 2 rfl rfl)
theorem dJ9_indexOfLatin1Unsafe_95 : decode cJ9_indexOfLatin1Unsafe 95 = .ok (.iload 7, 2) := dk_21 7 (dk_at dksJ9_indexOfLatin1Unsafe_4 4 rfl rfl)
theorem dJ9_indexOfLatin1Unsafe_97 : decode cJ9_indexOfLatin1Unsafe 97 = .ok (.iload 6, 2) := dk_21 6 (dk_at dksJ9_indexOfLatin1Unsafe_4 6 rfl rfl)
theorem dJ9_indexOfLatin1Unsafe_99 : decode cJ9_indexOfLatin1Unsafe 99 = .ok (.if_icmp .gt 111, 3) := dk_163 0 111 (dk_at dksJ9_indexOfLatin1Unsafe_4 8 rfl rfl)
theorem dJ9_indexOfLatin1Unsafe_102 : decode cJ9_indexOfLatin1Unsafe 102 = .ok (.aload_n 0, 1) := dk_42 (dk_at dksJ9_indexOfLatin1Unsafe_4 11 rfl rfl)
theorem dJ9_indexOfLatin1Unsafe_103 : decode cJ9_indexOfLatin1Unsafe 103 = .ok (.iload 7, 2) := dk_21 7 (dk_at dksJ9_indexOfLatin1Unsafe_4 12 rfl rfl)
theorem dJ9_indexOfLatin1Unsafe_105 : decode cJ9_indexOfLatin1Unsafe 105 = .ok (.invokestatic 71, 3) := dk_184 0 71 (dk_at dksJ9_indexOfLatin1Unsafe_4 14 rfl rfl)
theorem dJ9_indexOfLatin1Unsafe_108 : decode cJ9_indexOfLatin1Unsafe 108 = .ok (.iload 5, 2) := dk_21 5 (dk_at dksJ9_indexOfLatin1Unsafe_4 17 rfl rfl)
theorem dJ9_indexOfLatin1Unsafe_110 : decode cJ9_indexOfLatin1Unsafe 110 = .ok (.if_icmp .eq 27, 3) := dk_159 0 27 (dk_at dksJ9_indexOfLatin1Unsafe_4 19 rfl rfl)
theorem dJ9_indexOfLatin1Unsafe_113 : decode cJ9_indexOfLatin1Unsafe 113 = .ok (.iinc 7 1, 3) := dk_132 7 1 (dk_at dksJ9_indexOfLatin1Unsafe_5 0 rfl rfl)
theorem dJ9_indexOfLatin1Unsafe_116 : decode cJ9_indexOfLatin1Unsafe 116 = .ok (.iload 7, 2) := dk_21 7 (dk_at dksJ9_indexOfLatin1Unsafe_5 3 rfl rfl)
theorem dJ9_indexOfLatin1Unsafe_118 : decode cJ9_indexOfLatin1Unsafe 118 = .ok (.iload 6, 2) := dk_21 6 (dk_at dksJ9_indexOfLatin1Unsafe_5 5 rfl rfl)
theorem dJ9_indexOfLatin1Unsafe_120 : decode cJ9_indexOfLatin1Unsafe 120 = .ok (.if_icmp .gt 17, 3) := dk_163 0 17 (dk_at dksJ9_indexOfLatin1Unsafe_5 7 rfl rfl)
theorem dJ9_indexOfLatin1Unsafe_123 : decode cJ9_indexOfLatin1Unsafe 123 = .ok (.aload_n 0, 1) := dk_42 (dk_at dksJ9_indexOfLatin1Unsafe_5 10 rfl rfl)
theorem dJ9_indexOfLatin1Unsafe_124 : decode cJ9_indexOfLatin1Unsafe 124 = .ok (.iload 7, 2) := dk_21 7 (dk_at dksJ9_indexOfLatin1Unsafe_5 11 rfl rfl)
theorem dJ9_indexOfLatin1Unsafe_126 : decode cJ9_indexOfLatin1Unsafe 126 = .ok (.invokestatic 71, 3) := dk_184 0 71 (dk_at dksJ9_indexOfLatin1Unsafe_5 13 rfl rfl)
theorem dJ9_indexOfLatin1Unsafe_129 : decode cJ9_indexOfLatin1Unsafe 129 = .ok (.iload 5, 2) := dk_21 5 (dk_at dksJ9_indexOfLatin1Unsafe_5 16 rfl rfl)
theorem dJ9_indexOfLatin1Unsafe_131 : decode cJ9_indexOfLatin1Unsafe 131 = .ok (.if_icmp .eq 6, 3) := dk_159 0 6 (dk_at dksJ9_indexOfLatin1Unsafe_5 18 rfl rfl)
theorem dJ9_indexOfLatin1Unsafe_134 : decode cJ9_indexOfLatin1Unsafe 134 = .ok (.goto (-21), 3) := dk_167 255 235 (dk_at dksJ9_indexOfLatin1Unsafe_5 21 rfl rfl)
theorem dJ9_indexOfLatin1Unsafe_137 : decode cJ9_indexOfLatin1Unsafe 137 = .ok (.iload 7, 2) := dk_21 7 (dk_at dksJ9_indexOfLatin1Unsafe_6 0 rfl rfl)
theorem dJ9_indexOfLatin1Unsafe_139 : decode cJ9_indexOfLatin1Unsafe 139 = .ok (.iload 6, 2) := dk_21 6 (dk_at dksJ9_indexOfLatin1Unsafe_6 2 rfl rfl)
theorem dJ9_indexOfLatin1Unsafe_141 : decode cJ9_indexOfLatin1Unsafe 141 = .ok (.if_icmp .gt 63, 3) := dk_163 0 63 (dk_at dksJ9_indexOfLatin1Unsafe_6 4 rfl rfl)
theorem dJ9_indexOfLatin1Unsafe_144 : decode cJ9_indexOfLatin1Unsafe 144 = .ok (.iload 7, 2) := dk_21 7 (dk_at dksJ9_indexOfLatin1Unsafe_6 7 rfl rfl)
theorem dJ9_indexOfLatin1Unsafe_146 : decode cJ9_indexOfLatin1Unsafe 146 = .ok (.iconst 1, 1) := dk_4 (dk_at dksJ9_indexOfLatin1Unsafe_6 9 rfl rfl)
theorem dJ9_indexOfLatin1Unsafe_147 : decode cJ9_indexOfLatin1Unsafe 147 = .ok (.iadd, 1) := dk_96 (dk_at dksJ9_indexOfLatin1Unsafe_6 10 rfl rfl)
theorem dJ9_indexOfLatin1Unsafe_148 : decode cJ9_indexOfLatin1Unsafe 148 = .ok (.istore 8, 2) := dk_54 8 (dk_at dksJ9_indexOfLatin1Unsafe_6 11 rfl rfl)
theorem dJ9_indexOfLatin1Unsafe_150 : decode cJ9_indexOfLatin1Unsafe 150 = .ok (.iload 8, 2) := dk_21 8 (dk_at dksJ9_indexOfLatin1Unsafe_6 13 rfl rfl)
theorem dJ9_indexOfLatin1Unsafe_152 : decode cJ9_indexOfLatin1Unsafe 152 = .ok (.iload_n 3, 1) := dk_29 (dk_at dksJ9_indexOfLatin1Unsafe_6 15 rfl rfl)
theorem dJ9_indexOfLatin1Unsafe_153 : decode cJ9_indexOfLatin1Unsafe 153 = .ok (.iadd, 1) := dk_96 (dk_at dksJ9_indexOfLatin1Unsafe_6 16 rfl rfl)
theorem dJ9_indexOfLatin1Unsafe_154 : decode cJ9_indexOfLatin1Unsafe 154 = .ok (.iconst 1, 1) := dk_4 (dk_at dksJ9_indexOfLatin1Unsafe_6 17 rfl rfl)
theorem dJ9_indexOfLatin1Unsafe_155 : decode cJ9_indexOfLatin1Unsafe 155 = .ok (.isub, 1) := dk_100 (dk_at dksJ9_indexOfLatin1Unsafe_6 18 rfl rfl)
theorem dJ9_indexOfLatin1Unsafe_156 : decode cJ9_indexOfLatin1Unsafe 156 = .ok (.istore 9, 2) := dk_54 9 (dk_at dksJ9_indexOfLatin1Unsafe_6 19 rfl rfl)
theorem dJ9_indexOfLatin1Unsafe_158 : decode cJ9_indexOfLatin1Unsafe 158 = .ok (.iconst 1, 1) := dk_4 (dk_at dksJ9_indexOfLatin1Unsafe_6 21 rfl rfl)
theorem dJ9_indexOfLatin1Unsafe_159 : decode cJ9_indexOfLatin1Unsafe 159 = .ok (.istore 10, 2) := dk_54 10 (dk_at dksJ9_indexOfLatin1Unsafe_6 22 rfl rfl)
theorem dJ9_indexOfLatin1Unsafe_161 : decode cJ9_indexOfLatin1Unsafe 161 = .ok (.iload 8, 2) := dk_21 8 (dk_at dksJ9_indexOfLatin1Unsafe_7 0 rfl rfl)
theorem dJ9_indexOfLatin1Unsafe_163 : decode cJ9_indexOfLatin1Unsafe 163 = .ok (.iload 9, 2) := dk_21 9 (dk_at dksJ9_indexOfLatin1Unsafe_7 2 rfl rfl)
theorem dJ9_indexOfLatin1Unsafe_165 : decode cJ9_indexOfLatin1Unsafe 165 = .ok (.if_icmp .ge 29, 3) := dk_162 0 29 (dk_at dksJ9_indexOfLatin1Unsafe_7 4 rfl rfl)
theorem dJ9_indexOfLatin1Unsafe_168 : decode cJ9_indexOfLatin1Unsafe 168 = .ok (.aload_n 0, 1) := dk_42 (dk_at dksJ9_indexOfLatin1Unsafe_7 7 rfl rfl)
theorem dJ9_indexOfLatin1Unsafe_169 : decode cJ9_indexOfLatin1Unsafe 169 = .ok (.iload 8, 2) := dk_21 8 (dk_at dksJ9_indexOfLatin1Unsafe_7 8 rfl rfl)
theorem dJ9_indexOfLatin1Unsafe_171 : decode cJ9_indexOfLatin1Unsafe 171 = .ok (.invokestatic 71, 3) := dk_184 0 71 (dk_at dksJ9_indexOfLatin1Unsafe_7 10 rfl rfl)
theorem dJ9_indexOfLatin1Unsafe_174 : decode cJ9_indexOfLatin1Unsafe 174 = .ok (.aload_n 2, 1) := dk_44 (dk_at dksJ9_indexOfLatin1Unsafe_7 13 rfl rfl)
theorem dJ9_indexOfLatin1Unsafe_175 : decode cJ9_indexOfLatin1Unsafe 175 = .ok (.iload 10, 2) := dk_21 10 (dk_at dksJ9_indexOfLatin1Unsafe_7 14 rfl rfl)
theorem dJ9_indexOfLatin1Unsafe_177 : decode cJ9_indexOfLatin1Unsafe 177 = .ok (.baload, 1) := dk_51 (dk_at dksJ9_indexOfLatin1Unsafe_7 16 rfl rfl)
theorem dJ9_indexOfLatin1Unsafe_178 : decode cJ9_indexOfLatin1Unsafe 178 = .ok (.sipush 255, 3) := dk_17 0 255 (dk_at dksJ9_indexOfLatin1Unsafe_7 17 rfl rfl)
theorem dJ9_indexOfLatin1Unsafe_181 : decode cJ9_indexOfLatin1Unsafe 181 = .ok (.iand, 1) := dk_126 (dk_at dksJ9_indexOfLatin1Unsafe_7 20 rfl rfl)
theorem dJ9_indexOfLatin1Unsafe_182 : decode cJ9_indexOfLatin1Unsafe 182 = .ok (.if_icmp .ne 12, 3) := dk_160 0 12 (dk_at dksJ9_indexOfLatin1Unsafe_7 21 rfl rfl)
theorem dJ9_indexOfLatin1Unsafe_185 : decode cJ9_indexOfLatin1Unsafe 185 = .ok (.iinc 8 1, 3) := dk_132 8 1 (dk_at dksJ9_indexOfLatin1Unsafe_8 0 rfl rfl)
theorem dJ9_indexOfLatin1Unsafe_188 : decode cJ9_indexOfLatin1Unsafe 188 = .ok (.iinc 10 1, 3) := dk_132 10 1 (dk_at dksJ9_indexOfLatin1Unsafe_8 3 rfl rfl)
theorem dJ9_indexOfLatin1Unsafe_191 : decode cJ9_indexOfLatin1Unsafe 191 = .ok (.goto (-30), 3) := dk_167 255 226 (dk_at dksJ9_indexOfLatin1Unsafe_8 6 rfl rfl)
theorem dJ9_indexOfLatin1Unsafe_194 : decode cJ9_indexOfLatin1Unsafe 194 = .ok (.iload 8, 2) := dk_21 8 (dk_at dksJ9_indexOfLatin1Unsafe_8 9 rfl rfl)
theorem dJ9_indexOfLatin1Unsafe_196 : decode cJ9_indexOfLatin1Unsafe 196 = .ok (.iload 9, 2) := dk_21 9 (dk_at dksJ9_indexOfLatin1Unsafe_8 11 rfl rfl)
theorem dJ9_indexOfLatin1Unsafe_198 : decode cJ9_indexOfLatin1Unsafe 198 = .ok (.if_icmp .ne 6, 3) := dk_160 0 6 (dk_at dksJ9_indexOfLatin1Unsafe_8 13 rfl rfl)
theorem dJ9_indexOfLatin1Unsafe_201 : decode cJ9_indexOfLatin1Unsafe 201 = .ok (.iload 7, 2) := dk_21 7 (dk_at dksJ9_indexOfLatin1Unsafe_8 16 rfl rfl)
theorem dJ9_indexOfLatin1Unsafe_203 : decode cJ9_indexOfLatin1Unsafe 203 = .ok (.ireturn, 1) := dk_172 (dk_at dksJ9_indexOfLatin1Unsafe_8 18 rfl rfl)
theorem dJ9_indexOfLatin1Unsafe_204 : decode cJ9_indexOfLatin1Unsafe 204 = .ok (.iinc 7 1, 3) := dk_132 7 1 (dk_at dksJ9_indexOfLatin1Unsafe_8 19 rfl rfl)
theorem dJ9_indexOfLatin1Unsafe_207 : decode cJ9_indexOfLatin1Unsafe 207 = .ok (.goto (-112), 3) := dk_167 255 144 (dk_at dksJ9_indexOfLatin1Unsafe_9 0 rfl rfl)
theorem dJ9_indexOfLatin1Unsafe_210 : decode cJ9_indexOfLatin1Unsafe 210 = .ok (.iconst (-1), 1) := dk_2 (dk_at dksJ9_indexOfLatin1Unsafe_9 3 rfl rfl)
theorem dJ9_indexOfLatin1Unsafe_211 : decode cJ9_indexOfLatin1Unsafe 211 = .ok (.ireturn, 1) := dk_172 (dk_at dksJ9_indexOfLatin1Unsafe_9 4 rfl rfl)
theorem q125 : (Jvm.Cond.initialized "java/lang/StringUTF16") ∈ lw_all := lw_g (lw_at lw_m1 17 rfl) rfl
theorem q560 : (Jvm.Cond.static ({ cls := "java/lang/StringUTF16", name := "newBytesFor", desc := "(I)[B" } : Jvm.MethodName)) ∈ lw_all := lw_g (lw_at lw_m2 212 rfl) rfl
theorem q561 : (Jvm.Cond.code ({ cls := "java/lang/StringUTF16", name := "newBytesFor", desc := "(I)[B" } : Jvm.MethodName) prog_41_method_2_code (1 : Nat) (Option.some (Jvm.ClassFile.FieldType.array Jvm.ClassFile.FieldType.byte))) ∈ lw_all := lw_g (lw_at lw_m2 213 rfl) rfl
theorem q562 : (Jvm.Cond.methodLink "java/lang/StringUTF16" (11 : Nat) ({ cls := "java/lang/StringUTF16", name := "newBytesLength", desc := "(I)I" } : Jvm.MethodName)) ∈ lw_all := lw_g (lw_at lw_m2 214 rfl) rfl
theorem q563 : (Jvm.Cond.static ({ cls := "java/lang/StringUTF16", name := "newBytesLength", desc := "(I)I" } : Jvm.MethodName)) ∈ lw_all := lw_g (lw_at lw_m2 215 rfl) rfl
theorem q564 : (Jvm.Cond.code ({ cls := "java/lang/StringUTF16", name := "newBytesLength", desc := "(I)I" } : Jvm.MethodName) prog_41_method_3_code (1 : Nat) (Option.some Jvm.ClassFile.FieldType.int)) ∈ lw_all := lw_g (lw_at lw_m2 216 rfl) rfl
theorem q565 : (Jvm.Cond.constant "java/lang/StringUTF16" (20 : Nat) (1073741823 : Int32)) ∈ lw_all := lw_g (lw_at lw_m2 217 rfl) rfl
theorem q637 : (Jvm.Cond.static ({ cls := "java/lang/StringUTF16", name := "inflate", desc := "([BI[BII)V" } : Jvm.MethodName)) ∈ lw_all := lw_g (lw_at lw_m3 49 rfl) rfl
theorem q638 : (Jvm.Cond.code ({ cls := "java/lang/StringUTF16", name := "inflate", desc := "([BI[BII)V" } : Jvm.MethodName) prog_41_method_86_code (6 : Nat) (Option.none : Option Jvm.ClassFile.FieldType)) ∈ lw_all := lw_g (lw_at lw_m3 50 rfl) rfl
theorem q639 : (Jvm.Cond.methodLink "java/lang/StringUTF16" (173 : Nat) ({ cls := "java/lang/StringUTF16", name := "checkBoundsOffCount", desc := "(II[B)V" } : Jvm.MethodName)) ∈ lw_all := lw_g (lw_at lw_m3 51 rfl) rfl
theorem q640 : (Jvm.Cond.static ({ cls := "java/lang/StringUTF16", name := "checkBoundsOffCount", desc := "(II[B)V" } : Jvm.MethodName)) ∈ lw_all := lw_g (lw_at lw_m3 52 rfl) rfl
theorem q641 : (Jvm.Cond.code ({ cls := "java/lang/StringUTF16", name := "checkBoundsOffCount", desc := "(II[B)V" } : Jvm.MethodName) prog_41_method_94_code (3 : Nat) (Option.none : Option Jvm.ClassFile.FieldType)) ∈ lw_all := lw_g (lw_at lw_m3 53 rfl) rfl
theorem q642 : (Jvm.Cond.methodLink "java/lang/StringUTF16" (48 : Nat) ({ cls := "java/lang/StringUTF16", name := "length", desc := "([B)I" } : Jvm.MethodName)) ∈ lw_all := lw_g (lw_at lw_m3 54 rfl) rfl
theorem q643 : (Jvm.Cond.static ({ cls := "java/lang/StringUTF16", name := "length", desc := "([B)I" } : Jvm.MethodName)) ∈ lw_all := lw_g (lw_at lw_m3 55 rfl) rfl
theorem q644 : (Jvm.Cond.code ({ cls := "java/lang/StringUTF16", name := "length", desc := "([B)I" } : Jvm.MethodName) prog_41_method_6_code (1 : Nat) (Option.some Jvm.ClassFile.FieldType.int)) ∈ lw_all := lw_g (lw_at lw_m3 56 rfl) rfl
theorem q645 : (Jvm.Cond.methodLink "java/lang/StringUTF16" (419 : Nat) ({ cls := "java/lang/String", name := "checkBoundsOffCount", desc := "(III)I" } : Jvm.MethodName)) ∈ lw_all := lw_g (lw_at lw_m3 57 rfl) rfl
theorem q653 : (Jvm.Cond.methodLink "java/lang/StringUTF16" (111 : Nat) ({ cls := "java/lang/StringUTF16", name := "putChar", desc := "([BII)V" } : Jvm.MethodName)) ∈ lw_all := lw_g (lw_at lw_m3 65 rfl) rfl
theorem q654 : (Jvm.Cond.static ({ cls := "java/lang/StringUTF16", name := "putChar", desc := "([BII)V" } : Jvm.MethodName)) ∈ lw_all := lw_g (lw_at lw_m3 66 rfl) rfl
theorem q655 : (Jvm.Cond.code ({ cls := "java/lang/StringUTF16", name := "putChar", desc := "([BII)V" } : Jvm.MethodName) prog_41_method_4_code (3 : Nat) (Option.none : Option Jvm.ClassFile.FieldType)) ∈ lw_all := lw_g (lw_at lw_m3 67 rfl) rfl
theorem q656 : (Jvm.Cond.fieldLink "java/lang/StringUTF16" (44 : Nat) "java/lang/StringUTF16" "$assertionsDisabled" "Z") ∈ lw_all := lw_g (lw_at lw_m3 68 rfl) rfl
theorem q657 : (Jvm.Cond.laysStatic "java/lang/StringUTF16" "$assertionsDisabled" "Z") ∈ lw_tbl := lw_at lw_m3 69 rfl
theorem q658 : (Jvm.Cond.fieldLink "java/lang/StringUTF16" (59 : Nat) "java/lang/StringUTF16" "HI_BYTE_SHIFT" "I") ∈ lw_all := lw_g (lw_at lw_m3 70 rfl) rfl
theorem q659 : (Jvm.Cond.laysStatic "java/lang/StringUTF16" "HI_BYTE_SHIFT" "I") ∈ lw_tbl := lw_at lw_m3 71 rfl
theorem q660 : (Jvm.Cond.fieldLink "java/lang/StringUTF16" (63 : Nat) "java/lang/StringUTF16" "LO_BYTE_SHIFT" "I") ∈ lw_all := lw_g (lw_at lw_m3 72 rfl) rfl
theorem q661 : (Jvm.Cond.laysStatic "java/lang/StringUTF16" "LO_BYTE_SHIFT" "I") ∈ lw_tbl := lw_at lw_m3 73 rfl
theorem q663 : (Jvm.Cond.static ({ cls := "java/lang/StringUTF16", name := "putCharSB", desc := "([BII)V" } : Jvm.MethodName)) ∈ lw_all := lw_g (lw_at lw_m3 75 rfl) rfl
theorem q664 : (Jvm.Cond.code ({ cls := "java/lang/StringUTF16", name := "putCharSB", desc := "([BII)V" } : Jvm.MethodName) prog_41_method_71_code (3 : Nat) (Option.none : Option Jvm.ClassFile.FieldType)) ∈ lw_all := lw_g (lw_at lw_m3 76 rfl) rfl
theorem q665 : (Jvm.Cond.methodLink "java/lang/StringUTF16" (67 : Nat) ({ cls := "java/lang/StringUTF16", name := "checkIndex", desc := "(I[B)V" } : Jvm.MethodName)) ∈ lw_all := lw_g (lw_at lw_m3 77 rfl) rfl
theorem q666 : (Jvm.Cond.static ({ cls := "java/lang/StringUTF16", name := "checkIndex", desc := "(I[B)V" } : Jvm.MethodName)) ∈ lw_all := lw_g (lw_at lw_m3 78 rfl) rfl
theorem q667 : (Jvm.Cond.code ({ cls := "java/lang/StringUTF16", name := "checkIndex", desc := "(I[B)V" } : Jvm.MethodName) prog_41_method_91_code (2 : Nat) (Option.none : Option Jvm.ClassFile.FieldType)) ∈ lw_all := lw_g (lw_at lw_m3 79 rfl) rfl
theorem q668 : (Jvm.Cond.methodLink "java/lang/StringUTF16" (414 : Nat) ({ cls := "java/lang/String", name := "checkIndex", desc := "(II)V" } : Jvm.MethodName)) ∈ lw_all := lw_g (lw_at lw_m3 80 rfl) rfl
theorem q710 : (Jvm.Cond.static ({ cls := "java/lang/StringUTF16", name := "compress", desc := "([BII)[B" } : Jvm.MethodName)) ∈ lw_all := lw_g (lw_at lw_m3 122 rfl) rfl
theorem q711 : (Jvm.Cond.code ({ cls := "java/lang/StringUTF16", name := "compress", desc := "([BII)[B" } : Jvm.MethodName) prog_41_method_17_code (6 : Nat) (Option.some (Jvm.ClassFile.FieldType.array Jvm.ClassFile.FieldType.byte))) ∈ lw_all := lw_g (lw_at lw_m3 123 rfl) rfl
theorem q712 : (Jvm.Cond.methodLink "java/lang/StringUTF16" (123 : Nat) ({ cls := "java/lang/StringUTF16", name := "compress", desc := "([BI[BII)I" } : Jvm.MethodName)) ∈ lw_all := lw_g (lw_at lw_m3 124 rfl) rfl
theorem q713 : (Jvm.Cond.static ({ cls := "java/lang/StringUTF16", name := "compress", desc := "([BI[BII)I" } : Jvm.MethodName)) ∈ lw_all := lw_g (lw_at lw_m3 125 rfl) rfl
theorem q714 : (Jvm.Cond.code ({ cls := "java/lang/StringUTF16", name := "compress", desc := "([BI[BII)I" } : Jvm.MethodName) prog_41_method_22_code (7 : Nat) (Option.some Jvm.ClassFile.FieldType.int)) ∈ lw_all := lw_g (lw_at lw_m3 126 rfl) rfl
theorem q715 : (Jvm.Cond.methodLink "java/lang/StringUTF16" (71 : Nat) ({ cls := "java/lang/StringUTF16", name := "getChar", desc := "([BI)C" } : Jvm.MethodName)) ∈ lw_all := lw_g (lw_at lw_m3 127 rfl) rfl
theorem q716 : (Jvm.Cond.static ({ cls := "java/lang/StringUTF16", name := "getChar", desc := "([BI)C" } : Jvm.MethodName)) ∈ lw_all := lw_g (lw_at lw_m3 128 rfl) rfl
theorem q717 : (Jvm.Cond.code ({ cls := "java/lang/StringUTF16", name := "getChar", desc := "([BI)C" } : Jvm.MethodName) prog_41_method_5_code (2 : Nat) (Option.some Jvm.ClassFile.FieldType.char)) ∈ lw_all := lw_g (lw_at lw_m3 129 rfl) rfl
theorem q718 : (Jvm.Cond.methodLink "java/lang/StringUTF16" (126 : Nat) ({ cls := "java/util/Arrays", name := "copyOfRange", desc := "([BII)[B" } : Jvm.MethodName)) ∈ lw_all := lw_g (lw_at lw_m3 130 rfl) rfl
theorem q720 : (Jvm.Cond.static ({ cls := "java/lang/StringUTF16", name := "coderFromArrayLen", desc := "([BI)B" } : Jvm.MethodName)) ∈ lw_all := lw_g (lw_at lw_m3 132 rfl) rfl
theorem q721 : (Jvm.Cond.code ({ cls := "java/lang/StringUTF16", name := "coderFromArrayLen", desc := "([BI)B" } : Jvm.MethodName) prog_41_method_15_code (2 : Nat) (Option.some Jvm.ClassFile.FieldType.byte)) ∈ lw_all := lw_g (lw_at lw_m3 133 rfl) rfl
theorem q872 : (Jvm.Cond.static ({ cls := "java/lang/StringUTF16", name := "putCharsAt", desc := "([BICCCC)I" } : Jvm.MethodName)) ∈ lw_all := lw_g (lw_at lw_m4 44 rfl) rfl
theorem q873 : (Jvm.Cond.code ({ cls := "java/lang/StringUTF16", name := "putCharsAt", desc := "([BICCCC)I" } : Jvm.MethodName) prog_41_method_81_code (7 : Nat) (Option.some Jvm.ClassFile.FieldType.int)) ∈ lw_all := lw_g (lw_at lw_m4 45 rfl) rfl
theorem q874 : (Jvm.Cond.methodLink "java/lang/StringUTF16" (96 : Nat) ({ cls := "java/lang/StringUTF16", name := "checkBoundsBeginEnd", desc := "(II[B)V" } : Jvm.MethodName)) ∈ lw_all := lw_g (lw_at lw_m4 46 rfl) rfl
theorem q875 : (Jvm.Cond.static ({ cls := "java/lang/StringUTF16", name := "checkBoundsBeginEnd", desc := "(II[B)V" } : Jvm.MethodName)) ∈ lw_all := lw_g (lw_at lw_m4 47 rfl) rfl
theorem q876 : (Jvm.Cond.code ({ cls := "java/lang/StringUTF16", name := "checkBoundsBeginEnd", desc := "(II[B)V" } : Jvm.MethodName) prog_41_method_93_code (3 : Nat) (Option.none : Option Jvm.ClassFile.FieldType)) ∈ lw_all := lw_g (lw_at lw_m4 48 rfl) rfl
theorem q877 : (Jvm.Cond.methodLink "java/lang/StringUTF16" (241 : Nat) ({ cls := "java/lang/String", name := "checkBoundsBeginEnd", desc := "(III)V" } : Jvm.MethodName)) ∈ lw_all := lw_g (lw_at lw_m4 49 rfl) rfl
theorem q921 : (Jvm.Cond.static ({ cls := "java/lang/StringUTF16", name := "indexOf", desc := "([B[B)I" } : Jvm.MethodName)) ∈ lw_all := lw_g (lw_at lw_m4 93 rfl) rfl
theorem q922 : (Jvm.Cond.code ({ cls := "java/lang/StringUTF16", name := "indexOf", desc := "([B[B)I" } : Jvm.MethodName) prog_41_method_41_code (2 : Nat) (Option.some Jvm.ClassFile.FieldType.int)) ∈ lw_all := lw_g (lw_at lw_m4 94 rfl) rfl
theorem q923 : (Jvm.Cond.methodLink "java/lang/StringUTF16" (235 : Nat) ({ cls := "java/lang/StringUTF16", name := "indexOfUnsafe", desc := "([BI[BII)I" } : Jvm.MethodName)) ∈ lw_all := lw_g (lw_at lw_m4 95 rfl) rfl
theorem q924 : (Jvm.Cond.static ({ cls := "java/lang/StringUTF16", name := "indexOfUnsafe", desc := "([BI[BII)I" } : Jvm.MethodName)) ∈ lw_all := lw_g (lw_at lw_m4 96 rfl) rfl
theorem q925 : (Jvm.Cond.code ({ cls := "java/lang/StringUTF16", name := "indexOfUnsafe", desc := "([BI[BII)I" } : Jvm.MethodName) prog_41_method_43_code (11 : Nat) (Option.some Jvm.ClassFile.FieldType.int)) ∈ lw_all := lw_g (lw_at lw_m4 97 rfl) rfl
theorem q927 : (Jvm.Cond.static ({ cls := "java/lang/StringUTF16", name := "indexOfLatin1", desc := "([B[B)I" } : Jvm.MethodName)) ∈ lw_all := lw_g (lw_at lw_m4 99 rfl) rfl
theorem q928 : (Jvm.Cond.code ({ cls := "java/lang/StringUTF16", name := "indexOfLatin1", desc := "([B[B)I" } : Jvm.MethodName) prog_41_method_44_code (2 : Nat) (Option.some Jvm.ClassFile.FieldType.int)) ∈ lw_all := lw_g (lw_at lw_m4 100 rfl) rfl
theorem q929 : (Jvm.Cond.methodLink "java/lang/StringUTF16" (238 : Nat) ({ cls := "java/lang/StringUTF16", name := "indexOfLatin1Unsafe", desc := "([BI[BII)I" } : Jvm.MethodName)) ∈ lw_all := lw_g (lw_at lw_m4 101 rfl) rfl
theorem q930 : (Jvm.Cond.static ({ cls := "java/lang/StringUTF16", name := "indexOfLatin1Unsafe", desc := "([BI[BII)I" } : Jvm.MethodName)) ∈ lw_all := lw_g (lw_at lw_m4 102 rfl) rfl
theorem q931 : (Jvm.Cond.code ({ cls := "java/lang/StringUTF16", name := "indexOfLatin1Unsafe", desc := "([BI[BII)I" } : Jvm.MethodName) prog_41_method_46_code (11 : Nat) (Option.some Jvm.ClassFile.FieldType.int)) ∈ lw_all := lw_g (lw_at lw_m4 103 rfl) rfl

/-! jdk/internal/util/ArraysSupport -/
set_option maxRecDepth 100000
abbrev cJ10_newLength : ByteArray := prog_56_method_27_code
def yJ10_newLength : MethodName := ⟨RJ10, "newLength", "(III)I"⟩
def dkwJ10_newLength_1 : List UInt8 := [184, 0, 201, 172]
abbrev dktJ10_newLength_1 : List UInt8 := dkwJ10_newLength_1 ++ []
def dkwJ10_newLength_0 : List UInt8 := [26, 27, 28, 184, 0, 194, 96, 62, 3, 29, 162, 0, 11, 29, 18, 200, 163, 0, 5, 29, 172, 26, 27]
abbrev dktJ10_newLength_0 : List UInt8 := dkwJ10_newLength_0 ++ dktJ10_newLength_1
theorem dksJ10_newLength_0 : cJ10_newLength.data.toList.drop 0 = dktJ10_newLength_0 := by decide +kernel
theorem dksJ10_newLength_1 : cJ10_newLength.data.toList.drop 23 = dktJ10_newLength_1 := dk_seg dksJ10_newLength_0 23 rfl rfl
theorem dJ10_newLength_0 : decode cJ10_newLength 0 = .ok (.iload_n 0, 1) := dk_26 (dk_at dksJ10_newLength_0 0 rfl rfl)
theorem dJ10_newLength_1 : decode cJ10_newLength 1 = .ok (.iload_n 1, 1) := dk_27 (dk_at dksJ10_newLength_0 1 rfl rfl)
theorem dJ10_newLength_2 : decode cJ10_newLength 2 = .ok (.iload_n 2, 1) := dk_28 (dk_at dksJ10_newLength_0 2 rfl rfl)
theorem dJ10_newLength_3 : decode cJ10_newLength 3 = .ok (.invokestatic 194, 3) := dk_184 0 194 (dk_at dksJ10_newLength_0 3 rfl rfl)
theorem dJ10_newLength_6 : decode cJ10_newLength 6 = .ok (.iadd, 1) := dk_96 (dk_at dksJ10_newLength_0 6 rfl rfl)
theorem dJ10_newLength_7 : decode cJ10_newLength 7 = .ok (.istore_n 3, 1) := dk_62 (dk_at dksJ10_newLength_0 7 rfl rfl)
theorem dJ10_newLength_8 : decode cJ10_newLength 8 = .ok (.iconst 0, 1) := dk_3 (dk_at dksJ10_newLength_0 8 rfl rfl)
theorem dJ10_newLength_9 : decode cJ10_newLength 9 = .ok (.iload_n 3, 1) := dk_29 (dk_at dksJ10_newLength_0 9 rfl rfl)
theorem dJ10_newLength_10 : decode cJ10_newLength 10 = .ok (.if_icmp .ge 11, 3) := dk_162 0 11 (dk_at dksJ10_newLength_0 10 rfl rfl)
theorem dJ10_newLength_13 : decode cJ10_newLength 13 = .ok (.iload_n 3, 1) := dk_29 (dk_at dksJ10_newLength_0 13 rfl rfl)
theorem dJ10_newLength_14 : decode cJ10_newLength 14 = .ok (.ldc 200, 2) := dk_18 200 (dk_at dksJ10_newLength_0 14 rfl rfl)
theorem dJ10_newLength_16 : decode cJ10_newLength 16 = .ok (.if_icmp .gt 5, 3) := dk_163 0 5 (dk_at dksJ10_newLength_0 16 rfl rfl)
theorem dJ10_newLength_19 : decode cJ10_newLength 19 = .ok (.iload_n 3, 1) := dk_29 (dk_at dksJ10_newLength_0 19 rfl rfl)
theorem dJ10_newLength_20 : decode cJ10_newLength 20 = .ok (.ireturn, 1) := dk_172 (dk_at dksJ10_newLength_0 20 rfl rfl)
theorem dJ10_newLength_21 : decode cJ10_newLength 21 = .ok (.iload_n 0, 1) := dk_26 (dk_at dksJ10_newLength_0 21 rfl rfl)
theorem dJ10_newLength_22 : decode cJ10_newLength 22 = .ok (.iload_n 1, 1) := dk_27 (dk_at dksJ10_newLength_0 22 rfl rfl)
theorem dJ10_newLength_23 : decode cJ10_newLength 23 = .ok (.invokestatic 201, 3) := dk_184 0 201 (dk_at dksJ10_newLength_1 0 rfl rfl)
theorem dJ10_newLength_26 : decode cJ10_newLength 26 = .ok (.ireturn, 1) := dk_172 (dk_at dksJ10_newLength_1 3 rfl rfl)
abbrev cJ10_hugeLength : ByteArray := prog_56_method_28_code
def yJ10_hugeLength : MethodName := ⟨RJ10, "hugeLength", "(II)I"⟩
def dkwJ10_hugeLength_2 : List UInt8 := [191, 28, 18, 200, 163, 0, 6, 18, 200, 172, 28, 172]
abbrev dktJ10_hugeLength_2 : List UInt8 := dkwJ10_hugeLength_2 ++ []
def dkwJ10_hugeLength_1 : List UInt8 := [26, 182, 0, 98, 18, 208, 182, 0, 94, 27, 182, 0, 98, 18, 210, 182, 0, 94, 182, 0, 101, 183, 0, 212]
abbrev dktJ10_hugeLength_1 : List UInt8 := dkwJ10_hugeLength_1 ++ dktJ10_hugeLength_2
def dkwJ10_hugeLength_0 : List UInt8 := [26, 27, 96, 61, 28, 156, 0, 44, 187, 0, 204, 89, 187, 0, 89, 89, 183, 0, 91, 18, 206, 182, 0, 94]
abbrev dktJ10_hugeLength_0 : List UInt8 := dkwJ10_hugeLength_0 ++ dktJ10_hugeLength_1
theorem dksJ10_hugeLength_0 : cJ10_hugeLength.data.toList.drop 0 = dktJ10_hugeLength_0 := by decide +kernel
theorem dksJ10_hugeLength_1 : cJ10_hugeLength.data.toList.drop 24 = dktJ10_hugeLength_1 := dk_seg dksJ10_hugeLength_0 24 rfl rfl
theorem dksJ10_hugeLength_2 : cJ10_hugeLength.data.toList.drop 48 = dktJ10_hugeLength_2 := dk_seg dksJ10_hugeLength_1 24 rfl rfl
theorem dJ10_hugeLength_0 : decode cJ10_hugeLength 0 = .ok (.iload_n 0, 1) := dk_26 (dk_at dksJ10_hugeLength_0 0 rfl rfl)
theorem dJ10_hugeLength_1 : decode cJ10_hugeLength 1 = .ok (.iload_n 1, 1) := dk_27 (dk_at dksJ10_hugeLength_0 1 rfl rfl)
theorem dJ10_hugeLength_2 : decode cJ10_hugeLength 2 = .ok (.iadd, 1) := dk_96 (dk_at dksJ10_hugeLength_0 2 rfl rfl)
theorem dJ10_hugeLength_3 : decode cJ10_hugeLength 3 = .ok (.istore_n 2, 1) := dk_61 (dk_at dksJ10_hugeLength_0 3 rfl rfl)
theorem dJ10_hugeLength_4 : decode cJ10_hugeLength 4 = .ok (.iload_n 2, 1) := dk_28 (dk_at dksJ10_hugeLength_0 4 rfl rfl)
theorem dJ10_hugeLength_5 : decode cJ10_hugeLength 5 = .ok (.ifCond .ge 44, 3) := dk_156 0 44 (dk_at dksJ10_hugeLength_0 5 rfl rfl)
theorem dJ10_hugeLength_8 : decode cJ10_hugeLength 8 = .ok (.new 204, 3) := dk_187 0 204 (dk_at dksJ10_hugeLength_0 8 rfl rfl)
theorem dJ10_hugeLength_11 : decode cJ10_hugeLength 11 = .ok (.dup, 1) := dk_89 (dk_at dksJ10_hugeLength_0 11 rfl rfl)
theorem dJ10_hugeLength_12 : decode cJ10_hugeLength 12 = .ok (.new 89, 3) := dk_187 0 89 (dk_at dksJ10_hugeLength_0 12 rfl rfl)
theorem dJ10_hugeLength_15 : decode cJ10_hugeLength 15 = .ok (.dup, 1) := dk_89 (dk_at dksJ10_hugeLength_0 15 rfl rfl)
theorem dJ10_hugeLength_16 : decode cJ10_hugeLength 16 = .ok (.invokespecial 91, 3) := dk_183 0 91 (dk_at dksJ10_hugeLength_0 16 rfl rfl)
theorem dJ10_hugeLength_19 : decode cJ10_hugeLength 19 = .ok (.ldc 206, 2) := dk_18 206 (dk_at dksJ10_hugeLength_0 19 rfl rfl)
theorem dJ10_hugeLength_21 : decode cJ10_hugeLength 21 = .ok (.invokevirtual 94, 3) := dk_182 0 94 (dk_at dksJ10_hugeLength_0 21 rfl rfl)
theorem dJ10_hugeLength_24 : decode cJ10_hugeLength 24 = .ok (.iload_n 0, 1) := dk_26 (dk_at dksJ10_hugeLength_1 0 rfl rfl)
theorem dJ10_hugeLength_25 : decode cJ10_hugeLength 25 = .ok (.invokevirtual 98, 3) := dk_182 0 98 (dk_at dksJ10_hugeLength_1 1 rfl rfl)
theorem dJ10_hugeLength_28 : decode cJ10_hugeLength 28 = .ok (.ldc 208, 2) := dk_18 208 (dk_at dksJ10_hugeLength_1 4 rfl rfl)
theorem dJ10_hugeLength_30 : decode cJ10_hugeLength 30 = .ok (.invokevirtual 94, 3) := dk_182 0 94 (dk_at dksJ10_hugeLength_1 6 rfl rfl)
theorem dJ10_hugeLength_33 : decode cJ10_hugeLength 33 = .ok (.iload_n 1, 1) := dk_27 (dk_at dksJ10_hugeLength_1 9 rfl rfl)
theorem dJ10_hugeLength_34 : decode cJ10_hugeLength 34 = .ok (.invokevirtual 98, 3) := dk_182 0 98 (dk_at dksJ10_hugeLength_1 10 rfl rfl)
theorem dJ10_hugeLength_37 : decode cJ10_hugeLength 37 = .ok (.ldc 210, 2) := dk_18 210 (dk_at dksJ10_hugeLength_1 13 rfl rfl)
theorem dJ10_hugeLength_39 : decode cJ10_hugeLength 39 = .ok (.invokevirtual 94, 3) := dk_182 0 94 (dk_at dksJ10_hugeLength_1 15 rfl rfl)
theorem dJ10_hugeLength_42 : decode cJ10_hugeLength 42 = .ok (.invokevirtual 101, 3) := dk_182 0 101 (dk_at dksJ10_hugeLength_1 18 rfl rfl)
theorem dJ10_hugeLength_45 : decode cJ10_hugeLength 45 = .ok (.invokespecial 212, 3) := dk_183 0 212 (dk_at dksJ10_hugeLength_1 21 rfl rfl)
theorem dJ10_hugeLength_48 : decode cJ10_hugeLength 48 = .ok (.athrow, 1) := dk_191 (dk_at dksJ10_hugeLength_2 0 rfl rfl)
theorem dJ10_hugeLength_49 : decode cJ10_hugeLength 49 = .ok (.iload_n 2, 1) := dk_28 (dk_at dksJ10_hugeLength_2 1 rfl rfl)
theorem dJ10_hugeLength_50 : decode cJ10_hugeLength 50 = .ok (.ldc 200, 2) := dk_18 200 (dk_at dksJ10_hugeLength_2 2 rfl rfl)
theorem dJ10_hugeLength_52 : decode cJ10_hugeLength 52 = .ok (.if_icmp .gt 6, 3) := dk_163 0 6 (dk_at dksJ10_hugeLength_2 4 rfl rfl)
theorem dJ10_hugeLength_55 : decode cJ10_hugeLength 55 = .ok (.ldc 200, 2) := dk_18 200 (dk_at dksJ10_hugeLength_2 7 rfl rfl)
theorem dJ10_hugeLength_57 : decode cJ10_hugeLength 57 = .ok (.ireturn, 1) := dk_172 (dk_at dksJ10_hugeLength_2 9 rfl rfl)
theorem dJ10_hugeLength_58 : decode cJ10_hugeLength 58 = .ok (.iload_n 2, 1) := dk_28 (dk_at dksJ10_hugeLength_2 10 rfl rfl)
theorem dJ10_hugeLength_59 : decode cJ10_hugeLength 59 = .ok (.ireturn, 1) := dk_172 (dk_at dksJ10_hugeLength_2 11 rfl rfl)
theorem q126 : (Jvm.Cond.initialized "jdk/internal/util/ArraysSupport") ∈ lw_all := lw_g (lw_at lw_m1 18 rfl) rfl
theorem q595 : (Jvm.Cond.static ({ cls := "jdk/internal/util/ArraysSupport", name := "newLength", desc := "(III)I" } : Jvm.MethodName)) ∈ lw_all := lw_g (lw_at lw_m3 7 rfl) rfl
theorem q596 : (Jvm.Cond.code ({ cls := "jdk/internal/util/ArraysSupport", name := "newLength", desc := "(III)I" } : Jvm.MethodName) prog_56_method_27_code (4 : Nat) (Option.some Jvm.ClassFile.FieldType.int)) ∈ lw_all := lw_g (lw_at lw_m3 8 rfl) rfl
theorem q597 : (Jvm.Cond.methodLink "jdk/internal/util/ArraysSupport" (194 : Nat) ({ cls := "java/lang/Math", name := "max", desc := "(II)I" } : Jvm.MethodName)) ∈ lw_all := lw_g (lw_at lw_m3 9 rfl) rfl
theorem q600 : (Jvm.Cond.constant "jdk/internal/util/ArraysSupport" (200 : Nat) (2147483639 : Int32)) ∈ lw_all := lw_g (lw_at lw_m3 12 rfl) rfl
theorem q601 : (Jvm.Cond.methodLink "jdk/internal/util/ArraysSupport" (201 : Nat) ({ cls := "jdk/internal/util/ArraysSupport", name := "hugeLength", desc := "(II)I" } : Jvm.MethodName)) ∈ lw_all := lw_g (lw_at lw_m3 13 rfl) rfl
theorem q602 : (Jvm.Cond.static ({ cls := "jdk/internal/util/ArraysSupport", name := "hugeLength", desc := "(II)I" } : Jvm.MethodName)) ∈ lw_all := lw_g (lw_at lw_m3 14 rfl) rfl
theorem q603 : (Jvm.Cond.code ({ cls := "jdk/internal/util/ArraysSupport", name := "hugeLength", desc := "(II)I" } : Jvm.MethodName) prog_56_method_28_code (3 : Nat) (Option.some Jvm.ClassFile.FieldType.int)) ∈ lw_all := lw_g (lw_at lw_m3 15 rfl) rfl

/-! java/lang/Math -/
set_option maxRecDepth 100000
abbrev cJ11_max : ByteArray := prog_36_method_65_code
def yJ11_max : MethodName := ⟨RJ11, "max", "(II)I"⟩
def dkwJ11_max_0 : List UInt8 := [26, 27, 161, 0, 7, 26, 167, 0, 4, 27, 172]
abbrev dktJ11_max_0 : List UInt8 := dkwJ11_max_0 ++ []
theorem dksJ11_max_0 : cJ11_max.data.toList.drop 0 = dktJ11_max_0 := by decide +kernel
theorem dJ11_max_0 : decode cJ11_max 0 = .ok (.iload_n 0, 1) := dk_26 (dk_at dksJ11_max_0 0 rfl rfl)
theorem dJ11_max_1 : decode cJ11_max 1 = .ok (.iload_n 1, 1) := dk_27 (dk_at dksJ11_max_0 1 rfl rfl)
theorem dJ11_max_2 : decode cJ11_max 2 = .ok (.if_icmp .lt 7, 3) := dk_161 0 7 (dk_at dksJ11_max_0 2 rfl rfl)
theorem dJ11_max_5 : decode cJ11_max 5 = .ok (.iload_n 0, 1) := dk_26 (dk_at dksJ11_max_0 5 rfl rfl)
theorem dJ11_max_6 : decode cJ11_max 6 = .ok (.goto 4, 3) := dk_167 0 4 (dk_at dksJ11_max_0 6 rfl rfl)
theorem dJ11_max_9 : decode cJ11_max 9 = .ok (.iload_n 1, 1) := dk_27 (dk_at dksJ11_max_0 9 rfl rfl)
theorem dJ11_max_10 : decode cJ11_max 10 = .ok (.ireturn, 1) := dk_172 (dk_at dksJ11_max_0 10 rfl rfl)
abbrev cJ11_min : ByteArray := prog_36_method_69_code
def yJ11_min : MethodName := ⟨RJ11, "min", "(II)I"⟩
def dkwJ11_min_0 : List UInt8 := [26, 27, 163, 0, 7, 26, 167, 0, 4, 27, 172]
abbrev dktJ11_min_0 : List UInt8 := dkwJ11_min_0 ++ []
theorem dksJ11_min_0 : cJ11_min.data.toList.drop 0 = dktJ11_min_0 := by decide +kernel
theorem dJ11_min_0 : decode cJ11_min 0 = .ok (.iload_n 0, 1) := dk_26 (dk_at dksJ11_min_0 0 rfl rfl)
theorem dJ11_min_1 : decode cJ11_min 1 = .ok (.iload_n 1, 1) := dk_27 (dk_at dksJ11_min_0 1 rfl rfl)
theorem dJ11_min_2 : decode cJ11_min 2 = .ok (.if_icmp .gt 7, 3) := dk_163 0 7 (dk_at dksJ11_min_0 2 rfl rfl)
theorem dJ11_min_5 : decode cJ11_min 5 = .ok (.iload_n 0, 1) := dk_26 (dk_at dksJ11_min_0 5 rfl rfl)
theorem dJ11_min_6 : decode cJ11_min 6 = .ok (.goto 4, 3) := dk_167 0 4 (dk_at dksJ11_min_0 6 rfl rfl)
theorem dJ11_min_9 : decode cJ11_min 9 = .ok (.iload_n 1, 1) := dk_27 (dk_at dksJ11_min_0 9 rfl rfl)
theorem dJ11_min_10 : decode cJ11_min 10 = .ok (.ireturn, 1) := dk_172 (dk_at dksJ11_min_0 10 rfl rfl)
theorem q127 : (Jvm.Cond.initialized "java/lang/Math") ∈ lw_all := lw_g (lw_at lw_m1 19 rfl) rfl
theorem q598 : (Jvm.Cond.static ({ cls := "java/lang/Math", name := "max", desc := "(II)I" } : Jvm.MethodName)) ∈ lw_all := lw_g (lw_at lw_m3 10 rfl) rfl
theorem q599 : (Jvm.Cond.code ({ cls := "java/lang/Math", name := "max", desc := "(II)I" } : Jvm.MethodName) prog_36_method_65_code (2 : Nat) (Option.some Jvm.ClassFile.FieldType.int)) ∈ lw_all := lw_g (lw_at lw_m3 11 rfl) rfl
theorem q616 : (Jvm.Cond.static ({ cls := "java/lang/Math", name := "min", desc := "(II)I" } : Jvm.MethodName)) ∈ lw_all := lw_g (lw_at lw_m3 28 rfl) rfl
theorem q617 : (Jvm.Cond.code ({ cls := "java/lang/Math", name := "min", desc := "(II)I" } : Jvm.MethodName) prog_36_method_69_code (2 : Nat) (Option.some Jvm.ClassFile.FieldType.int)) ∈ lw_all := lw_g (lw_at lw_m3 29 rfl) rfl

/-! java/lang/StringLatin1 -/
set_option maxRecDepth 100000
abbrev cJ12_canEncode : ByteArray := prog_40_method_3_code
def yJ12_canEncode : MethodName := ⟨RJ12, "canEncode", "(C)Z"⟩
def dkwJ12_canEncode_0 : List UInt8 := [26, 17, 0, 255, 163, 0, 7, 4, 167, 0, 4, 3, 172]
abbrev dktJ12_canEncode_0 : List UInt8 := dkwJ12_canEncode_0 ++ []
theorem dksJ12_canEncode_0 : cJ12_canEncode.data.toList.drop 0 = dktJ12_canEncode_0 := by decide +kernel
theorem dJ12_canEncode_0 : decode cJ12_canEncode 0 = .ok (.iload_n 0, 1) := dk_26 (dk_at dksJ12_canEncode_0 0 rfl rfl)
theorem dJ12_canEncode_1 : decode cJ12_canEncode 1 = .ok (.sipush 255, 3) := dk_17 0 255 (dk_at dksJ12_canEncode_0 1 rfl rfl)
theorem dJ12_canEncode_4 : decode cJ12_canEncode 4 = .ok (.if_icmp .gt 7, 3) := dk_163 0 7 (dk_at dksJ12_canEncode_0 4 rfl rfl)
theorem dJ12_canEncode_7 : decode cJ12_canEncode 7 = .ok (.iconst 1, 1) := dk_4 (dk_at dksJ12_canEncode_0 7 rfl rfl)
theorem dJ12_canEncode_8 : decode cJ12_canEncode 8 = .ok (.goto 4, 3) := dk_167 0 4 (dk_at dksJ12_canEncode_0 8 rfl rfl)
theorem dJ12_canEncode_11 : decode cJ12_canEncode 11 = .ok (.iconst 0, 1) := dk_3 (dk_at dksJ12_canEncode_0 11 rfl rfl)
theorem dJ12_canEncode_12 : decode cJ12_canEncode 12 = .ok (.ireturn, 1) := dk_172 (dk_at dksJ12_canEncode_0 12 rfl rfl)
abbrev cJ12_inflate : ByteArray := prog_40_method_50_code
def yJ12_inflate : MethodName := ⟨RJ12, "inflate", "([BI[BII)V"⟩
def dkwJ12_inflate_0 : List UInt8 := [42, 27, 44, 29, 21, 4, 184, 0, 240, 177]
abbrev dktJ12_inflate_0 : List UInt8 := dkwJ12_inflate_0 ++ []
theorem dksJ12_inflate_0 : cJ12_inflate.data.toList.drop 0 = dktJ12_inflate_0 := by decide +kernel
theorem dJ12_inflate_0 : decode cJ12_inflate 0 = .ok (.aload_n 0, 1) := dk_42 (dk_at dksJ12_inflate_0 0 rfl rfl)
theorem dJ12_inflate_1 : decode cJ12_inflate 1 = .ok (.iload_n 1, 1) := dk_27 (dk_at dksJ12_inflate_0 1 rfl rfl)
theorem dJ12_inflate_2 : decode cJ12_inflate 2 = .ok (.aload_n 2, 1) := dk_44 (dk_at dksJ12_inflate_0 2 rfl rfl)
theorem dJ12_inflate_3 : decode cJ12_inflate 3 = .ok (.iload_n 3, 1) := dk_29 (dk_at dksJ12_inflate_0 3 rfl rfl)
theorem dJ12_inflate_4 : decode cJ12_inflate 4 = .ok (.iload 4, 2) := dk_21 4 (dk_at dksJ12_inflate_0 4 rfl rfl)
theorem dJ12_inflate_6 : decode cJ12_inflate 6 = .ok (.invokestatic 240, 3) := dk_184 0 240 (dk_at dksJ12_inflate_0 6 rfl rfl)
theorem dJ12_inflate_9 : decode cJ12_inflate 9 = .ok (.return_, 1) := dk_177 (dk_at dksJ12_inflate_0 9 rfl rfl)
abbrev cJ12_equals : ByteArray := prog_40_method_13_code
def yJ12_equals : MethodName := ⟨RJ12, "equals", "([B[B)Z"⟩
def dkwJ12_equals_1 : List UInt8 := [3, 172, 132, 2, 1, 167, 255, 236, 4, 172, 3, 172]
abbrev dktJ12_equals_1 : List UInt8 := dkwJ12_equals_1 ++ []
def dkwJ12_equals_0 : List UInt8 := [42, 190, 43, 190, 160, 0, 30, 3, 61, 28, 42, 190, 162, 0, 20, 42, 28, 51, 43, 28, 51, 159, 0, 5]
abbrev dktJ12_equals_0 : List UInt8 := dkwJ12_equals_0 ++ dktJ12_equals_1
theorem dksJ12_equals_0 : cJ12_equals.data.toList.drop 0 = dktJ12_equals_0 := by decide +kernel
theorem dksJ12_equals_1 : cJ12_equals.data.toList.drop 24 = dktJ12_equals_1 := dk_seg dksJ12_equals_0 24 rfl rfl
theorem dJ12_equals_0 : decode cJ12_equals 0 = .ok (.aload_n 0, 1) := dk_42 (dk_at dksJ12_equals_0 0 rfl rfl)
theorem dJ12_equals_1 : decode cJ12_equals 1 = .ok (.arraylength, 1) := dk_190 (dk_at dksJ12_equals_0 1 rfl rfl)
theorem dJ12_equals_2 : decode cJ12_equals 2 = .ok (.aload_n 1, 1) := dk_43 (dk_at dksJ12_equals_0 2 rfl rfl)
theorem dJ12_equals_3 : decode cJ12_equals 3 = .ok (.arraylength, 1) := dk_190 (dk_at dksJ12_equals_0 3 rfl rfl)
theorem dJ12_equals_4 : decode cJ12_equals 4 = .ok (.if_icmp .ne 30, 3) := dk_160 0 30 (dk_at dksJ12_equals_0 4 rfl rfl)
theorem dJ12_equals_7 : decode cJ12_equals 7 = .ok (.iconst 0, 1) := dk_3 (dk_at dksJ12_equals_0 7 rfl rfl)
theorem dJ12_equals_8 : decode cJ12_equals 8 = .ok (.istore_n 2, 1) := dk_61 (dk_at dksJ12_equals_0 8 rfl rfl)
theorem dJ12_equals_9 : decode cJ12_equals 9 = .ok (.iload_n 2, 1) := dk_28 (dk_at dksJ12_equals_0 9 rfl rfl)
theorem dJ12_equals_10 : decode cJ12_equals 10 = .ok (.aload_n 0, 1) := dk_42 (dk_at dksJ12_equals_0 10 rfl rfl)
theorem dJ12_equals_11 : decode cJ12_equals 11 = .ok (.arraylength, 1) := dk_190 (dk_at dksJ12_equals_0 11 rfl rfl)
theorem dJ12_equals_12 : decode cJ12_equals 12 = .ok (.if_icmp .ge 20, 3) := dk_162 0 20 (dk_at dksJ12_equals_0 12 rfl rfl)
theorem dJ12_equals_15 : decode cJ12_equals 15 = .ok (.aload_n 0, 1) := dk_42 (dk_at dksJ12_equals_0 15 rfl rfl)
theorem dJ12_equals_16 : decode cJ12_equals 16 = .ok (.iload_n 2, 1) := dk_28 (dk_at dksJ12_equals_0 16 rfl rfl)
theorem dJ12_equals_17 : decode cJ12_equals 17 = .ok (.baload, 1) := dk_51 (dk_at dksJ12_equals_0 17 rfl rfl)
theorem dJ12_equals_18 : decode cJ12_equals 18 = .ok (.aload_n 1, 1) := dk_43 (dk_at dksJ12_equals_0 18 rfl rfl)
theorem dJ12_equals_19 : decode cJ12_equals 19 = .ok (.iload_n 2, 1) := dk_28 (dk_at dksJ12_equals_0 19 rfl rfl)
theorem dJ12_equals_20 : decode cJ12_equals 20 = .ok (.baload, 1) := dk_51 (dk_at dksJ12_equals_0 20 rfl rfl)
theorem dJ12_equals_21 : decode cJ12_equals 21 = .ok (.if_icmp .eq 5, 3) := dk_159 0 5 (dk_at dksJ12_equals_0 21 rfl rfl)
theorem dJ12_equals_24 : decode cJ12_equals 24 = .ok (.iconst 0, 1) := dk_3 (dk_at dksJ12_equals_1 0 rfl rfl)
theorem dJ12_equals_25 : decode cJ12_equals 25 = .ok (.ireturn, 1) := dk_172 (dk_at dksJ12_equals_1 1 rfl rfl)
theorem dJ12_equals_26 : decode cJ12_equals 26 = .ok (.iinc 2 1, 3) := dk_132 2 1 (dk_at dksJ12_equals_1 2 rfl rfl)
theorem dJ12_equals_29 : decode cJ12_equals 29 = .ok (.goto (-20), 3) := dk_167 255 236 (dk_at dksJ12_equals_1 5 rfl rfl)
theorem dJ12_equals_32 : decode cJ12_equals 32 = .ok (.iconst 1, 1) := dk_4 (dk_at dksJ12_equals_1 8 rfl rfl)
theorem dJ12_equals_33 : decode cJ12_equals 33 = .ok (.ireturn, 1) := dk_172 (dk_at dksJ12_equals_1 9 rfl rfl)
theorem dJ12_equals_34 : decode cJ12_equals 34 = .ok (.iconst 0, 1) := dk_3 (dk_at dksJ12_equals_1 10 rfl rfl)
theorem dJ12_equals_35 : decode cJ12_equals 35 = .ok (.ireturn, 1) := dk_172 (dk_at dksJ12_equals_1 11 rfl rfl)
abbrev cJ12_indexOf : ByteArray := prog_40_method_24_code
def yJ12_indexOf : MethodName := ⟨RJ12, "indexOf", "([B[B)I"⟩
def dkwJ12_indexOf_1 : List UInt8 := [172]
abbrev dktJ12_indexOf_1 : List UInt8 := dkwJ12_indexOf_1 ++ []
def dkwJ12_indexOf_0 : List UInt8 := [43, 190, 154, 0, 5, 3, 172, 42, 190, 154, 0, 5, 2, 172, 42, 42, 190, 43, 43, 190, 3, 184, 0, 99]
abbrev dktJ12_indexOf_0 : List UInt8 := dkwJ12_indexOf_0 ++ dktJ12_indexOf_1
theorem dksJ12_indexOf_0 : cJ12_indexOf.data.toList.drop 0 = dktJ12_indexOf_0 := by decide +kernel
theorem dksJ12_indexOf_1 : cJ12_indexOf.data.toList.drop 24 = dktJ12_indexOf_1 := dk_seg dksJ12_indexOf_0 24 rfl rfl
theorem dJ12_indexOf_0 : decode cJ12_indexOf 0 = .ok (.aload_n 1, 1) := dk_43 (dk_at dksJ12_indexOf_0 0 rfl rfl)
theorem dJ12_indexOf_1 : decode cJ12_indexOf 1 = .ok (.arraylength, 1) := dk_190 (dk_at dksJ12_indexOf_0 1 rfl rfl)
theorem dJ12_indexOf_2 : decode cJ12_indexOf 2 = .ok (.ifCond .ne 5, 3) := dk_154 0 5 (dk_at dksJ12_indexOf_0 2 rfl rfl)
theorem dJ12_indexOf_5 : decode cJ12_indexOf 5 = .ok (.iconst 0, 1) := dk_3 (dk_at dksJ12_indexOf_0 5 rfl rfl)
theorem dJ12_indexOf_6 : decode cJ12_indexOf 6 = .ok (.ireturn, 1) := dk_172 (dk_at dksJ12_indexOf_0 6 rfl rfl)
theorem dJ12_indexOf_7 : decode cJ12_indexOf 7 = .ok (.aload_n 0, 1) := dk_42 (dk_at dksJ12_indexOf_0 7 rfl rfl)
theorem dJ12_indexOf_8 : decode cJ12_indexOf 8 = .ok (.arraylength, 1) := dk_190 (dk_at dksJ12_indexOf_0 8 rfl rfl)
theorem dJ12_indexOf_9 : decode cJ12_indexOf 9 = .ok (.ifCond .ne 5, 3) := dk_154 0 5 (dk_at dksJ12_indexOf_0 9 rfl rfl)
theorem dJ12_indexOf_12 : decode cJ12_indexOf 12 = .ok (.iconst (-1), 1) := dk_2 (dk_at dksJ12_indexOf_0 12 rfl rfl)
theorem dJ12_indexOf_13 : decode cJ12_indexOf 13 = .ok (.ireturn, 1) := dk_172 (dk_at dksJ12_indexOf_0 13 rfl rfl)
theorem dJ12_indexOf_14 : decode cJ12_indexOf 14 = .ok (.aload_n 0, 1) := dk_42 (dk_at dksJ12_indexOf_0 14 rfl rfl)
theorem dJ12_indexOf_15 : decode cJ12_indexOf 15 = .ok (.aload_n 0, 1) := dk_42 (dk_at dksJ12_indexOf_0 15 rfl rfl)
theorem dJ12_indexOf_16 : decode cJ12_indexOf 16 = .ok (.arraylength, 1) := dk_190 (dk_at dksJ12_indexOf_0 16 rfl rfl)
theorem dJ12_indexOf_17 : decode cJ12_indexOf 17 = .ok (.aload_n 1, 1) := dk_43 (dk_at dksJ12_indexOf_0 17 rfl rfl)
theorem dJ12_indexOf_18 : decode cJ12_indexOf 18 = .ok (.aload_n 1, 1) := dk_43 (dk_at dksJ12_indexOf_0 18 rfl rfl)
theorem dJ12_indexOf_19 : decode cJ12_indexOf 19 = .ok (.arraylength, 1) := dk_190 (dk_at dksJ12_indexOf_0 19 rfl rfl)
theorem dJ12_indexOf_20 : decode cJ12_indexOf 20 = .ok (.iconst 0, 1) := dk_3 (dk_at dksJ12_indexOf_0 20 rfl rfl)
theorem dJ12_indexOf_21 : decode cJ12_indexOf 21 = .ok (.invokestatic 99, 3) := dk_184 0 99 (dk_at dksJ12_indexOf_0 21 rfl rfl)
theorem dJ12_indexOf_24 : decode cJ12_indexOf 24 = .ok (.ireturn, 1) := dk_172 (dk_at dksJ12_indexOf_1 0 rfl rfl)
abbrev cJ12_indexOf_2 : ByteArray := prog_40_method_25_code
def yJ12_indexOf_2 : MethodName := ⟨RJ12, "indexOf", "([BI[BII)I"⟩
def dkwJ12_indexOf_2_5 : List UInt8 := [167, 255, 154, 2, 172]
abbrev dktJ12_indexOf_2_5 : List UInt8 := dkwJ12_indexOf_2_5 ++ []
def dkwJ12_indexOf_2_4 : List UInt8 := [132, 8, 1, 132, 10, 1, 167, 255, 232, 21, 8, 21, 9, 160, 0, 6, 21, 7, 172, 132, 7, 1]
abbrev dktJ12_indexOf_2_4 : List UInt8 := dkwJ12_indexOf_2_4 ++ dktJ12_indexOf_2_5
def dkwJ12_indexOf_2_3 : List UInt8 := [100, 54, 9, 4, 54, 10, 21, 8, 21, 9, 162, 0, 23, 42, 21, 8, 51, 44, 21, 10, 51, 160, 0, 12]
abbrev dktJ12_indexOf_2_3 : List UInt8 := dkwJ12_indexOf_2_3 ++ dktJ12_indexOf_2_4
def dkwJ12_indexOf_2_2 : List UInt8 := [159, 0, 6, 167, 255, 237, 21, 7, 21, 6, 163, 0, 57, 21, 7, 4, 96, 54, 8, 21, 8, 29, 96, 4]
abbrev dktJ12_indexOf_2_2 : List UInt8 := dkwJ12_indexOf_2_2 ++ dktJ12_indexOf_2_3
def dkwJ12_indexOf_2_1 : List UInt8 := [51, 21, 5, 159, 0, 25, 132, 7, 1, 21, 7, 21, 6, 163, 0, 15, 42, 21, 7, 51, 21, 5]
abbrev dktJ12_indexOf_2_1 : List UInt8 := dkwJ12_indexOf_2_1 ++ dktJ12_indexOf_2_2
def dkwJ12_indexOf_2_0 : List UInt8 := [44, 3, 51, 54, 5, 27, 29, 100, 54, 6, 21, 4, 54, 7, 21, 7, 21, 6, 163, 0, 101, 42, 21, 7]
abbrev dktJ12_indexOf_2_0 : List UInt8 := dkwJ12_indexOf_2_0 ++ dktJ12_indexOf_2_1
theorem dksJ12_indexOf_2_0 : cJ12_indexOf_2.data.toList.drop 0 = dktJ12_indexOf_2_0 := by decide +kernel
theorem dksJ12_indexOf_2_1 : cJ12_indexOf_2.data.toList.drop 24 = dktJ12_indexOf_2_1 := dk_seg dksJ12_indexOf_2_0 24 rfl rfl
theorem dksJ12_indexOf_2_2 : cJ12_indexOf_2.data.toList.drop 46 = dktJ12_indexOf_2_2 := dk_seg dksJ12_indexOf_2_1 22 rfl rfl
theorem dksJ12_indexOf_2_3 : cJ12_indexOf_2.data.toList.drop 70 = dktJ12_indexOf_2_3 := dk_seg dksJ12_indexOf_2_2 24 rfl rfl
theorem dksJ12_indexOf_2_4 : cJ12_indexOf_2.data.toList.drop 94 = dktJ12_indexOf_2_4 := dk_seg dksJ12_indexOf_2_3 24 rfl rfl
theorem dksJ12_indexOf_2_5 : cJ12_indexOf_2.data.toList.drop 116 = dktJ12_indexOf_2_5 := dk_seg dksJ12_indexOf_2_4 22 rfl rfl
theorem dJ12_indexOf_2_0 : decode cJ12_indexOf_2 0 = .ok (.aload_n 2, 1) := dk_44 (dk_at dksJ12_indexOf_2_0 0 rfl rfl)
theorem dJ12_indexOf_2_1 : decode cJ12_indexOf_2 1 = .ok (.iconst 0, 1) := dk_3 (dk_at dksJ12_indexOf_2_0 1 rfl rfl)
theorem dJ12_indexOf_2_2 : decode cJ12_indexOf_2 2 = .ok (.baload, 1) := dk_51 (dk_at dksJ12_indexOf_2_0 2 rfl rfl)
theorem dJ12_indexOf_2_3 : decode cJ12_indexOf_2 3 = .ok (.istore 5, 2) := dk_54 5 (dk_at dksJ12_indexOf_2_0 3 rfl rfl)
theorem dJ12_indexOf_2_5 : decode cJ12_indexOf_2 5 = .ok (.iload_n 1, 1) := dk_27 (dk_at dksJ12_indexOf_2_0 5 rfl rfl)
theorem dJ12_indexOf_2_6 : decode cJ12_indexOf_2 6 = .ok (.iload_n 3, 1) := dk_29 (dk_at dksJ12_indexOf_2_0 6 rfl rfl)
theorem dJ12_indexOf_2_7 : decode cJ12_indexOf_2 7 = .ok (.isub, 1) := dk_100 (dk_at dksJ12_indexOf_2_0 7 rfl rfl)
theorem dJ12_indexOf_2_8 : decode cJ12_indexOf_2 8 = .ok (.istore 6, 2) := dk_54 6 (dk_at dksJ12_indexOf_2_0 8 rfl rfl)
theorem dJ12_indexOf_2_10 : decode cJ12_indexOf_2 10 = .ok (.iload 4, 2) := dk_21 4 (dk_at dksJ12_indexOf_2_0 10 rfl rfl)
theorem dJ12_indexOf_2_12 : decode cJ12_indexOf_2 12 = .ok (.istore 7, 2) := dk_54 7 (dk_at dksJ12_indexOf_2_0 12 rfl rfl)
theorem dJ12_indexOf_2_14 : decode cJ12_indexOf_2 14 = .ok (.iload 7, 2) := dk_21 7 (dk_at dksJ12_indexOf_2_0 14 rfl rfl)
theorem dJ12_indexOf_2_16 : decode cJ12_indexOf_2 16 = .ok (.iload 6, 2) := dk_21 6 (dk_at dksJ12_indexOf_2_0 16 rfl rfl)
theorem dJ12_indexOf_2_18 : decode cJ12_indexOf_2 18 = .ok (.if_icmp .gt 101, 3) := dk_163 0 101 (dk_at dksJ12_indexOf_2_0 18 rfl rfl)
theorem dJ12_indexOf_2_21 : decode cJ12_indexOf_2 21 = .ok (.aload_n 0, 1) := dk_42 (dk_at dksJ12_indexOf_2_0 21 rfl rfl)
theorem dJ12_indexOf_2_22 : decode cJ12_indexOf_2 22 = .ok (.iload 7, 2) := dk_21 7 (dk_at dksJ12_indexOf_2_0 22 rfl rfl)
theorem dJ12_indexOf_2_24 : decode cJ12_indexOf_2 24 = .ok (.baload, 1) := dk_51 (dk_at dksJ12_indexOf_2_1 0 rfl rfl)
theorem dJ12_indexOf_2_25 : decode cJ12_indexOf_2 25 = .ok (.iload 5, 2) := dk_21 5 (dk_at dksJ12_indexOf_2_1 1 rfl rfl)
theorem dJ12_indexOf_2_27 : decode cJ12_indexOf_2 27 = .ok (.if_icmp .eq 25, 3) := dk_159 0 25 (dk_at dksJ12_indexOf_2_1 3 rfl rfl)
theorem dJ12_indexOf_2_30 : decode cJ12_indexOf_2 30 = .ok (.iinc 7 1, 3) := dk_132 7 1 (dk_at dksJ12_indexOf_2_1 6 rfl rfl)
theorem dJ12_indexOf_2_33 : decode cJ12_indexOf_2 33 = .ok (.iload 7, 2) := dk_21 7 (dk_at dksJ12_indexOf_2_1 9 rfl rfl)
theorem dJ12_indexOf_2_35 : decode cJ12_indexOf_2 35 = .ok (.iload 6, 2) := dk_21 6 (dk_at dksJ12_indexOf_2_1 11 rfl rfl)
theorem dJ12_indexOf_2_37 : decode cJ12_indexOf_2 37 = .ok (.if_icmp .gt 15, 3) := dk_163 0 15 (dk_at dksJ12_indexOf_2_1 13 rfl rfl)
theorem dJ12_indexOf_2_40 : decode cJ12_indexOf_2 40 = .ok (.aload_n 0, 1) := dk_42 (dk_at dksJ12_indexOf_2_1 16 rfl rfl)
theorem dJ12_indexOf_2_41 : decode cJ12_indexOf_2 41 = .ok (.iload 7, 2) := dk_21 7 (dk_at dksJ12_indexOf_2_1 17 rfl rfl)
theorem dJ12_indexOf_2_43 : decode cJ12_indexOf_2 43 = .ok (.baload, 1) := dk_51 (dk_at dksJ12_indexOf_2_1 19 rfl rfl)
theorem dJ12_indexOf_2_44 : decode cJ12_indexOf_2 44 = .ok (.iload 5, 2) := dk_21 5 (dk_at dksJ12_indexOf_2_1 20 rfl rfl)
theorem dJ12_indexOf_2_46 : decode cJ12_indexOf_2 46 = .ok (.if_icmp .eq 6, 3) := dk_159 0 6 (dk_at dksJ12_indexOf_2_2 0 rfl rfl)
theorem dJ12_indexOf_2_49 : decode cJ12_indexOf_2 49 = .ok (.goto (-19), 3) := dk_167 255 237 (dk_at dksJ12_indexOf_2_2 3 rfl rfl)
theorem dJ12_indexOf_2_52 : decode cJ12_indexOf_2 52 = .ok (.iload 7, 2) := dk_21 7 (dk_at dksJ12_indexOf_2_2 6 rfl rfl)
theorem dJ12_indexOf_2_54 : decode cJ12_indexOf_2 54 = .ok (.iload 6, 2) := dk_21 6 (dk_at dksJ12_indexOf_2_2 8 rfl rfl)
theorem dJ12_indexOf_2_56 : decode cJ12_indexOf_2 56 = .ok (.if_icmp .gt 57, 3) := dk_163 0 57 (dk_at dksJ12_indexOf_2_2 10 rfl rfl)
theorem dJ12_indexOf_2_59 : decode cJ12_indexOf_2 59 = .ok (.iload 7, 2) := dk_21 7 (dk_at dksJ12_indexOf_2_2 13 rfl rfl)
theorem dJ12_indexOf_2_61 : decode cJ12_indexOf_2 61 = .ok (.iconst 1, 1) := dk_4 (dk_at dksJ12_indexOf_2_2 15 rfl rfl)
theorem dJ12_indexOf_2_62 : decode cJ12_indexOf_2 62 = .ok (.iadd, 1) := dk_96 (dk_at dksJ12_indexOf_2_2 16 rfl rfl)
theorem dJ12_indexOf_2_63 : decode cJ12_indexOf_2 63 = .ok (.istore 8, 2) := dk_54 8 (dk_at dksJ12_indexOf_2_2 17 rfl rfl)
theorem dJ12_indexOf_2_65 : decode cJ12_indexOf_2 65 = .ok (.iload 8, 2) := dk_21 8 (dk_at dksJ12_indexOf_2_2 19 rfl rfl)
theorem dJ12_indexOf_2_67 : decode cJ12_indexOf_2 67 = .ok (.iload_n 3, 1) := dk_29 (dk_at dksJ12_indexOf_2_2 21 rfl rfl)
theorem dJ12_indexOf_2_68 : decode cJ12_indexOf_2 68 = .ok (.iadd, 1) := dk_96 (dk_at dksJ12_indexOf_2_2 22 rfl rfl)
theorem dJ12_indexOf_2_69 : decode cJ12_indexOf_2 69 = .ok (.iconst 1, 1) := dk_4 (dk_at dksJ12_indexOf_2_2 23 rfl rfl)
theorem dJ12_indexOf_2_70 : decode cJ12_indexOf_2 70 = .ok (.isub, 1) := dk_100 (dk_at dksJ12_indexOf_2_3 0 rfl rfl)
theorem dJ12_indexOf_2_71 : decode cJ12_indexOf_2 71 = .ok (.istore 9, 2) := dk_54 9 (dk_at dksJ12_indexOf_2_3 1 rfl rfl)
theorem dJ12_indexOf_2_73 : decode cJ12_indexOf_2 73 = .ok (.iconst 1, 1) := dk_4 (dk_at dksJ12_indexOf_2_3 3 rfl rfl)
theorem dJ12_indexOf_2_74 : decode cJ12_indexOf_2 74 = .ok (.istore 10, 2) := dk_54 10 (dk_at dksJ12_indexOf_2_3 4 rfl rfl)
theorem dJ12_indexOf_2_76 : decode cJ12_indexOf_2 76 = .ok (.iload 8, 2) := dk_21 8 (dk_at dksJ12_indexOf_2_3 6 rfl rfl)
theorem dJ12_indexOf_2_78 : decode cJ12_indexOf_2 78 = .ok (.iload 9, 2) := dk_21 9 (dk_at dksJ12_indexOf_2_3 8 rfl rfl)
theorem dJ12_indexOf_2_80 : decode cJ12_indexOf_2 80 = .ok (.if_icmp .ge 23, 3) := dk_162 0 23 (dk_at dksJ12_indexOf_2_3 10 rfl rfl)
theorem dJ12_indexOf_2_83 : decode cJ12_indexOf_2 83 = .ok (.aload_n 0, 1) := dk_42 (dk_at dksJ12_indexOf_2_3 13 rfl rfl)
theorem dJ12_indexOf_2_84 : decode cJ12_indexOf_2 84 = .ok (.iload 8, 2) := dk_21 8 (dk_at dksJ12_indexOf_2_3 14 rfl rfl)
theorem dJ12_indexOf_2_86 : decode cJ12_indexOf_2 86 = .ok (.baload, 1) := dk_51 (dk_at dksJ12_indexOf_2_3 16 rfl rfl)
theorem dJ12_indexOf_2_87 : decode cJ12_indexOf_2 87 = .ok (.aload_n 2, 1) := dk_44 (dk_at dksJ12_indexOf_2_3 17 rfl rfl)
theorem dJ12_indexOf_2_88 : decode cJ12_indexOf_2 88 = .ok (.iload 10, 2) := dk_21 10 (dk_at dksJ12_indexOf_2_3 18 rfl rfl)
theorem dJ12_indexOf_2_90 : decode cJ12_indexOf_2 90 = .ok (.baload, 1) := dk_51 (dk_at dksJ12_indexOf_2_3 20 rfl rfl)
theorem dJ12_indexOf_2_91 : decode cJ12_indexOf_2 91 = .ok (.if_icmp .ne 12, 3) := dk_160 0 12 (dk_at dksJ12_indexOf_2_3 21 rfl rfl)
theorem dJ12_indexOf_2_94 : decode cJ12_indexOf_2 94 = .ok (.iinc 8 1, 3) := dk_132 8 1 (dk_at dksJ12_indexOf_2_4 0 rfl rfl)
theorem dJ12_indexOf_2_97 : decode cJ12_indexOf_2 97 = .ok (.iinc 10 1, 3) := dk_132 10 1 (dk_at dksJ12_indexOf_2_4 3 rfl rfl)
theorem dJ12_indexOf_2_100 : decode cJ12_indexOf_2 100 = .ok (.goto (-24), 3) := dk_167 255 232 (dk_at dksJ12_indexOf_2_4 6 rfl rfl)
theorem dJ12_indexOf_2_103 : decode cJ12_indexOf_2 103 = .ok (.iload 8, 2) := dk_21 8 (dk_at dksJ12_indexOf_2_4 9 rfl rfl)
theorem dJ12_indexOf_2_105 : decode cJ12_indexOf_2 105 = .ok (.iload 9, 2) := dk_21 9 (dk_at dksJ12_indexOf_2_4 11 rfl rfl)
theorem dJ12_indexOf_2_107 : decode cJ12_indexOf_2 107 = .ok (.if_icmp .ne 6, 3) := dk_160 0 6 (dk_at dksJ12_indexOf_2_4 13 rfl rfl)
theorem dJ12_indexOf_2_110 : decode cJ12_indexOf_2 110 = .ok (.iload 7, 2) := dk_21 7 (dk_at dksJ12_indexOf_2_4 16 rfl rfl)
theorem dJ12_indexOf_2_112 : decode cJ12_indexOf_2 112 = .ok (.ireturn, 1) := dk_172 (dk_at dksJ12_indexOf_2_4 18 rfl rfl)
theorem dJ12_indexOf_2_113 : decode cJ12_indexOf_2 113 = .ok (.iinc 7 1, 3) := dk_132 7 1 (dk_at dksJ12_indexOf_2_4 19 rfl rfl)
theorem dJ12_indexOf_2_116 : decode cJ12_indexOf_2 116 = .ok (.goto (-102), 3) := dk_167 255 154 (dk_at dksJ12_indexOf_2_5 0 rfl rfl)
theorem dJ12_indexOf_2_119 : decode cJ12_indexOf_2 119 = .ok (.iconst (-1), 1) := dk_2 (dk_at dksJ12_indexOf_2_5 3 rfl rfl)
theorem dJ12_indexOf_2_120 : decode cJ12_indexOf_2 120 = .ok (.ireturn, 1) := dk_172 (dk_at dksJ12_indexOf_2_5 4 rfl rfl)
theorem q129 : (Jvm.Cond.initialized "java/lang/StringLatin1") ∈ lw_all := lw_g (lw_at lw_m1 21 rfl) rfl
theorem q627 : (Jvm.Cond.static ({ cls := "java/lang/StringLatin1", name := "canEncode", desc := "(C)Z" } : Jvm.MethodName)) ∈ lw_all := lw_g (lw_at lw_m3 39 rfl) rfl
theorem q628 : (Jvm.Cond.code ({ cls := "java/lang/StringLatin1", name := "canEncode", desc := "(C)Z" } : Jvm.MethodName) prog_40_method_3_code (1 : Nat) (Option.some Jvm.ClassFile.FieldType.boolean)) ∈ lw_all := lw_g (lw_at lw_m3 40 rfl) rfl
theorem q634 : (Jvm.Cond.static ({ cls := "java/lang/StringLatin1", name := "inflate", desc := "([BI[BII)V" } : Jvm.MethodName)) ∈ lw_all := lw_g (lw_at lw_m3 46 rfl) rfl
theorem q635 : (Jvm.Cond.code ({ cls := "java/lang/StringLatin1", name := "inflate", desc := "([BI[BII)V" } : Jvm.MethodName) prog_40_method_50_code (5 : Nat) (Option.none : Option Jvm.ClassFile.FieldType)) ∈ lw_all := lw_g (lw_at lw_m3 47 rfl) rfl
theorem q636 : (Jvm.Cond.methodLink "java/lang/StringLatin1" (240 : Nat) ({ cls := "java/lang/StringUTF16", name := "inflate", desc := "([BI[BII)V" } : Jvm.MethodName)) ∈ lw_all := lw_g (lw_at lw_m3 48 rfl) rfl
theorem q750 : (Jvm.Cond.static ({ cls := "java/lang/StringLatin1", name := "equals", desc := "([B[B)Z" } : Jvm.MethodName)) ∈ lw_all := lw_g (lw_at lw_m3 162 rfl) rfl
theorem q751 : (Jvm.Cond.code ({ cls := "java/lang/StringLatin1", name := "equals", desc := "([B[B)Z" } : Jvm.MethodName) prog_40_method_13_code (3 : Nat) (Option.some Jvm.ClassFile.FieldType.boolean)) ∈ lw_all := lw_g (lw_at lw_m3 163 rfl) rfl
theorem q915 : (Jvm.Cond.static ({ cls := "java/lang/StringLatin1", name := "indexOf", desc := "([B[B)I" } : Jvm.MethodName)) ∈ lw_all := lw_g (lw_at lw_m4 87 rfl) rfl
theorem q916 : (Jvm.Cond.code ({ cls := "java/lang/StringLatin1", name := "indexOf", desc := "([B[B)I" } : Jvm.MethodName) prog_40_method_24_code (2 : Nat) (Option.some Jvm.ClassFile.FieldType.int)) ∈ lw_all := lw_g (lw_at lw_m4 88 rfl) rfl
theorem q917 : (Jvm.Cond.methodLink "java/lang/StringLatin1" (99 : Nat) ({ cls := "java/lang/StringLatin1", name := "indexOf", desc := "([BI[BII)I" } : Jvm.MethodName)) ∈ lw_all := lw_g (lw_at lw_m4 89 rfl) rfl
theorem q918 : (Jvm.Cond.static ({ cls := "java/lang/StringLatin1", name := "indexOf", desc := "([BI[BII)I" } : Jvm.MethodName)) ∈ lw_all := lw_g (lw_at lw_m4 90 rfl) rfl
theorem q919 : (Jvm.Cond.code ({ cls := "java/lang/StringLatin1", name := "indexOf", desc := "([BI[BII)I" } : Jvm.MethodName) prog_40_method_25_code (11 : Nat) (Option.some Jvm.ClassFile.FieldType.int)) ∈ lw_all := lw_g (lw_at lw_m4 91 rfl) rfl

/-! java/lang/Throwable -/
set_option maxRecDepth 100000
abbrev cJ13_init : ByteArray := prog_43_method_1_code
def yJ13_init : MethodName := ⟨RJ13, "<init>", "()V"⟩
def dkwJ13_init_1 : List UInt8 := [182, 0, 27, 87, 177]
abbrev dktJ13_init_1 : List UInt8 := dkwJ13_init_1 ++ []
def dkwJ13_init_0 : List UInt8 := [42, 183, 0, 1, 42, 42, 181, 0, 7, 42, 178, 0, 13, 181, 0, 17, 42, 178, 0, 20, 181, 0, 24, 42]
abbrev dktJ13_init_0 : List UInt8 := dkwJ13_init_0 ++ dktJ13_init_1
theorem dksJ13_init_0 : cJ13_init.data.toList.drop 0 = dktJ13_init_0 := by decide +kernel
theorem dksJ13_init_1 : cJ13_init.data.toList.drop 24 = dktJ13_init_1 := dk_seg dksJ13_init_0 24 rfl rfl
theorem dJ13_init_0 : decode cJ13_init 0 = .ok (.aload_n 0, 1) := dk_42 (dk_at dksJ13_init_0 0 rfl rfl)
theorem dJ13_init_1 : decode cJ13_init 1 = .ok (.invokespecial 1, 3) := dk_183 0 1 (dk_at dksJ13_init_0 1 rfl rfl)
theorem dJ13_init_4 : decode cJ13_init 4 = .ok (.aload_n 0, 1) := dk_42 (dk_at dksJ13_init_0 4 rfl rfl)
theorem dJ13_init_5 : decode cJ13_init 5 = .ok (.aload_n 0, 1) := dk_42 (dk_at dksJ13_init_0 5 rfl rfl)
theorem dJ13_init_6 : decode cJ13_init 6 = .ok (.putfield 7, 3) := dk_181 0 7 (dk_at dksJ13_init_0 6 rfl rfl)
theorem dJ13_init_9 : decode cJ13_init 9 = .ok (.aload_n 0, 1) := dk_42 (dk_at dksJ13_init_0 9 rfl rfl)
theorem dJ13_init_10 : decode cJ13_init 10 = .ok (.getstatic 13, 3) := dk_178 0 13 (dk_at dksJ13_init_0 10 rfl rfl)
theorem dJ13_init_13 : decode cJ13_init 13 = .ok (.putfield 17, 3) := dk_181 0 17 (dk_at dksJ13_init_0 13 rfl rfl)
theorem dJ13_init_16 : decode cJ13_init 16 = .ok (.aload_n 0, 1) := dk_42 (dk_at dksJ13_init_0 16 rfl rfl)
theorem dJ13_init_17 : decode cJ13_init 17 = .ok (.getstatic 20, 3) := dk_178 0 20 (dk_at dksJ13_init_0 17 rfl rfl)
theorem dJ13_init_20 : decode cJ13_init 20 = .ok (.putfield 24, 3) := dk_181 0 24 (dk_at dksJ13_init_0 20 rfl rfl)
theorem dJ13_init_23 : decode cJ13_init 23 = .ok (.aload_n 0, 1) := dk_42 (dk_at dksJ13_init_0 23 rfl rfl)
theorem dJ13_init_24 : decode cJ13_init 24 = .ok (.invokevirtual 27, 3) := dk_182 0 27 (dk_at dksJ13_init_1 0 rfl rfl)
theorem dJ13_init_27 : decode cJ13_init 27 = .ok (.pop, 1) := dk_87 (dk_at dksJ13_init_1 3 rfl rfl)
theorem dJ13_init_28 : decode cJ13_init 28 = .ok (.return_, 1) := dk_177 (dk_at dksJ13_init_1 4 rfl rfl)
theorem q130 : (Jvm.Cond.initialized "java/lang/Throwable") ∈ lw_all := lw_g (lw_at lw_m1 22 rfl) rfl
theorem q767 : (Jvm.Cond.declares ({ cls := "java/lang/Throwable", name := "<init>", desc := "()V" } : Jvm.MethodName)) ∈ lw_tbl := lw_at lw_m3 179 rfl
theorem q768 : (Jvm.Cond.declares ({ cls := "java/lang/Throwable", name := "<init>", desc := "(Ljava/lang/String;)V" } : Jvm.MethodName)) ∈ lw_tbl := lw_at lw_m3 180 rfl
theorem q772 : (Jvm.Cond.lays "java/lang/Throwable" "java/lang/Throwable" "cause" "Ljava/lang/Throwable;") ∈ lw_all := lw_g (lw_at lw_m3 184 rfl) rfl
theorem q774 : (Jvm.Cond.lays "java/lang/Throwable" "java/lang/Throwable" "stackTrace" "[Ljava/lang/StackTraceElement;") ∈ lw_all := lw_g (lw_at lw_m3 186 rfl) rfl
theorem q776 : (Jvm.Cond.lays "java/lang/Throwable" "java/lang/Throwable" "suppressedExceptions" "Ljava/util/List;") ∈ lw_all := lw_g (lw_at lw_m3 188 rfl) rfl
theorem q778 : (Jvm.Cond.lays "java/lang/Throwable" "java/lang/Throwable" "detailMessage" "Ljava/lang/String;") ∈ lw_all := lw_g (lw_at lw_m3 190 rfl) rfl
theorem q780 : (Jvm.Cond.lays "java/lang/Throwable" "java/lang/Throwable" "backtrace" "Ljava/lang/Object;") ∈ lw_all := lw_g (lw_at lw_m3 192 rfl) rfl
theorem q781 : (Jvm.Cond.fieldLink "java/lang/Throwable" (198 : Nat) "java/lang/Throwable" "backtrace" "Ljava/lang/Object;") ∈ lw_all := lw_g (lw_at lw_m3 193 rfl) rfl
theorem q782 : (Jvm.Cond.superclass "java/lang/Throwable" "java/lang/Object") ∈ lw_all := lw_g (lw_at lw_m3 194 rfl) rfl
theorem q783 : (Jvm.Cond.instanceMethod ({ cls := "java/lang/Throwable", name := "<init>", desc := "()V" } : Jvm.MethodName)) ∈ lw_all := lw_g (lw_at lw_m3 195 rfl) rfl
theorem q784 : (Jvm.Cond.code ({ cls := "java/lang/Throwable", name := "<init>", desc := "()V" } : Jvm.MethodName) prog_43_method_1_code (1 : Nat) (Option.none : Option Jvm.ClassFile.FieldType)) ∈ lw_all := lw_g (lw_at lw_m3 196 rfl) rfl
theorem q785 : (Jvm.Cond.methodLink "java/lang/Throwable" (1 : Nat) ({ cls := "java/lang/Object", name := "<init>", desc := "()V" } : Jvm.MethodName)) ∈ lw_all := lw_g (lw_at lw_m3 197 rfl) rfl
theorem q786 : (Jvm.Cond.fieldLink "java/lang/Throwable" (13 : Nat) "java/lang/Throwable" "UNASSIGNED_STACK" "[Ljava/lang/StackTraceElement;") ∈ lw_all := lw_g (lw_at lw_m3 198 rfl) rfl
theorem q787 : (Jvm.Cond.laysStatic "java/lang/Throwable" "UNASSIGNED_STACK" "[Ljava/lang/StackTraceElement;") ∈ lw_tbl := lw_at lw_m3 199 rfl
theorem q788 : (Jvm.Cond.fieldLink "java/lang/Throwable" (20 : Nat) "java/lang/Throwable" "SUPPRESSED_SENTINEL" "Ljava/util/List;") ∈ lw_all := lw_g (lw_at lw_m3 200 rfl) rfl
theorem q789 : (Jvm.Cond.laysStatic "java/lang/Throwable" "SUPPRESSED_SENTINEL" "Ljava/util/List;") ∈ lw_tbl := lw_at lw_m3 201 rfl
theorem q790 : (Jvm.Cond.methodLink "java/lang/Throwable" (27 : Nat) ({ cls := "java/lang/Throwable", name := "fillInStackTrace", desc := "()Ljava/lang/Throwable;" } : Jvm.MethodName)) ∈ lw_all := lw_g (lw_at lw_m3 202 rfl) rfl
theorem q791 : (Jvm.Cond.instanceMethod ({ cls := "java/lang/Throwable", name := "fillInStackTrace", desc := "()Ljava/lang/Throwable;" } : Jvm.MethodName)) ∈ lw_all := lw_g (lw_at lw_m3 203 rfl) rfl
theorem q792 : (Jvm.Cond.sameMethod "java/lang/Throwable" "java/lang/Throwable" "fillInStackTrace" "()Ljava/lang/Throwable;") ∈ lw_all := lw_g (lw_at lw_m3 204 rfl) rfl
theorem q794 : (Jvm.Cond.codeSync ({ cls := "java/lang/Throwable", name := "fillInStackTrace", desc := "()Ljava/lang/Throwable;" } : Jvm.MethodName) prog_43_method_18_code (1 : Nat) (Option.some (Jvm.ClassFile.FieldType.object "java/lang/Throwable"))) ∈ lw_all := lw_g (lw_at lw_m3 206 rfl) rfl
theorem q795 : (Jvm.Cond.methodLink "java/lang/Throwable" (202 : Nat) ({ cls := "java/lang/Throwable", name := "fillInStackTrace", desc := "(I)Ljava/lang/Throwable;" } : Jvm.MethodName)) ∈ lw_all := lw_g (lw_at lw_m3 207 rfl) rfl
theorem q796 : (Jvm.Cond.privateMethod ({ cls := "java/lang/Throwable", name := "fillInStackTrace", desc := "(I)Ljava/lang/Throwable;" } : Jvm.MethodName)) ∈ lw_tbl := lw_at lw_m3 208 rfl
theorem q797 : (Jvm.Cond.instanceMethod ({ cls := "java/lang/Throwable", name := "fillInStackTrace", desc := "(I)Ljava/lang/Throwable;" } : Jvm.MethodName)) ∈ lw_all := lw_g (lw_at lw_m3 209 rfl) rfl
theorem q798 : (Jvm.Cond.instantiable "java/lang/Throwable" (6 : Nat)) ∈ lw_all := lw_g (lw_at lw_m3 210 rfl) rfl
theorem q799 : (Jvm.Cond.native ({ cls := "java/lang/Throwable", name := "fillInStackTrace", desc := "(I)Ljava/lang/Throwable;" } : Jvm.MethodName)) ∈ lw_all := lw_g (lw_at lw_m3 211 rfl) rfl
theorem q811 : (Jvm.Cond.fieldLink "java/lang/Throwable" (198 : Nat) "java/lang/Throwable" "backtrace" "Ljava/lang/Object;") ∈ lw_all := lw_g (lw_at lw_m3 223 rfl) rfl
theorem q812 : (Jvm.Cond.fieldLink "java/lang/Throwable" (7 : Nat) "java/lang/Throwable" "cause" "Ljava/lang/Throwable;") ∈ lw_all := lw_g (lw_at lw_m3 224 rfl) rfl
theorem q813 : (Jvm.Cond.fieldLink "java/lang/Throwable" (17 : Nat) "java/lang/Throwable" "stackTrace" "[Ljava/lang/StackTraceElement;") ∈ lw_all := lw_g (lw_at lw_m3 225 rfl) rfl
theorem q814 : (Jvm.Cond.fieldLink "java/lang/Throwable" (24 : Nat) "java/lang/Throwable" "suppressedExceptions" "Ljava/util/List;") ∈ lw_all := lw_g (lw_at lw_m3 226 rfl) rfl
theorem q819 : (Jvm.Cond.soleField "java/lang/Throwable" "backtrace") ∈ lw_all := lw_g (lw_at lw_m3 231 rfl) rfl
theorem q820 : (Jvm.Cond.soleField "java/lang/Throwable" "detailMessage") ∈ lw_all := lw_g (lw_at lw_m3 232 rfl) rfl
theorem q821 : (Jvm.Cond.soleField "java/lang/Throwable" "cause") ∈ lw_all := lw_g (lw_at lw_m3 233 rfl) rfl
theorem q822 : (Jvm.Cond.soleField "java/lang/Throwable" "stackTrace") ∈ lw_all := lw_g (lw_at lw_m3 234 rfl) rfl
theorem q824 : (Jvm.Cond.soleField "java/lang/Throwable" "depth") ∈ lw_all := lw_g (lw_at lw_m3 236 rfl) rfl
theorem q825 : (Jvm.Cond.soleField "java/lang/Throwable" "suppressedExceptions") ∈ lw_all := lw_g (lw_at lw_m3 237 rfl) rfl
theorem q2520 : (Jvm.Cond.sameMethod "java/lang/Throwable" "java/lang/Throwable" "fillInStackTrace" "(I)Ljava/lang/Throwable;") ∈ lw_all := lw_g (lw_at lw_m11 12 rfl) rfl
theorem q2573 : (Jvm.Cond.castable "java/lang/Throwable" "java/lang/Object") ∈ lw_tbl := lw_at lw_m11 65 rfl

/-! java/lang/Exception -/
set_option maxRecDepth 100000
abbrev cJ14_init : ByteArray := prog_33_method_1_code
def yJ14_init : MethodName := ⟨RJ14, "<init>", "()V"⟩
theorem dJ14_init_0 : decode cJ14_init 0 = .ok (.aload_n 0, 1) := by decide +kernel
theorem dJ14_init_1 : decode cJ14_init 1 = .ok (.invokespecial 1, 3) := by decide +kernel
theorem dJ14_init_4 : decode cJ14_init 4 = .ok (.return_, 1) := by decide +kernel
theorem q131 : (Jvm.Cond.initialized "java/lang/Exception") ∈ lw_all := lw_g (lw_at lw_m1 23 rfl) rfl
theorem q765 : (Jvm.Cond.declares ({ cls := "java/lang/Exception", name := "<init>", desc := "()V" } : Jvm.MethodName)) ∈ lw_tbl := lw_at lw_m3 177 rfl
theorem q766 : (Jvm.Cond.declares ({ cls := "java/lang/Exception", name := "<init>", desc := "(Ljava/lang/String;)V" } : Jvm.MethodName)) ∈ lw_tbl := lw_at lw_m3 178 rfl
theorem q804 : (Jvm.Cond.instanceMethod ({ cls := "java/lang/Exception", name := "<init>", desc := "()V" } : Jvm.MethodName)) ∈ lw_all := lw_g (lw_at lw_m3 216 rfl) rfl
theorem q805 : (Jvm.Cond.code ({ cls := "java/lang/Exception", name := "<init>", desc := "()V" } : Jvm.MethodName) prog_33_method_1_code (1 : Nat) (Option.none : Option Jvm.ClassFile.FieldType)) ∈ lw_all := lw_g (lw_at lw_m3 217 rfl) rfl
theorem q806 : (Jvm.Cond.methodLink "java/lang/Exception" (1 : Nat) ({ cls := "java/lang/Throwable", name := "<init>", desc := "()V" } : Jvm.MethodName)) ∈ lw_all := lw_g (lw_at lw_m3 218 rfl) rfl

/-! java/lang/RuntimeException -/
set_option maxRecDepth 100000
abbrev cJ15_init : ByteArray := prog_37_method_1_code
def yJ15_init : MethodName := ⟨RJ15, "<init>", "()V"⟩
theorem dJ15_init_0 : decode cJ15_init 0 = .ok (.aload_n 0, 1) := by decide +kernel
theorem dJ15_init_1 : decode cJ15_init 1 = .ok (.invokespecial 1, 3) := by decide +kernel
theorem dJ15_init_4 : decode cJ15_init 4 = .ok (.return_, 1) := by decide +kernel
theorem q136 : (Jvm.Cond.initialized "java/lang/RuntimeException") ∈ lw_all := lw_g (lw_at lw_m1 28 rfl) rfl
theorem q1859 : (Jvm.Cond.declares ({ cls := "java/lang/RuntimeException", name := "<init>", desc := "()V" } : Jvm.MethodName)) ∈ lw_tbl := lw_at lw_m8 71 rfl
theorem q1860 : (Jvm.Cond.declares ({ cls := "java/lang/RuntimeException", name := "<init>", desc := "(Ljava/lang/String;)V" } : Jvm.MethodName)) ∈ lw_tbl := lw_at lw_m8 72 rfl
theorem q1871 : (Jvm.Cond.instanceMethod ({ cls := "java/lang/RuntimeException", name := "<init>", desc := "()V" } : Jvm.MethodName)) ∈ lw_all := lw_g (lw_at lw_m8 83 rfl) rfl
theorem q1872 : (Jvm.Cond.code ({ cls := "java/lang/RuntimeException", name := "<init>", desc := "()V" } : Jvm.MethodName) prog_37_method_1_code (1 : Nat) (Option.none : Option Jvm.ClassFile.FieldType)) ∈ lw_all := lw_g (lw_at lw_m8 84 rfl) rfl
theorem q1873 : (Jvm.Cond.methodLink "java/lang/RuntimeException" (1 : Nat) ({ cls := "java/lang/Exception", name := "<init>", desc := "()V" } : Jvm.MethodName)) ∈ lw_all := lw_g (lw_at lw_m8 85 rfl) rfl

/-! java/util/NoSuchElementException -/
set_option maxRecDepth 100000
abbrev cJ16_init : ByteArray := prog_52_method_1_code
def yJ16_init : MethodName := ⟨RJ16, "<init>", "()V"⟩
theorem dJ16_init_0 : decode cJ16_init 0 = .ok (.aload_n 0, 1) := by decide +kernel
theorem dJ16_init_1 : decode cJ16_init 1 = .ok (.invokespecial 1, 3) := by decide +kernel
theorem dJ16_init_4 : decode cJ16_init 4 = .ok (.return_, 1) := by decide +kernel
theorem q137 : (Jvm.Cond.initialized "java/util/NoSuchElementException") ∈ lw_all := lw_g (lw_at lw_m1 29 rfl) rfl
theorem q793 : (Jvm.Cond.selects "java/util/NoSuchElementException" ({ cls := "java/lang/Throwable", name := "fillInStackTrace", desc := "()Ljava/lang/Throwable;" } : Jvm.MethodName) ({ cls := "java/lang/Throwable", name := "fillInStackTrace", desc := "()Ljava/lang/Throwable;" } : Jvm.MethodName)) ∈ lw_all := lw_g (lw_at lw_m3 205 rfl) rfl
theorem q997 : (Jvm.Cond.selects "java/util/NoSuchElementException" ({ cls := "java/lang/Object", name := "getClass", desc := "()Ljava/lang/Class;" } : Jvm.MethodName) ({ cls := "java/lang/Object", name := "getClass", desc := "()Ljava/lang/Class;" } : Jvm.MethodName)) ∈ lw_all := lw_g (lw_at lw_m4 169 rfl) rfl
theorem q1857 : (Jvm.Cond.instantiable "java/util/NoSuchElementException" (6 : Nat)) ∈ lw_all := lw_g (lw_at lw_m8 69 rfl) rfl
theorem q1858 : (Jvm.Cond.castable "java/util/NoSuchElementException" "java/util/NoSuchElementException") ∈ lw_tbl := lw_at lw_m8 70 rfl
theorem q1861 : (Jvm.Cond.selects "java/util/NoSuchElementException" ({ cls := "java/lang/Throwable", name := "fillInStackTrace", desc := "(I)Ljava/lang/Throwable;" } : Jvm.MethodName) ({ cls := "java/lang/Throwable", name := "fillInStackTrace", desc := "(I)Ljava/lang/Throwable;" } : Jvm.MethodName)) ∈ lw_all := lw_g (lw_at lw_m8 73 rfl) rfl
theorem q1862 : (Jvm.Cond.lays "java/util/NoSuchElementException" "java/lang/Throwable" "cause" "Ljava/lang/Throwable;") ∈ lw_all := lw_g (lw_at lw_m8 74 rfl) rfl
theorem q1863 : (Jvm.Cond.lays "java/util/NoSuchElementException" "java/lang/Throwable" "stackTrace" "[Ljava/lang/StackTraceElement;") ∈ lw_all := lw_g (lw_at lw_m8 75 rfl) rfl
theorem q1864 : (Jvm.Cond.lays "java/util/NoSuchElementException" "java/lang/Throwable" "suppressedExceptions" "Ljava/util/List;") ∈ lw_all := lw_g (lw_at lw_m8 76 rfl) rfl
theorem q1865 : (Jvm.Cond.lays "java/util/NoSuchElementException" "java/lang/Throwable" "detailMessage" "Ljava/lang/String;") ∈ lw_all := lw_g (lw_at lw_m8 77 rfl) rfl
theorem q1866 : (Jvm.Cond.lays "java/util/NoSuchElementException" "java/lang/Throwable" "backtrace" "Ljava/lang/Object;") ∈ lw_all := lw_g (lw_at lw_m8 78 rfl) rfl
theorem q1868 : (Jvm.Cond.instanceMethod ({ cls := "java/util/NoSuchElementException", name := "<init>", desc := "()V" } : Jvm.MethodName)) ∈ lw_all := lw_g (lw_at lw_m8 80 rfl) rfl
theorem q1869 : (Jvm.Cond.code ({ cls := "java/util/NoSuchElementException", name := "<init>", desc := "()V" } : Jvm.MethodName) prog_52_method_1_code (1 : Nat) (Option.none : Option Jvm.ClassFile.FieldType)) ∈ lw_all := lw_g (lw_at lw_m8 81 rfl) rfl
theorem q1870 : (Jvm.Cond.methodLink "java/util/NoSuchElementException" (1 : Nat) ({ cls := "java/lang/RuntimeException", name := "<init>", desc := "()V" } : Jvm.MethodName)) ∈ lw_all := lw_g (lw_at lw_m8 82 rfl) rfl
theorem q1874 : (Jvm.Cond.lays "java/util/NoSuchElementException" "java/lang/Throwable" "depth" "I") ∈ lw_all := lw_g (lw_at lw_m8 86 rfl) rfl
theorem q1875 : (Jvm.Cond.superclass "java/util/NoSuchElementException" "java/lang/RuntimeException") ∈ lw_all := lw_g (lw_at lw_m8 87 rfl) rfl
theorem q2561 : (Jvm.Cond.castable "java/util/NoSuchElementException" "java/lang/Object") ∈ lw_tbl := lw_at lw_m11 53 rfl

/-! java/lang/Integer -/
set_option maxRecDepth 100000
abbrev cJ17_bitCount : ByteArray := prog_34_method_49_code
def yJ17_bitCount : MethodName := ⟨RJ17, "bitCount", "(I)I"⟩
def dkwJ17_bitCount_2 : List UInt8 := [26, 16, 63, 126, 172]
abbrev dktJ17_bitCount_2 : List UInt8 := dkwJ17_bitCount_2 ++ []
def dkwJ17_bitCount_1 : List UInt8 := [26, 26, 7, 124, 96, 19, 1, 11, 126, 59, 26, 26, 16, 8, 124, 96, 59, 26, 26, 16, 16, 124, 96, 59]
abbrev dktJ17_bitCount_1 : List UInt8 := dkwJ17_bitCount_1 ++ dktJ17_bitCount_2
def dkwJ17_bitCount_0 : List UInt8 := [26, 26, 4, 124, 19, 1, 9, 126, 100, 59, 26, 19, 1, 10, 126, 26, 5, 124, 19, 1, 10, 126, 96, 59]
abbrev dktJ17_bitCount_0 : List UInt8 := dkwJ17_bitCount_0 ++ dktJ17_bitCount_1
theorem dksJ17_bitCount_0 : cJ17_bitCount.data.toList.drop 0 = dktJ17_bitCount_0 := by decide +kernel
theorem dksJ17_bitCount_1 : cJ17_bitCount.data.toList.drop 24 = dktJ17_bitCount_1 := dk_seg dksJ17_bitCount_0 24 rfl rfl
theorem dksJ17_bitCount_2 : cJ17_bitCount.data.toList.drop 48 = dktJ17_bitCount_2 := dk_seg dksJ17_bitCount_1 24 rfl rfl
theorem dJ17_bitCount_0 : decode cJ17_bitCount 0 = .ok (.iload_n 0, 1) := dk_26 (dk_at dksJ17_bitCount_0 0 rfl rfl)
theorem dJ17_bitCount_1 : decode cJ17_bitCount 1 = .ok (.iload_n 0, 1) := dk_26 (dk_at dksJ17_bitCount_0 1 rfl rfl)
theorem dJ17_bitCount_2 : decode cJ17_bitCount 2 = .ok (.iconst 1, 1) := dk_4 (dk_at dksJ17_bitCount_0 2 rfl rfl)
theorem dJ17_bitCount_3 : decode cJ17_bitCount 3 = .ok (.iushr, 1) := dk_124 (dk_at dksJ17_bitCount_0 3 rfl rfl)
theorem dJ17_bitCount_4 : decode cJ17_bitCount 4 = .ok (.ldc_w 265, 3) := dk_19 1 9 (dk_at dksJ17_bitCount_0 4 rfl rfl)
theorem dJ17_bitCount_7 : decode cJ17_bitCount 7 = .ok (.iand, 1) := dk_126 (dk_at dksJ17_bitCount_0 7 rfl rfl)
theorem dJ17_bitCount_8 : decode cJ17_bitCount 8 = .ok (.isub, 1) := dk_100 (dk_at dksJ17_bitCount_0 8 rfl rfl)
theorem dJ17_bitCount_9 : decode cJ17_bitCount 9 = .ok (.istore_n 0, 1) := dk_59 (dk_at dksJ17_bitCount_0 9 rfl rfl)
theorem dJ17_bitCount_10 : decode cJ17_bitCount 10 = .ok (.iload_n 0, 1) := dk_26 (dk_at dksJ17_bitCount_0 10 rfl rfl)
theorem dJ17_bitCount_11 : decode cJ17_bitCount 11 = .ok (.ldc_w 266, 3) := dk_19 1 10 (dk_at dksJ17_bitCount_0 11 rfl rfl)
theorem dJ17_bitCount_14 : decode cJ17_bitCount 14 = .ok (.iand, 1) := dk_126 (dk_at dksJ17_bitCount_0 14 rfl rfl)
theorem dJ17_bitCount_15 : decode cJ17_bitCount 15 = .ok (.iload_n 0, 1) := dk_26 (dk_at dksJ17_bitCount_0 15 rfl rfl)
theorem dJ17_bitCount_16 : decode cJ17_bitCount 16 = .ok (.iconst 2, 1) := dk_5 (dk_at dksJ17_bitCount_0 16 rfl rfl)
theorem dJ17_bitCount_17 : decode cJ17_bitCount 17 = .ok (.iushr, 1) := dk_124 (dk_at dksJ17_bitCount_0 17 rfl rfl)
theorem dJ17_bitCount_18 : decode cJ17_bitCount 18 = .ok (.ldc_w 266, 3) := dk_19 1 10 (dk_at dksJ17_bitCount_0 18 rfl rfl)
theorem dJ17_bitCount_21 : decode cJ17_bitCount 21 = .ok (.iand, 1) := dk_126 (dk_at dksJ17_bitCount_0 21 rfl rfl)
theorem dJ17_bitCount_22 : decode cJ17_bitCount 22 = .ok (.iadd, 1) := dk_96 (dk_at dksJ17_bitCount_0 22 rfl rfl)
theorem dJ17_bitCount_23 : decode cJ17_bitCount 23 = .ok (.istore_n 0, 1) := dk_59 (dk_at dksJ17_bitCount_0 23 rfl rfl)
theorem dJ17_bitCount_24 : decode cJ17_bitCount 24 = .ok (.iload_n 0, 1) := dk_26 (dk_at dksJ17_bitCount_1 0 rfl rfl)
theorem dJ17_bitCount_25 : decode cJ17_bitCount 25 = .ok (.iload_n 0, 1) := dk_26 (dk_at dksJ17_bitCount_1 1 rfl rfl)
theorem dJ17_bitCount_26 : decode cJ17_bitCount 26 = .ok (.iconst 4, 1) := dk_7 (dk_at dksJ17_bitCount_1 2 rfl rfl)
theorem dJ17_bitCount_27 : decode cJ17_bitCount 27 = .ok (.iushr, 1) := dk_124 (dk_at dksJ17_bitCount_1 3 rfl rfl)
theorem dJ17_bitCount_28 : decode cJ17_bitCount 28 = .ok (.iadd, 1) := dk_96 (dk_at dksJ17_bitCount_1 4 rfl rfl)
theorem dJ17_bitCount_29 : decode cJ17_bitCount 29 = .ok (.ldc_w 267, 3) := dk_19 1 11 (dk_at dksJ17_bitCount_1 5 rfl rfl)
theorem dJ17_bitCount_32 : decode cJ17_bitCount 32 = .ok (.iand, 1) := dk_126 (dk_at dksJ17_bitCount_1 8 rfl rfl)
theorem dJ17_bitCount_33 : decode cJ17_bitCount 33 = .ok (.istore_n 0, 1) := dk_59 (dk_at dksJ17_bitCount_1 9 rfl rfl)
theorem dJ17_bitCount_34 : decode cJ17_bitCount 34 = .ok (.iload_n 0, 1) := dk_26 (dk_at dksJ17_bitCount_1 10 rfl rfl)
theorem dJ17_bitCount_35 : decode cJ17_bitCount 35 = .ok (.iload_n 0, 1) := dk_26 (dk_at dksJ17_bitCount_1 11 rfl rfl)
theorem dJ17_bitCount_36 : decode cJ17_bitCount 36 = .ok (.bipush 8, 2) := dk_16 8 (dk_at dksJ17_bitCount_1 12 rfl rfl)
theorem dJ17_bitCount_38 : decode cJ17_bitCount 38 = .ok (.iushr, 1) := dk_124 (dk_at dksJ17_bitCount_1 14 rfl rfl)
theorem dJ17_bitCount_39 : decode cJ17_bitCount 39 = .ok (.iadd, 1) := dk_96 (dk_at dksJ17_bitCount_1 15 rfl rfl)
theorem dJ17_bitCount_40 : decode cJ17_bitCount 40 = .ok (.istore_n 0, 1) := dk_59 (dk_at dksJ17_bitCount_1 16 rfl rfl)
theorem dJ17_bitCount_41 : decode cJ17_bitCount 41 = .ok (.iload_n 0, 1) := dk_26 (dk_at dksJ17_bitCount_1 17 rfl rfl)
theorem dJ17_bitCount_42 : decode cJ17_bitCount 42 = .ok (.iload_n 0, 1) := dk_26 (dk_at dksJ17_bitCount_1 18 rfl rfl)
theorem dJ17_bitCount_43 : decode cJ17_bitCount 43 = .ok (.bipush 16, 2) := dk_16 16 (dk_at dksJ17_bitCount_1 19 rfl rfl)
theorem dJ17_bitCount_45 : decode cJ17_bitCount 45 = .ok (.iushr, 1) := dk_124 (dk_at dksJ17_bitCount_1 21 rfl rfl)
theorem dJ17_bitCount_46 : decode cJ17_bitCount 46 = .ok (.iadd, 1) := dk_96 (dk_at dksJ17_bitCount_1 22 rfl rfl)
theorem dJ17_bitCount_47 : decode cJ17_bitCount 47 = .ok (.istore_n 0, 1) := dk_59 (dk_at dksJ17_bitCount_1 23 rfl rfl)
theorem dJ17_bitCount_48 : decode cJ17_bitCount 48 = .ok (.iload_n 0, 1) := dk_26 (dk_at dksJ17_bitCount_2 0 rfl rfl)
theorem dJ17_bitCount_49 : decode cJ17_bitCount 49 = .ok (.bipush 63, 2) := dk_16 63 (dk_at dksJ17_bitCount_2 1 rfl rfl)
theorem dJ17_bitCount_51 : decode cJ17_bitCount 51 = .ok (.iand, 1) := dk_126 (dk_at dksJ17_bitCount_2 3 rfl rfl)
theorem dJ17_bitCount_52 : decode cJ17_bitCount 52 = .ok (.ireturn, 1) := dk_172 (dk_at dksJ17_bitCount_2 4 rfl rfl)
theorem q143 : (Jvm.Cond.initialized "java/lang/Integer") ∈ lw_all := lw_g (lw_at lw_m1 35 rfl) rfl
theorem q1469 : (Jvm.Cond.static ({ cls := "java/lang/Integer", name := "bitCount", desc := "(I)I" } : Jvm.MethodName)) ∈ lw_all := lw_g (lw_at lw_m6 161 rfl) rfl
theorem q1470 : (Jvm.Cond.code ({ cls := "java/lang/Integer", name := "bitCount", desc := "(I)I" } : Jvm.MethodName) prog_34_method_49_code (1 : Nat) (Option.some Jvm.ClassFile.FieldType.int)) ∈ lw_all := lw_g (lw_at lw_m6 162 rfl) rfl
theorem q1471 : (Jvm.Cond.constant "java/lang/Integer" (265 : Nat) (1431655765 : Int32)) ∈ lw_all := lw_g (lw_at lw_m6 163 rfl) rfl
theorem q1472 : (Jvm.Cond.constant "java/lang/Integer" (266 : Nat) (858993459 : Int32)) ∈ lw_all := lw_g (lw_at lw_m6 164 rfl) rfl
theorem q1473 : (Jvm.Cond.constant "java/lang/Integer" (267 : Nat) (252645135 : Int32)) ∈ lw_all := lw_g (lw_at lw_m6 165 rfl) rfl

/-! java/lang/Object -/
set_option maxRecDepth 100000
abbrev cJ18_init : ByteArray := object_method_1_code
def yJ18_init : MethodName := ⟨RJ18, "<init>", "()V"⟩
theorem dJ18_init_0 : decode cJ18_init 0 = .ok (.return_, 1) := by decide +kernel
theorem q159 : (Jvm.Cond.instanceMethod ({ cls := "java/lang/Object", name := "<init>", desc := "()V" } : Jvm.MethodName)) ∈ lw_all := lw_g (lw_at lw_m1 51 rfl) rfl
theorem q160 : (Jvm.Cond.code ({ cls := "java/lang/Object", name := "<init>", desc := "()V" } : Jvm.MethodName) object_method_1_code (1 : Nat) (Option.none : Option Jvm.ClassFile.FieldType)) ∈ lw_all := lw_g (lw_at lw_m1 52 rfl) rfl
theorem q610 : (Jvm.Cond.native ({ cls := "java/lang/Object", name := "clone", desc := "()Ljava/lang/Object;" } : Jvm.MethodName)) ∈ lw_all := lw_g (lw_at lw_m3 22 rfl) rfl
theorem q611 : (Jvm.Cond.instanceMethod ({ cls := "java/lang/Object", name := "clone", desc := "()Ljava/lang/Object;" } : Jvm.MethodName)) ∈ lw_all := lw_g (lw_at lw_m3 23 rfl) rfl
theorem q971 : (Jvm.Cond.instanceMethod ({ cls := "java/lang/Object", name := "getClass", desc := "()Ljava/lang/Class;" } : Jvm.MethodName)) ∈ lw_all := lw_g (lw_at lw_m4 143 rfl) rfl
theorem q972 : (Jvm.Cond.sameMethod "java/lang/Object" "java/lang/Object" "getClass" "()Ljava/lang/Class;") ∈ lw_all := lw_g (lw_at lw_m4 144 rfl) rfl
theorem q998 : (Jvm.Cond.native ({ cls := "java/lang/Object", name := "getClass", desc := "()Ljava/lang/Class;" } : Jvm.MethodName)) ∈ lw_all := lw_g (lw_at lw_m4 170 rfl) rfl
theorem q2541 : (Jvm.Cond.initialized "java/lang/Object") ∈ lw_all := lw_g (lw_at lw_m11 33 rfl) rfl
theorem q2576 : (Jvm.Cond.declares ({ cls := "java/lang/Object", name := "getClass", desc := "()Ljava/lang/Class;" } : Jvm.MethodName)) ∈ lw_tbl := lw_at lw_m11 68 rfl

theorem q609 : (Jvm.Cond.sameMethod "[B" "java/lang/Object" "clone" "()Ljava/lang/Object;") ∈ lw_all := lw_g (lw_at lw_m3 21 rfl) rfl
set_option maxRecDepth 100000
theorem q612 : (Jvm.Cond.selects "[B" ({ cls := "[B", name := "clone", desc := "()Ljava/lang/Object;" } : Jvm.MethodName) ({ cls := "java/lang/Object", name := "clone", desc := "()Ljava/lang/Object;" } : Jvm.MethodName)) ∈ lw_all := lw_g (lw_at lw_m3 24 rfl) rfl
theorem q613 : (Jvm.Cond.castable "[B" "java/lang/Cloneable") ∈ lw_tbl := lw_at lw_m3 25 rfl
theorem q2577 : (Jvm.Cond.castable "[B" "java/lang/Object") ∈ lw_tbl := lw_at lw_m11 69 rfl

theorem q2580 : (Jvm.Cond.castable "[I" "java/lang/Object") ∈ lw_tbl := lw_at lw_m11 72 rfl
set_option maxRecDepth 100000

theorem q2584 : (Jvm.Cond.castable "[J" "java/lang/Object") ∈ lw_tbl := lw_at lw_m11 76 rfl
set_option maxRecDepth 100000

theorem q2582 : (Jvm.Cond.castable "[LWellPromises$Image;" "java/lang/Object") ∈ lw_tbl := lw_at lw_m11 74 rfl
set_option maxRecDepth 100000

theorem q2581 : (Jvm.Cond.castable "[LWellPromises$Stay;" "java/lang/Object") ∈ lw_tbl := lw_at lw_m11 73 rfl
set_option maxRecDepth 100000

theorem q2574 : (Jvm.Cond.sameMethod "[Ljava/lang/Object;" "java/lang/Object" "getClass" "()Ljava/lang/Class;") ∈ lw_all := lw_g (lw_at lw_m11 66 rfl) rfl
set_option maxRecDepth 100000
theorem q2575 : (Jvm.Cond.selects "[Ljava/lang/Object;" ({ cls := "java/lang/Object", name := "getClass", desc := "()Ljava/lang/Class;" } : Jvm.MethodName) ({ cls := "java/lang/Object", name := "getClass", desc := "()Ljava/lang/Class;" } : Jvm.MethodName)) ∈ lw_all := lw_g (lw_at lw_m11 67 rfl) rfl
theorem q2583 : (Jvm.Cond.castable "[Ljava/lang/Object;" "java/lang/Object") ∈ lw_tbl := lw_at lw_m11 75 rfl

theorem q2579 : (Jvm.Cond.castable "[Z" "java/lang/Object") ∈ lw_tbl := lw_at lw_m11 71 rfl
set_option maxRecDepth 100000

theorem q2578 : (Jvm.Cond.castable "[[Z" "java/lang/Object") ∈ lw_tbl := lw_at lw_m11 70 rfl
set_option maxRecDepth 100000

theorem q128 : (Jvm.Cond.initialized "java/lang/System") ∈ lw_all := lw_g (lw_at lw_m1 20 rfl) rfl
set_option maxRecDepth 100000
theorem q619 : (Jvm.Cond.static ({ cls := "java/lang/System", name := "arraycopy", desc := "(Ljava/lang/Object;ILjava/lang/Object;II)V" } : Jvm.MethodName)) ∈ lw_all := lw_g (lw_at lw_m3 31 rfl) rfl
theorem q620 : (Jvm.Cond.native ({ cls := "java/lang/System", name := "arraycopy", desc := "(Ljava/lang/Object;ILjava/lang/Object;II)V" } : Jvm.MethodName)) ∈ lw_all := lw_g (lw_at lw_m3 32 rfl) rfl

theorem q193 : (Jvm.Cond.arrayClass Jvm.ClassFile.FieldType.byte) ∈ lw_all := lw_g (lw_at lw_m1 85 rfl) rfl
set_option maxRecDepth 100000
theorem q195 : (Jvm.Cond.arrayOver (Jvm.ClassFile.FieldType.array Jvm.ClassFile.FieldType.boolean)) ∈ lw_tbl := lw_at lw_m1 87 rfl
theorem q268 : (Jvm.Cond.arrayClass Jvm.ClassFile.FieldType.boolean) ∈ lw_all := lw_g (lw_at lw_m1 160 rfl) rfl
theorem q269 : (Jvm.Cond.arrayClass Jvm.ClassFile.FieldType.int) ∈ lw_all := lw_g (lw_at lw_m1 161 rfl) rfl
theorem q371 : (Jvm.Cond.arrayOver (Jvm.ClassFile.FieldType.object "WellPromises$Stay")) ∈ lw_tbl := lw_at lw_m2 23 rfl
theorem q374 : (Jvm.Cond.arrayOver (Jvm.ClassFile.FieldType.object "WellPromises$Image")) ∈ lw_tbl := lw_at lw_m2 26 rfl
theorem q1003 : (Jvm.Cond.arrayOver (Jvm.ClassFile.FieldType.object "java/lang/Object")) ∈ lw_tbl := lw_at lw_m4 175 rfl
theorem q2071 : (Jvm.Cond.arrayClass Jvm.ClassFile.FieldType.long) ∈ lw_all := lw_g (lw_at lw_m9 43 rfl) rfl

