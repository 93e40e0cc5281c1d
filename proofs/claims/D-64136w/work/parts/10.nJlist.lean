/-! java/util/AbstractCollection -/
set_option maxRecDepth 100000
def RJ4 : String := "java/util/AbstractCollection"
abbrev cJ4_init : ByteArray := prog_40_method_1_code
def yJ4_init : MethodName := ⟨RJ4, "<init>", "()V"⟩
theorem dJ4_init_0 : decode cJ4_init 0 = .ok (.aload_n 0, 1) := by decide +kernel
theorem dJ4_init_1 : decode cJ4_init 1 = .ok (.invokespecial 1, 3) := by decide +kernel
theorem dJ4_init_4 : decode cJ4_init 4 = .ok (.return_, 1) := by decide +kernel
theorem q88 : (Jvm.Cond.initialized "java/util/AbstractCollection") ∈ lw_all := lw_g (lw_at lw_m1 14 rfl) rfl
theorem q356 : (Jvm.Cond.instanceMethod ({ cls := "java/util/AbstractCollection", name := "<init>", desc := "()V" } : Jvm.MethodName)) ∈ lw_all := lw_g (lw_at lw_m2 42 rfl) rfl
theorem q357 : (Jvm.Cond.code ({ cls := "java/util/AbstractCollection", name := "<init>", desc := "()V" } : Jvm.MethodName) prog_40_method_1_code (1 : Nat) (Option.none : Option Jvm.ClassFile.FieldType)) ∈ lw_all := lw_g (lw_at lw_m2 43 rfl) rfl
theorem q358 : (Jvm.Cond.methodLink "java/util/AbstractCollection" (1 : Nat) ({ cls := "java/lang/Object", name := "<init>", desc := "()V" } : Jvm.MethodName)) ∈ lw_all := lw_g (lw_at lw_m2 44 rfl) rfl
/-! java/util/AbstractList -/
set_option maxRecDepth 100000
def RJ5 : String := "java/util/AbstractList"
abbrev cJ5_init : ByteArray := prog_41_method_1_code
def yJ5_init : MethodName := ⟨RJ5, "<init>", "()V"⟩
def dkwJ5_init_0 : List UInt8 := [42, 183, 0, 1, 42, 3, 181, 0, 7, 177]
abbrev dktJ5_init_0 : List UInt8 := dkwJ5_init_0 ++ []
theorem dksJ5_init_0 : cJ5_init.data.toList.drop 0 = dktJ5_init_0 := by decide +kernel
theorem dJ5_init_0 : decode cJ5_init 0 = .ok (.aload_n 0, 1) := dk_42 (dk_at dksJ5_init_0 0 rfl rfl)
theorem dJ5_init_1 : decode cJ5_init 1 = .ok (.invokespecial 1, 3) := dk_183 0 1 (dk_at dksJ5_init_0 1 rfl rfl)
theorem dJ5_init_4 : decode cJ5_init 4 = .ok (.aload_n 0, 1) := dk_42 (dk_at dksJ5_init_0 4 rfl rfl)
theorem dJ5_init_5 : decode cJ5_init 5 = .ok (.iconst 0, 1) := dk_3 (dk_at dksJ5_init_0 5 rfl rfl)
theorem dJ5_init_6 : decode cJ5_init 6 = .ok (.putfield 7, 3) := dk_181 0 7 (dk_at dksJ5_init_0 6 rfl rfl)
theorem dJ5_init_9 : decode cJ5_init 9 = .ok (.return_, 1) := dk_177 (dk_at dksJ5_init_0 9 rfl rfl)
theorem q89 : (Jvm.Cond.initialized "java/util/AbstractList") ∈ lw_all := lw_g (lw_at lw_m1 15 rfl) rfl
theorem q353 : (Jvm.Cond.instanceMethod ({ cls := "java/util/AbstractList", name := "<init>", desc := "()V" } : Jvm.MethodName)) ∈ lw_all := lw_g (lw_at lw_m2 39 rfl) rfl
theorem q354 : (Jvm.Cond.code ({ cls := "java/util/AbstractList", name := "<init>", desc := "()V" } : Jvm.MethodName) prog_41_method_1_code (1 : Nat) (Option.none : Option Jvm.ClassFile.FieldType)) ∈ lw_all := lw_g (lw_at lw_m2 40 rfl) rfl
theorem q355 : (Jvm.Cond.methodLink "java/util/AbstractList" (1 : Nat) ({ cls := "java/util/AbstractCollection", name := "<init>", desc := "()V" } : Jvm.MethodName)) ∈ lw_all := lw_g (lw_at lw_m2 41 rfl) rfl
theorem q363 : (Jvm.Cond.fieldLink "java/util/AbstractList" (7 : Nat) "java/util/AbstractList" "modCount" "I") ∈ lw_all := lw_g (lw_at lw_m2 49 rfl) rfl
theorem q371 : (Jvm.Cond.soleField "java/util/AbstractList" "modCount") ∈ lw_all := lw_g (lw_at lw_m2 57 rfl) rfl
/-! java/util/ArrayList -/
set_option maxRecDepth 100000
def RJ6 : String := "java/util/ArrayList"
def TJ6 : u_T := fun k => match k with
  | 0 => ("java/util/AbstractList", "modCount", "I", false)
  | 1 => ("java/util/ArrayList", "elementData", "[Ljava/lang/Object;", false)
  | _ => ("java/util/ArrayList", "size", "I", false)
def tyJ6 : Nat → FieldType := fun k => match k with
  | 0 => .int
  | 1 => .array (.object "java/lang/Object")
  | _ => .int
abbrev wsJ60 : List Cond := u_ws RJ6 TJ6 3
theorem nmJ6 : ∀ a, a < 3 → ∀ b, b < 3 → a ≠ b → (TJ6 a).2.1 ≠ (TJ6 b).2.1 := by decide +kernel
theorem tyJ6_ok : ∀ k, k < 3 → parseFieldDescriptor (TJ6 k).2.2.1 = some (tyJ6 k) := by decide +kernel
abbrev cJ6_init : ByteArray := prog_42_method_2_code
def yJ6_init : MethodName := ⟨RJ6, "<init>", "()V"⟩
def dkwJ6_init_0 : List UInt8 := [42, 183, 0, 1, 42, 178, 0, 39, 181, 0, 9, 177]
abbrev dktJ6_init_0 : List UInt8 := dkwJ6_init_0 ++ []
theorem dksJ6_init_0 : cJ6_init.data.toList.drop 0 = dktJ6_init_0 := by decide +kernel
theorem dJ6_init_0 : decode cJ6_init 0 = .ok (.aload_n 0, 1) := dk_42 (dk_at dksJ6_init_0 0 rfl rfl)
theorem dJ6_init_1 : decode cJ6_init 1 = .ok (.invokespecial 1, 3) := dk_183 0 1 (dk_at dksJ6_init_0 1 rfl rfl)
theorem dJ6_init_4 : decode cJ6_init 4 = .ok (.aload_n 0, 1) := dk_42 (dk_at dksJ6_init_0 4 rfl rfl)
theorem dJ6_init_5 : decode cJ6_init 5 = .ok (.getstatic 39, 3) := dk_178 0 39 (dk_at dksJ6_init_0 5 rfl rfl)
theorem dJ6_init_8 : decode cJ6_init 8 = .ok (.putfield 9, 3) := dk_181 0 9 (dk_at dksJ6_init_0 8 rfl rfl)
theorem dJ6_init_11 : decode cJ6_init 11 = .ok (.return_, 1) := dk_177 (dk_at dksJ6_init_0 11 rfl rfl)
abbrev cJ6_size : ByteArray := prog_42_method_8_code
def yJ6_size : MethodName := ⟨RJ6, "size", "()I"⟩
theorem dJ6_size_0 : decode cJ6_size 0 = .ok (.aload_n 0, 1) := by decide +kernel
theorem dJ6_size_1 : decode cJ6_size 1 = .ok (.getfield 48, 3) := by decide +kernel
theorem dJ6_size_4 : decode cJ6_size 4 = .ok (.ireturn, 1) := by decide +kernel
abbrev cJ6_get : ByteArray := prog_42_method_20_code
def yJ6_get : MethodName := ⟨RJ6, "get", "(I)Ljava/lang/Object;"⟩
def dkwJ6_get_0 : List UInt8 := [27, 42, 180, 0, 48, 184, 0, 118, 87, 42, 27, 182, 0, 123, 176]
abbrev dktJ6_get_0 : List UInt8 := dkwJ6_get_0 ++ []
theorem dksJ6_get_0 : cJ6_get.data.toList.drop 0 = dktJ6_get_0 := by decide +kernel
theorem dJ6_get_0 : decode cJ6_get 0 = .ok (.iload_n 1, 1) := dk_27 (dk_at dksJ6_get_0 0 rfl rfl)
theorem dJ6_get_1 : decode cJ6_get 1 = .ok (.aload_n 0, 1) := dk_42 (dk_at dksJ6_get_0 1 rfl rfl)
theorem dJ6_get_2 : decode cJ6_get 2 = .ok (.getfield 48, 3) := dk_180 0 48 (dk_at dksJ6_get_0 2 rfl rfl)
theorem dJ6_get_5 : decode cJ6_get 5 = .ok (.invokestatic 118, 3) := dk_184 0 118 (dk_at dksJ6_get_0 5 rfl rfl)
theorem dJ6_get_8 : decode cJ6_get 8 = .ok (.pop, 1) := dk_87 (dk_at dksJ6_get_0 8 rfl rfl)
theorem dJ6_get_9 : decode cJ6_get 9 = .ok (.aload_n 0, 1) := dk_42 (dk_at dksJ6_get_0 9 rfl rfl)
theorem dJ6_get_10 : decode cJ6_get 10 = .ok (.iload_n 1, 1) := dk_27 (dk_at dksJ6_get_0 10 rfl rfl)
theorem dJ6_get_11 : decode cJ6_get 11 = .ok (.invokevirtual 123, 3) := dk_182 0 123 (dk_at dksJ6_get_0 11 rfl rfl)
theorem dJ6_get_14 : decode cJ6_get 14 = .ok (.areturn, 1) := dk_176 (dk_at dksJ6_get_0 14 rfl rfl)
abbrev cJ6_elementData : ByteArray := prog_42_method_18_code
def yJ6_elementData : MethodName := ⟨RJ6, "elementData", "(I)Ljava/lang/Object;"⟩
def dkwJ6_elementData_0 : List UInt8 := [42, 180, 0, 9, 27, 50, 176]
abbrev dktJ6_elementData_0 : List UInt8 := dkwJ6_elementData_0 ++ []
theorem dksJ6_elementData_0 : cJ6_elementData.data.toList.drop 0 = dktJ6_elementData_0 := by decide +kernel
theorem dJ6_elementData_0 : decode cJ6_elementData 0 = .ok (.aload_n 0, 1) := dk_42 (dk_at dksJ6_elementData_0 0 rfl rfl)
theorem dJ6_elementData_1 : decode cJ6_elementData 1 = .ok (.getfield 9, 3) := dk_180 0 9 (dk_at dksJ6_elementData_0 1 rfl rfl)
theorem dJ6_elementData_4 : decode cJ6_elementData 4 = .ok (.iload_n 1, 1) := dk_27 (dk_at dksJ6_elementData_0 4 rfl rfl)
theorem dJ6_elementData_5 : decode cJ6_elementData 5 = .ok (.aaload, 1) := dk_50 (dk_at dksJ6_elementData_0 5 rfl rfl)
theorem dJ6_elementData_6 : decode cJ6_elementData 6 = .ok (.areturn, 1) := dk_176 (dk_at dksJ6_elementData_0 6 rfl rfl)
abbrev cJ6_add : ByteArray := prog_42_method_25_code
def yJ6_add : MethodName := ⟨RJ6, "add", "(Ljava/lang/Object;)Z"⟩
def dkwJ6_add_1 : List UInt8 := [172]
abbrev dktJ6_add_1 : List UInt8 := dkwJ6_add_1 ++ []
def dkwJ6_add_0 : List UInt8 := [42, 89, 180, 0, 63, 4, 96, 181, 0, 63, 42, 43, 42, 180, 0, 9, 42, 180, 0, 48, 182, 0, 131, 4]
abbrev dktJ6_add_0 : List UInt8 := dkwJ6_add_0 ++ dktJ6_add_1
theorem dksJ6_add_0 : cJ6_add.data.toList.drop 0 = dktJ6_add_0 := by decide +kernel
theorem dksJ6_add_1 : cJ6_add.data.toList.drop 24 = dktJ6_add_1 := dk_seg dksJ6_add_0 24 rfl rfl
theorem dJ6_add_0 : decode cJ6_add 0 = .ok (.aload_n 0, 1) := dk_42 (dk_at dksJ6_add_0 0 rfl rfl)
theorem dJ6_add_1 : decode cJ6_add 1 = .ok (.dup, 1) := dk_89 (dk_at dksJ6_add_0 1 rfl rfl)
theorem dJ6_add_2 : decode cJ6_add 2 = .ok (.getfield 63, 3) := dk_180 0 63 (dk_at dksJ6_add_0 2 rfl rfl)
theorem dJ6_add_5 : decode cJ6_add 5 = .ok (.iconst 1, 1) := dk_4 (dk_at dksJ6_add_0 5 rfl rfl)
theorem dJ6_add_6 : decode cJ6_add 6 = .ok (.iadd, 1) := dk_96 (dk_at dksJ6_add_0 6 rfl rfl)
theorem dJ6_add_7 : decode cJ6_add 7 = .ok (.putfield 63, 3) := dk_181 0 63 (dk_at dksJ6_add_0 7 rfl rfl)
theorem dJ6_add_10 : decode cJ6_add 10 = .ok (.aload_n 0, 1) := dk_42 (dk_at dksJ6_add_0 10 rfl rfl)
theorem dJ6_add_11 : decode cJ6_add 11 = .ok (.aload_n 1, 1) := dk_43 (dk_at dksJ6_add_0 11 rfl rfl)
theorem dJ6_add_12 : decode cJ6_add 12 = .ok (.aload_n 0, 1) := dk_42 (dk_at dksJ6_add_0 12 rfl rfl)
theorem dJ6_add_13 : decode cJ6_add 13 = .ok (.getfield 9, 3) := dk_180 0 9 (dk_at dksJ6_add_0 13 rfl rfl)
theorem dJ6_add_16 : decode cJ6_add 16 = .ok (.aload_n 0, 1) := dk_42 (dk_at dksJ6_add_0 16 rfl rfl)
theorem dJ6_add_17 : decode cJ6_add 17 = .ok (.getfield 48, 3) := dk_180 0 48 (dk_at dksJ6_add_0 17 rfl rfl)
theorem dJ6_add_20 : decode cJ6_add 20 = .ok (.invokevirtual 131, 3) := dk_182 0 131 (dk_at dksJ6_add_0 20 rfl rfl)
theorem dJ6_add_23 : decode cJ6_add 23 = .ok (.iconst 1, 1) := dk_4 (dk_at dksJ6_add_0 23 rfl rfl)
theorem dJ6_add_24 : decode cJ6_add 24 = .ok (.ireturn, 1) := dk_172 (dk_at dksJ6_add_1 0 rfl rfl)
abbrev cJ6_add_2 : ByteArray := prog_42_method_24_code
def yJ6_add_2 : MethodName := ⟨RJ6, "add", "(Ljava/lang/Object;[Ljava/lang/Object;I)V"⟩
def dkwJ6_add_2_0 : List UInt8 := [29, 44, 190, 160, 0, 8, 42, 182, 0, 129, 77, 44, 29, 43, 83, 42, 29, 4, 96, 181, 0, 48, 177]
abbrev dktJ6_add_2_0 : List UInt8 := dkwJ6_add_2_0 ++ []
theorem dksJ6_add_2_0 : cJ6_add_2.data.toList.drop 0 = dktJ6_add_2_0 := by decide +kernel
theorem dJ6_add_2_0 : decode cJ6_add_2 0 = .ok (.iload_n 3, 1) := dk_29 (dk_at dksJ6_add_2_0 0 rfl rfl)
theorem dJ6_add_2_1 : decode cJ6_add_2 1 = .ok (.aload_n 2, 1) := dk_44 (dk_at dksJ6_add_2_0 1 rfl rfl)
theorem dJ6_add_2_2 : decode cJ6_add_2 2 = .ok (.arraylength, 1) := dk_190 (dk_at dksJ6_add_2_0 2 rfl rfl)
theorem dJ6_add_2_3 : decode cJ6_add_2 3 = .ok (.if_icmp .ne 8, 3) := dk_160 0 8 (dk_at dksJ6_add_2_0 3 rfl rfl)
theorem dJ6_add_2_6 : decode cJ6_add_2 6 = .ok (.aload_n 0, 1) := dk_42 (dk_at dksJ6_add_2_0 6 rfl rfl)
theorem dJ6_add_2_7 : decode cJ6_add_2 7 = .ok (.invokevirtual 129, 3) := dk_182 0 129 (dk_at dksJ6_add_2_0 7 rfl rfl)
theorem dJ6_add_2_10 : decode cJ6_add_2 10 = .ok (.astore_n 2, 1) := dk_77 (dk_at dksJ6_add_2_0 10 rfl rfl)
theorem dJ6_add_2_11 : decode cJ6_add_2 11 = .ok (.aload_n 2, 1) := dk_44 (dk_at dksJ6_add_2_0 11 rfl rfl)
theorem dJ6_add_2_12 : decode cJ6_add_2 12 = .ok (.iload_n 3, 1) := dk_29 (dk_at dksJ6_add_2_0 12 rfl rfl)
theorem dJ6_add_2_13 : decode cJ6_add_2 13 = .ok (.aload_n 1, 1) := dk_43 (dk_at dksJ6_add_2_0 13 rfl rfl)
theorem dJ6_add_2_14 : decode cJ6_add_2 14 = .ok (.aastore, 1) := dk_83 (dk_at dksJ6_add_2_0 14 rfl rfl)
theorem dJ6_add_2_15 : decode cJ6_add_2 15 = .ok (.aload_n 0, 1) := dk_42 (dk_at dksJ6_add_2_0 15 rfl rfl)
theorem dJ6_add_2_16 : decode cJ6_add_2 16 = .ok (.iload_n 3, 1) := dk_29 (dk_at dksJ6_add_2_0 16 rfl rfl)
theorem dJ6_add_2_17 : decode cJ6_add_2 17 = .ok (.iconst 1, 1) := dk_4 (dk_at dksJ6_add_2_0 17 rfl rfl)
theorem dJ6_add_2_18 : decode cJ6_add_2 18 = .ok (.iadd, 1) := dk_96 (dk_at dksJ6_add_2_0 18 rfl rfl)
theorem dJ6_add_2_19 : decode cJ6_add_2 19 = .ok (.putfield 48, 3) := dk_181 0 48 (dk_at dksJ6_add_2_0 19 rfl rfl)
theorem dJ6_add_2_22 : decode cJ6_add_2 22 = .ok (.return_, 1) := dk_177 (dk_at dksJ6_add_2_0 22 rfl rfl)
abbrev cJ6_grow : ByteArray := prog_42_method_7_code
def yJ6_grow : MethodName := ⟨RJ6, "grow", "()[Ljava/lang/Object;"⟩
def dkwJ6_grow_0 : List UInt8 := [42, 42, 180, 0, 48, 4, 96, 182, 0, 69, 176]
abbrev dktJ6_grow_0 : List UInt8 := dkwJ6_grow_0 ++ []
theorem dksJ6_grow_0 : cJ6_grow.data.toList.drop 0 = dktJ6_grow_0 := by decide +kernel
theorem dJ6_grow_0 : decode cJ6_grow 0 = .ok (.aload_n 0, 1) := dk_42 (dk_at dksJ6_grow_0 0 rfl rfl)
theorem dJ6_grow_1 : decode cJ6_grow 1 = .ok (.aload_n 0, 1) := dk_42 (dk_at dksJ6_grow_0 1 rfl rfl)
theorem dJ6_grow_2 : decode cJ6_grow 2 = .ok (.getfield 48, 3) := dk_180 0 48 (dk_at dksJ6_grow_0 2 rfl rfl)
theorem dJ6_grow_5 : decode cJ6_grow 5 = .ok (.iconst 1, 1) := dk_4 (dk_at dksJ6_grow_0 5 rfl rfl)
theorem dJ6_grow_6 : decode cJ6_grow 6 = .ok (.iadd, 1) := dk_96 (dk_at dksJ6_grow_0 6 rfl rfl)
theorem dJ6_grow_7 : decode cJ6_grow 7 = .ok (.invokevirtual 69, 3) := dk_182 0 69 (dk_at dksJ6_grow_0 7 rfl rfl)
theorem dJ6_grow_10 : decode cJ6_grow 10 = .ok (.areturn, 1) := dk_176 (dk_at dksJ6_grow_0 10 rfl rfl)
abbrev cJ6_grow_2 : ByteArray := prog_42_method_6_code
def yJ6_grow_2 : MethodName := ⟨RJ6, "grow", "(I)[Ljava/lang/Object;"⟩
def dkwJ6_grow_2_2 : List UInt8 := [27, 184, 0, 79, 189, 0, 7, 90, 181, 0, 9, 176]
abbrev dktJ6_grow_2_2 : List UInt8 := dkwJ6_grow_2_2 ++ []
def dkwJ6_grow_2_1 : List UInt8 := [28, 4, 122, 184, 0, 73, 62, 42, 42, 180, 0, 9, 29, 184, 0, 66, 90, 181, 0, 9, 176, 42, 16, 10]
abbrev dktJ6_grow_2_1 : List UInt8 := dkwJ6_grow_2_1 ++ dktJ6_grow_2_2
def dkwJ6_grow_2_0 : List UInt8 := [42, 180, 0, 9, 190, 61, 28, 157, 0, 13, 42, 180, 0, 9, 178, 0, 39, 165, 0, 28, 28, 27, 28, 100]
abbrev dktJ6_grow_2_0 : List UInt8 := dkwJ6_grow_2_0 ++ dktJ6_grow_2_1
theorem dksJ6_grow_2_0 : cJ6_grow_2.data.toList.drop 0 = dktJ6_grow_2_0 := by decide +kernel
theorem dksJ6_grow_2_1 : cJ6_grow_2.data.toList.drop 24 = dktJ6_grow_2_1 := dk_seg dksJ6_grow_2_0 24 rfl rfl
theorem dksJ6_grow_2_2 : cJ6_grow_2.data.toList.drop 48 = dktJ6_grow_2_2 := dk_seg dksJ6_grow_2_1 24 rfl rfl
theorem dJ6_grow_2_0 : decode cJ6_grow_2 0 = .ok (.aload_n 0, 1) := dk_42 (dk_at dksJ6_grow_2_0 0 rfl rfl)
theorem dJ6_grow_2_1 : decode cJ6_grow_2 1 = .ok (.getfield 9, 3) := dk_180 0 9 (dk_at dksJ6_grow_2_0 1 rfl rfl)
theorem dJ6_grow_2_4 : decode cJ6_grow_2 4 = .ok (.arraylength, 1) := dk_190 (dk_at dksJ6_grow_2_0 4 rfl rfl)
theorem dJ6_grow_2_5 : decode cJ6_grow_2 5 = .ok (.istore_n 2, 1) := dk_61 (dk_at dksJ6_grow_2_0 5 rfl rfl)
theorem dJ6_grow_2_6 : decode cJ6_grow_2 6 = .ok (.iload_n 2, 1) := dk_28 (dk_at dksJ6_grow_2_0 6 rfl rfl)
theorem dJ6_grow_2_7 : decode cJ6_grow_2 7 = .ok (.ifCond .gt 13, 3) := dk_157 0 13 (dk_at dksJ6_grow_2_0 7 rfl rfl)
theorem dJ6_grow_2_10 : decode cJ6_grow_2 10 = .ok (.aload_n 0, 1) := dk_42 (dk_at dksJ6_grow_2_0 10 rfl rfl)
theorem dJ6_grow_2_11 : decode cJ6_grow_2 11 = .ok (.getfield 9, 3) := dk_180 0 9 (dk_at dksJ6_grow_2_0 11 rfl rfl)
theorem dJ6_grow_2_14 : decode cJ6_grow_2 14 = .ok (.getstatic 39, 3) := dk_178 0 39 (dk_at dksJ6_grow_2_0 14 rfl rfl)
theorem dJ6_grow_2_17 : decode cJ6_grow_2 17 = .ok (.if_acmp .eq 28, 3) := dk_165 0 28 (dk_at dksJ6_grow_2_0 17 rfl rfl)
theorem dJ6_grow_2_20 : decode cJ6_grow_2 20 = .ok (.iload_n 2, 1) := dk_28 (dk_at dksJ6_grow_2_0 20 rfl rfl)
theorem dJ6_grow_2_21 : decode cJ6_grow_2 21 = .ok (.iload_n 1, 1) := dk_27 (dk_at dksJ6_grow_2_0 21 rfl rfl)
theorem dJ6_grow_2_22 : decode cJ6_grow_2 22 = .ok (.iload_n 2, 1) := dk_28 (dk_at dksJ6_grow_2_0 22 rfl rfl)
theorem dJ6_grow_2_23 : decode cJ6_grow_2 23 = .ok (.isub, 1) := dk_100 (dk_at dksJ6_grow_2_0 23 rfl rfl)
theorem dJ6_grow_2_24 : decode cJ6_grow_2 24 = .ok (.iload_n 2, 1) := dk_28 (dk_at dksJ6_grow_2_1 0 rfl rfl)
theorem dJ6_grow_2_25 : decode cJ6_grow_2 25 = .ok (.iconst 1, 1) := dk_4 (dk_at dksJ6_grow_2_1 1 rfl rfl)
theorem dJ6_grow_2_26 : decode cJ6_grow_2 26 = .ok (.ishr, 1) := dk_122 (dk_at dksJ6_grow_2_1 2 rfl rfl)
theorem dJ6_grow_2_27 : decode cJ6_grow_2 27 = .ok (.invokestatic 73, 3) := dk_184 0 73 (dk_at dksJ6_grow_2_1 3 rfl rfl)
theorem dJ6_grow_2_30 : decode cJ6_grow_2 30 = .ok (.istore_n 3, 1) := dk_62 (dk_at dksJ6_grow_2_1 6 rfl rfl)
theorem dJ6_grow_2_31 : decode cJ6_grow_2 31 = .ok (.aload_n 0, 1) := dk_42 (dk_at dksJ6_grow_2_1 7 rfl rfl)
theorem dJ6_grow_2_32 : decode cJ6_grow_2 32 = .ok (.aload_n 0, 1) := dk_42 (dk_at dksJ6_grow_2_1 8 rfl rfl)
theorem dJ6_grow_2_33 : decode cJ6_grow_2 33 = .ok (.getfield 9, 3) := dk_180 0 9 (dk_at dksJ6_grow_2_1 9 rfl rfl)
theorem dJ6_grow_2_36 : decode cJ6_grow_2 36 = .ok (.iload_n 3, 1) := dk_29 (dk_at dksJ6_grow_2_1 12 rfl rfl)
theorem dJ6_grow_2_37 : decode cJ6_grow_2 37 = .ok (.invokestatic 66, 3) := dk_184 0 66 (dk_at dksJ6_grow_2_1 13 rfl rfl)
theorem dJ6_grow_2_40 : decode cJ6_grow_2 40 = .ok (.dup_x1, 1) := dk_90 (dk_at dksJ6_grow_2_1 16 rfl rfl)
theorem dJ6_grow_2_41 : decode cJ6_grow_2 41 = .ok (.putfield 9, 3) := dk_181 0 9 (dk_at dksJ6_grow_2_1 17 rfl rfl)
theorem dJ6_grow_2_44 : decode cJ6_grow_2 44 = .ok (.areturn, 1) := dk_176 (dk_at dksJ6_grow_2_1 20 rfl rfl)
theorem dJ6_grow_2_45 : decode cJ6_grow_2 45 = .ok (.aload_n 0, 1) := dk_42 (dk_at dksJ6_grow_2_1 21 rfl rfl)
theorem dJ6_grow_2_46 : decode cJ6_grow_2 46 = .ok (.bipush 10, 2) := dk_16 10 (dk_at dksJ6_grow_2_1 22 rfl rfl)
theorem dJ6_grow_2_48 : decode cJ6_grow_2 48 = .ok (.iload_n 1, 1) := dk_27 (dk_at dksJ6_grow_2_2 0 rfl rfl)
theorem dJ6_grow_2_49 : decode cJ6_grow_2 49 = .ok (.invokestatic 79, 3) := dk_184 0 79 (dk_at dksJ6_grow_2_2 1 rfl rfl)
theorem dJ6_grow_2_52 : decode cJ6_grow_2 52 = .ok (.anewarray 7, 3) := dk_189 0 7 (dk_at dksJ6_grow_2_2 4 rfl rfl)
theorem dJ6_grow_2_55 : decode cJ6_grow_2 55 = .ok (.dup_x1, 1) := dk_90 (dk_at dksJ6_grow_2_2 7 rfl rfl)
theorem dJ6_grow_2_56 : decode cJ6_grow_2 56 = .ok (.putfield 9, 3) := dk_181 0 9 (dk_at dksJ6_grow_2_2 8 rfl rfl)
theorem dJ6_grow_2_59 : decode cJ6_grow_2 59 = .ok (.areturn, 1) := dk_176 (dk_at dksJ6_grow_2_2 11 rfl rfl)
abbrev cJ6_clear : ByteArray := prog_42_method_40_code
def yJ6_clear : MethodName := ⟨RJ6, "clear", "()V"⟩
def dkwJ6_clear_1 : List UInt8 := [181, 0, 48, 62, 29, 28, 162, 0, 13, 43, 29, 1, 83, 132, 3, 1, 167, 255, 244, 177]
abbrev dktJ6_clear_1 : List UInt8 := dkwJ6_clear_1 ++ []
def dkwJ6_clear_0 : List UInt8 := [42, 89, 180, 0, 63, 4, 96, 181, 0, 63, 42, 180, 0, 9, 76, 42, 180, 0, 48, 61, 42, 3, 90]
abbrev dktJ6_clear_0 : List UInt8 := dkwJ6_clear_0 ++ dktJ6_clear_1
theorem dksJ6_clear_0 : cJ6_clear.data.toList.drop 0 = dktJ6_clear_0 := by decide +kernel
theorem dksJ6_clear_1 : cJ6_clear.data.toList.drop 23 = dktJ6_clear_1 := dk_seg dksJ6_clear_0 23 rfl rfl
theorem dJ6_clear_0 : decode cJ6_clear 0 = .ok (.aload_n 0, 1) := dk_42 (dk_at dksJ6_clear_0 0 rfl rfl)
theorem dJ6_clear_1 : decode cJ6_clear 1 = .ok (.dup, 1) := dk_89 (dk_at dksJ6_clear_0 1 rfl rfl)
theorem dJ6_clear_2 : decode cJ6_clear 2 = .ok (.getfield 63, 3) := dk_180 0 63 (dk_at dksJ6_clear_0 2 rfl rfl)
theorem dJ6_clear_5 : decode cJ6_clear 5 = .ok (.iconst 1, 1) := dk_4 (dk_at dksJ6_clear_0 5 rfl rfl)
theorem dJ6_clear_6 : decode cJ6_clear 6 = .ok (.iadd, 1) := dk_96 (dk_at dksJ6_clear_0 6 rfl rfl)
theorem dJ6_clear_7 : decode cJ6_clear 7 = .ok (.putfield 63, 3) := dk_181 0 63 (dk_at dksJ6_clear_0 7 rfl rfl)
theorem dJ6_clear_10 : decode cJ6_clear 10 = .ok (.aload_n 0, 1) := dk_42 (dk_at dksJ6_clear_0 10 rfl rfl)
theorem dJ6_clear_11 : decode cJ6_clear 11 = .ok (.getfield 9, 3) := dk_180 0 9 (dk_at dksJ6_clear_0 11 rfl rfl)
theorem dJ6_clear_14 : decode cJ6_clear 14 = .ok (.astore_n 1, 1) := dk_76 (dk_at dksJ6_clear_0 14 rfl rfl)
theorem dJ6_clear_15 : decode cJ6_clear 15 = .ok (.aload_n 0, 1) := dk_42 (dk_at dksJ6_clear_0 15 rfl rfl)
theorem dJ6_clear_16 : decode cJ6_clear 16 = .ok (.getfield 48, 3) := dk_180 0 48 (dk_at dksJ6_clear_0 16 rfl rfl)
theorem dJ6_clear_19 : decode cJ6_clear 19 = .ok (.istore_n 2, 1) := dk_61 (dk_at dksJ6_clear_0 19 rfl rfl)
theorem dJ6_clear_20 : decode cJ6_clear 20 = .ok (.aload_n 0, 1) := dk_42 (dk_at dksJ6_clear_0 20 rfl rfl)
theorem dJ6_clear_21 : decode cJ6_clear 21 = .ok (.iconst 0, 1) := dk_3 (dk_at dksJ6_clear_0 21 rfl rfl)
theorem dJ6_clear_22 : decode cJ6_clear 22 = .ok (.dup_x1, 1) := dk_90 (dk_at dksJ6_clear_0 22 rfl rfl)
theorem dJ6_clear_23 : decode cJ6_clear 23 = .ok (.putfield 48, 3) := dk_181 0 48 (dk_at dksJ6_clear_1 0 rfl rfl)
theorem dJ6_clear_26 : decode cJ6_clear 26 = .ok (.istore_n 3, 1) := dk_62 (dk_at dksJ6_clear_1 3 rfl rfl)
theorem dJ6_clear_27 : decode cJ6_clear 27 = .ok (.iload_n 3, 1) := dk_29 (dk_at dksJ6_clear_1 4 rfl rfl)
theorem dJ6_clear_28 : decode cJ6_clear 28 = .ok (.iload_n 2, 1) := dk_28 (dk_at dksJ6_clear_1 5 rfl rfl)
theorem dJ6_clear_29 : decode cJ6_clear 29 = .ok (.if_icmp .ge 13, 3) := dk_162 0 13 (dk_at dksJ6_clear_1 6 rfl rfl)
theorem dJ6_clear_32 : decode cJ6_clear 32 = .ok (.aload_n 1, 1) := dk_43 (dk_at dksJ6_clear_1 9 rfl rfl)
theorem dJ6_clear_33 : decode cJ6_clear 33 = .ok (.iload_n 3, 1) := dk_29 (dk_at dksJ6_clear_1 10 rfl rfl)
theorem dJ6_clear_34 : decode cJ6_clear 34 = .ok (.aconst_null, 1) := dk_1 (dk_at dksJ6_clear_1 11 rfl rfl)
theorem dJ6_clear_35 : decode cJ6_clear 35 = .ok (.aastore, 1) := dk_83 (dk_at dksJ6_clear_1 12 rfl rfl)
theorem dJ6_clear_36 : decode cJ6_clear 36 = .ok (.iinc 3 1, 3) := dk_132 3 1 (dk_at dksJ6_clear_1 13 rfl rfl)
theorem dJ6_clear_39 : decode cJ6_clear 39 = .ok (.goto (-12), 3) := dk_167 255 244 (dk_at dksJ6_clear_1 16 rfl rfl)
theorem dJ6_clear_42 : decode cJ6_clear 42 = .ok (.return_, 1) := dk_177 (dk_at dksJ6_clear_1 19 rfl rfl)
abbrev cJ6_isEmpty : ByteArray := prog_42_method_9_code
def yJ6_isEmpty : MethodName := ⟨RJ6, "isEmpty", "()Z"⟩
def dkwJ6_isEmpty_0 : List UInt8 := [42, 180, 0, 48, 154, 0, 7, 4, 167, 0, 4, 3, 172]
abbrev dktJ6_isEmpty_0 : List UInt8 := dkwJ6_isEmpty_0 ++ []
theorem dksJ6_isEmpty_0 : cJ6_isEmpty.data.toList.drop 0 = dktJ6_isEmpty_0 := by decide +kernel
theorem dJ6_isEmpty_0 : decode cJ6_isEmpty 0 = .ok (.aload_n 0, 1) := dk_42 (dk_at dksJ6_isEmpty_0 0 rfl rfl)
theorem dJ6_isEmpty_1 : decode cJ6_isEmpty 1 = .ok (.getfield 48, 3) := dk_180 0 48 (dk_at dksJ6_isEmpty_0 1 rfl rfl)
theorem dJ6_isEmpty_4 : decode cJ6_isEmpty 4 = .ok (.ifCond .ne 7, 3) := dk_154 0 7 (dk_at dksJ6_isEmpty_0 4 rfl rfl)
theorem dJ6_isEmpty_7 : decode cJ6_isEmpty 7 = .ok (.iconst 1, 1) := dk_4 (dk_at dksJ6_isEmpty_0 7 rfl rfl)
theorem dJ6_isEmpty_8 : decode cJ6_isEmpty 8 = .ok (.goto 4, 3) := dk_167 0 4 (dk_at dksJ6_isEmpty_0 8 rfl rfl)
theorem dJ6_isEmpty_11 : decode cJ6_isEmpty 11 = .ok (.iconst 0, 1) := dk_3 (dk_at dksJ6_isEmpty_0 11 rfl rfl)
theorem dJ6_isEmpty_12 : decode cJ6_isEmpty 12 = .ok (.ireturn, 1) := dk_172 (dk_at dksJ6_isEmpty_0 12 rfl rfl)
abbrev cJ6_remove : ByteArray := prog_42_method_29_code
def yJ6_remove : MethodName := ⟨RJ6, "remove", "(I)Ljava/lang/Object;"⟩
def dkwJ6_remove_1 : List UInt8 := [45, 176]
abbrev dktJ6_remove_1 : List UInt8 := dkwJ6_remove_1 ++ []
def dkwJ6_remove_0 : List UInt8 := [27, 42, 180, 0, 48, 184, 0, 118, 87, 42, 180, 0, 9, 77, 44, 27, 50, 78, 42, 44, 27, 182, 0, 144]
abbrev dktJ6_remove_0 : List UInt8 := dkwJ6_remove_0 ++ dktJ6_remove_1
theorem dksJ6_remove_0 : cJ6_remove.data.toList.drop 0 = dktJ6_remove_0 := by decide +kernel
theorem dksJ6_remove_1 : cJ6_remove.data.toList.drop 24 = dktJ6_remove_1 := dk_seg dksJ6_remove_0 24 rfl rfl
theorem dJ6_remove_0 : decode cJ6_remove 0 = .ok (.iload_n 1, 1) := dk_27 (dk_at dksJ6_remove_0 0 rfl rfl)
theorem dJ6_remove_1 : decode cJ6_remove 1 = .ok (.aload_n 0, 1) := dk_42 (dk_at dksJ6_remove_0 1 rfl rfl)
theorem dJ6_remove_2 : decode cJ6_remove 2 = .ok (.getfield 48, 3) := dk_180 0 48 (dk_at dksJ6_remove_0 2 rfl rfl)
theorem dJ6_remove_5 : decode cJ6_remove 5 = .ok (.invokestatic 118, 3) := dk_184 0 118 (dk_at dksJ6_remove_0 5 rfl rfl)
theorem dJ6_remove_8 : decode cJ6_remove 8 = .ok (.pop, 1) := dk_87 (dk_at dksJ6_remove_0 8 rfl rfl)
theorem dJ6_remove_9 : decode cJ6_remove 9 = .ok (.aload_n 0, 1) := dk_42 (dk_at dksJ6_remove_0 9 rfl rfl)
theorem dJ6_remove_10 : decode cJ6_remove 10 = .ok (.getfield 9, 3) := dk_180 0 9 (dk_at dksJ6_remove_0 10 rfl rfl)
theorem dJ6_remove_13 : decode cJ6_remove 13 = .ok (.astore_n 2, 1) := dk_77 (dk_at dksJ6_remove_0 13 rfl rfl)
theorem dJ6_remove_14 : decode cJ6_remove 14 = .ok (.aload_n 2, 1) := dk_44 (dk_at dksJ6_remove_0 14 rfl rfl)
theorem dJ6_remove_15 : decode cJ6_remove 15 = .ok (.iload_n 1, 1) := dk_27 (dk_at dksJ6_remove_0 15 rfl rfl)
theorem dJ6_remove_16 : decode cJ6_remove 16 = .ok (.aaload, 1) := dk_50 (dk_at dksJ6_remove_0 16 rfl rfl)
theorem dJ6_remove_17 : decode cJ6_remove 17 = .ok (.astore_n 3, 1) := dk_78 (dk_at dksJ6_remove_0 17 rfl rfl)
theorem dJ6_remove_18 : decode cJ6_remove 18 = .ok (.aload_n 0, 1) := dk_42 (dk_at dksJ6_remove_0 18 rfl rfl)
theorem dJ6_remove_19 : decode cJ6_remove 19 = .ok (.aload_n 2, 1) := dk_44 (dk_at dksJ6_remove_0 19 rfl rfl)
theorem dJ6_remove_20 : decode cJ6_remove 20 = .ok (.iload_n 1, 1) := dk_27 (dk_at dksJ6_remove_0 20 rfl rfl)
theorem dJ6_remove_21 : decode cJ6_remove 21 = .ok (.invokevirtual 144, 3) := dk_182 0 144 (dk_at dksJ6_remove_0 21 rfl rfl)
theorem dJ6_remove_24 : decode cJ6_remove 24 = .ok (.aload_n 3, 1) := dk_45 (dk_at dksJ6_remove_1 0 rfl rfl)
theorem dJ6_remove_25 : decode cJ6_remove 25 = .ok (.areturn, 1) := dk_176 (dk_at dksJ6_remove_1 1 rfl rfl)
abbrev cJ6_fastRemove : ByteArray := prog_42_method_39_code
def yJ6_fastRemove : MethodName := ⟨RJ6, "fastRemove", "([Ljava/lang/Object;I)V"⟩
def dkwJ6_fastRemove_1 : List UInt8 := [4, 96, 43, 28, 29, 28, 100, 184, 0, 112, 43, 42, 29, 90, 181, 0, 48, 1, 83, 177]
abbrev dktJ6_fastRemove_1 : List UInt8 := dkwJ6_fastRemove_1 ++ []
def dkwJ6_fastRemove_0 : List UInt8 := [42, 89, 180, 0, 63, 4, 96, 181, 0, 63, 42, 180, 0, 48, 4, 100, 89, 62, 28, 164, 0, 15, 43, 28]
abbrev dktJ6_fastRemove_0 : List UInt8 := dkwJ6_fastRemove_0 ++ dktJ6_fastRemove_1
theorem dksJ6_fastRemove_0 : cJ6_fastRemove.data.toList.drop 0 = dktJ6_fastRemove_0 := by decide +kernel
theorem dksJ6_fastRemove_1 : cJ6_fastRemove.data.toList.drop 24 = dktJ6_fastRemove_1 := dk_seg dksJ6_fastRemove_0 24 rfl rfl
theorem dJ6_fastRemove_0 : decode cJ6_fastRemove 0 = .ok (.aload_n 0, 1) := dk_42 (dk_at dksJ6_fastRemove_0 0 rfl rfl)
theorem dJ6_fastRemove_1 : decode cJ6_fastRemove 1 = .ok (.dup, 1) := dk_89 (dk_at dksJ6_fastRemove_0 1 rfl rfl)
theorem dJ6_fastRemove_2 : decode cJ6_fastRemove 2 = .ok (.getfield 63, 3) := dk_180 0 63 (dk_at dksJ6_fastRemove_0 2 rfl rfl)
theorem dJ6_fastRemove_5 : decode cJ6_fastRemove 5 = .ok (.iconst 1, 1) := dk_4 (dk_at dksJ6_fastRemove_0 5 rfl rfl)
theorem dJ6_fastRemove_6 : decode cJ6_fastRemove 6 = .ok (.iadd, 1) := dk_96 (dk_at dksJ6_fastRemove_0 6 rfl rfl)
theorem dJ6_fastRemove_7 : decode cJ6_fastRemove 7 = .ok (.putfield 63, 3) := dk_181 0 63 (dk_at dksJ6_fastRemove_0 7 rfl rfl)
theorem dJ6_fastRemove_10 : decode cJ6_fastRemove 10 = .ok (.aload_n 0, 1) := dk_42 (dk_at dksJ6_fastRemove_0 10 rfl rfl)
theorem dJ6_fastRemove_11 : decode cJ6_fastRemove 11 = .ok (.getfield 48, 3) := dk_180 0 48 (dk_at dksJ6_fastRemove_0 11 rfl rfl)
theorem dJ6_fastRemove_14 : decode cJ6_fastRemove 14 = .ok (.iconst 1, 1) := dk_4 (dk_at dksJ6_fastRemove_0 14 rfl rfl)
theorem dJ6_fastRemove_15 : decode cJ6_fastRemove 15 = .ok (.isub, 1) := dk_100 (dk_at dksJ6_fastRemove_0 15 rfl rfl)
theorem dJ6_fastRemove_16 : decode cJ6_fastRemove 16 = .ok (.dup, 1) := dk_89 (dk_at dksJ6_fastRemove_0 16 rfl rfl)
theorem dJ6_fastRemove_17 : decode cJ6_fastRemove 17 = .ok (.istore_n 3, 1) := dk_62 (dk_at dksJ6_fastRemove_0 17 rfl rfl)
theorem dJ6_fastRemove_18 : decode cJ6_fastRemove 18 = .ok (.iload_n 2, 1) := dk_28 (dk_at dksJ6_fastRemove_0 18 rfl rfl)
theorem dJ6_fastRemove_19 : decode cJ6_fastRemove 19 = .ok (.if_icmp .le 15, 3) := dk_164 0 15 (dk_at dksJ6_fastRemove_0 19 rfl rfl)
theorem dJ6_fastRemove_22 : decode cJ6_fastRemove 22 = .ok (.aload_n 1, 1) := dk_43 (dk_at dksJ6_fastRemove_0 22 rfl rfl)
theorem dJ6_fastRemove_23 : decode cJ6_fastRemove 23 = .ok (.iload_n 2, 1) := dk_28 (dk_at dksJ6_fastRemove_0 23 rfl rfl)
theorem dJ6_fastRemove_24 : decode cJ6_fastRemove 24 = .ok (.iconst 1, 1) := dk_4 (dk_at dksJ6_fastRemove_1 0 rfl rfl)
theorem dJ6_fastRemove_25 : decode cJ6_fastRemove 25 = .ok (.iadd, 1) := dk_96 (dk_at dksJ6_fastRemove_1 1 rfl rfl)
theorem dJ6_fastRemove_26 : decode cJ6_fastRemove 26 = .ok (.aload_n 1, 1) := dk_43 (dk_at dksJ6_fastRemove_1 2 rfl rfl)
theorem dJ6_fastRemove_27 : decode cJ6_fastRemove 27 = .ok (.iload_n 2, 1) := dk_28 (dk_at dksJ6_fastRemove_1 3 rfl rfl)
theorem dJ6_fastRemove_28 : decode cJ6_fastRemove 28 = .ok (.iload_n 3, 1) := dk_29 (dk_at dksJ6_fastRemove_1 4 rfl rfl)
theorem dJ6_fastRemove_29 : decode cJ6_fastRemove 29 = .ok (.iload_n 2, 1) := dk_28 (dk_at dksJ6_fastRemove_1 5 rfl rfl)
theorem dJ6_fastRemove_30 : decode cJ6_fastRemove 30 = .ok (.isub, 1) := dk_100 (dk_at dksJ6_fastRemove_1 6 rfl rfl)
theorem dJ6_fastRemove_31 : decode cJ6_fastRemove 31 = .ok (.invokestatic 112, 3) := dk_184 0 112 (dk_at dksJ6_fastRemove_1 7 rfl rfl)
theorem dJ6_fastRemove_34 : decode cJ6_fastRemove 34 = .ok (.aload_n 1, 1) := dk_43 (dk_at dksJ6_fastRemove_1 10 rfl rfl)
theorem dJ6_fastRemove_35 : decode cJ6_fastRemove 35 = .ok (.aload_n 0, 1) := dk_42 (dk_at dksJ6_fastRemove_1 11 rfl rfl)
theorem dJ6_fastRemove_36 : decode cJ6_fastRemove 36 = .ok (.iload_n 3, 1) := dk_29 (dk_at dksJ6_fastRemove_1 12 rfl rfl)
theorem dJ6_fastRemove_37 : decode cJ6_fastRemove 37 = .ok (.dup_x1, 1) := dk_90 (dk_at dksJ6_fastRemove_1 13 rfl rfl)
theorem dJ6_fastRemove_38 : decode cJ6_fastRemove 38 = .ok (.putfield 48, 3) := dk_181 0 48 (dk_at dksJ6_fastRemove_1 14 rfl rfl)
theorem dJ6_fastRemove_41 : decode cJ6_fastRemove 41 = .ok (.aconst_null, 1) := dk_1 (dk_at dksJ6_fastRemove_1 17 rfl rfl)
theorem dJ6_fastRemove_42 : decode cJ6_fastRemove 42 = .ok (.aastore, 1) := dk_83 (dk_at dksJ6_fastRemove_1 18 rfl rfl)
theorem dJ6_fastRemove_43 : decode cJ6_fastRemove 43 = .ok (.return_, 1) := dk_177 (dk_at dksJ6_fastRemove_1 19 rfl rfl)
abbrev cJ6_add_3 : ByteArray := prog_42_method_26_code
def yJ6_add_3 : MethodName := ⟨RJ6, "add", "(ILjava/lang/Object;)V"⟩
def dkwJ6_add_3_2 : List UInt8 := [29, 27, 100, 184, 0, 112, 25, 4, 27, 44, 83, 42, 29, 4, 96, 181, 0, 48, 177]
abbrev dktJ6_add_3_2 : List UInt8 := dkwJ6_add_3_2 ++ []
def dkwJ6_add_3_1 : List UInt8 := [180, 0, 9, 89, 58, 4, 190, 160, 0, 9, 42, 182, 0, 129, 58, 4, 25, 4, 27, 25, 4, 27, 4, 96]
abbrev dktJ6_add_3_1 : List UInt8 := dkwJ6_add_3_1 ++ dktJ6_add_3_2
def dkwJ6_add_3_0 : List UInt8 := [42, 27, 182, 0, 135, 42, 89, 180, 0, 63, 4, 96, 181, 0, 63, 42, 180, 0, 48, 89, 62, 42]
abbrev dktJ6_add_3_0 : List UInt8 := dkwJ6_add_3_0 ++ dktJ6_add_3_1
theorem dksJ6_add_3_0 : cJ6_add_3.data.toList.drop 0 = dktJ6_add_3_0 := by decide +kernel
theorem dksJ6_add_3_1 : cJ6_add_3.data.toList.drop 22 = dktJ6_add_3_1 := dk_seg dksJ6_add_3_0 22 rfl rfl
theorem dksJ6_add_3_2 : cJ6_add_3.data.toList.drop 46 = dktJ6_add_3_2 := dk_seg dksJ6_add_3_1 24 rfl rfl
theorem dJ6_add_3_0 : decode cJ6_add_3 0 = .ok (.aload_n 0, 1) := dk_42 (dk_at dksJ6_add_3_0 0 rfl rfl)
theorem dJ6_add_3_1 : decode cJ6_add_3 1 = .ok (.iload_n 1, 1) := dk_27 (dk_at dksJ6_add_3_0 1 rfl rfl)
theorem dJ6_add_3_2 : decode cJ6_add_3 2 = .ok (.invokevirtual 135, 3) := dk_182 0 135 (dk_at dksJ6_add_3_0 2 rfl rfl)
theorem dJ6_add_3_5 : decode cJ6_add_3 5 = .ok (.aload_n 0, 1) := dk_42 (dk_at dksJ6_add_3_0 5 rfl rfl)
theorem dJ6_add_3_6 : decode cJ6_add_3 6 = .ok (.dup, 1) := dk_89 (dk_at dksJ6_add_3_0 6 rfl rfl)
theorem dJ6_add_3_7 : decode cJ6_add_3 7 = .ok (.getfield 63, 3) := dk_180 0 63 (dk_at dksJ6_add_3_0 7 rfl rfl)
theorem dJ6_add_3_10 : decode cJ6_add_3 10 = .ok (.iconst 1, 1) := dk_4 (dk_at dksJ6_add_3_0 10 rfl rfl)
theorem dJ6_add_3_11 : decode cJ6_add_3 11 = .ok (.iadd, 1) := dk_96 (dk_at dksJ6_add_3_0 11 rfl rfl)
theorem dJ6_add_3_12 : decode cJ6_add_3 12 = .ok (.putfield 63, 3) := dk_181 0 63 (dk_at dksJ6_add_3_0 12 rfl rfl)
theorem dJ6_add_3_15 : decode cJ6_add_3 15 = .ok (.aload_n 0, 1) := dk_42 (dk_at dksJ6_add_3_0 15 rfl rfl)
theorem dJ6_add_3_16 : decode cJ6_add_3 16 = .ok (.getfield 48, 3) := dk_180 0 48 (dk_at dksJ6_add_3_0 16 rfl rfl)
theorem dJ6_add_3_19 : decode cJ6_add_3 19 = .ok (.dup, 1) := dk_89 (dk_at dksJ6_add_3_0 19 rfl rfl)
theorem dJ6_add_3_20 : decode cJ6_add_3 20 = .ok (.istore_n 3, 1) := dk_62 (dk_at dksJ6_add_3_0 20 rfl rfl)
theorem dJ6_add_3_21 : decode cJ6_add_3 21 = .ok (.aload_n 0, 1) := dk_42 (dk_at dksJ6_add_3_0 21 rfl rfl)
theorem dJ6_add_3_22 : decode cJ6_add_3 22 = .ok (.getfield 9, 3) := dk_180 0 9 (dk_at dksJ6_add_3_1 0 rfl rfl)
theorem dJ6_add_3_25 : decode cJ6_add_3 25 = .ok (.dup, 1) := dk_89 (dk_at dksJ6_add_3_1 3 rfl rfl)
theorem dJ6_add_3_26 : decode cJ6_add_3 26 = .ok (.astore 4, 2) := dk_58 4 (dk_at dksJ6_add_3_1 4 rfl rfl)
theorem dJ6_add_3_28 : decode cJ6_add_3 28 = .ok (.arraylength, 1) := dk_190 (dk_at dksJ6_add_3_1 6 rfl rfl)
theorem dJ6_add_3_29 : decode cJ6_add_3 29 = .ok (.if_icmp .ne 9, 3) := dk_160 0 9 (dk_at dksJ6_add_3_1 7 rfl rfl)
theorem dJ6_add_3_32 : decode cJ6_add_3 32 = .ok (.aload_n 0, 1) := dk_42 (dk_at dksJ6_add_3_1 10 rfl rfl)
theorem dJ6_add_3_33 : decode cJ6_add_3 33 = .ok (.invokevirtual 129, 3) := dk_182 0 129 (dk_at dksJ6_add_3_1 11 rfl rfl)
theorem dJ6_add_3_36 : decode cJ6_add_3 36 = .ok (.astore 4, 2) := dk_58 4 (dk_at dksJ6_add_3_1 14 rfl rfl)
theorem dJ6_add_3_38 : decode cJ6_add_3 38 = .ok (.aload 4, 2) := dk_25 4 (dk_at dksJ6_add_3_1 16 rfl rfl)
theorem dJ6_add_3_40 : decode cJ6_add_3 40 = .ok (.iload_n 1, 1) := dk_27 (dk_at dksJ6_add_3_1 18 rfl rfl)
theorem dJ6_add_3_41 : decode cJ6_add_3 41 = .ok (.aload 4, 2) := dk_25 4 (dk_at dksJ6_add_3_1 19 rfl rfl)
theorem dJ6_add_3_43 : decode cJ6_add_3 43 = .ok (.iload_n 1, 1) := dk_27 (dk_at dksJ6_add_3_1 21 rfl rfl)
theorem dJ6_add_3_44 : decode cJ6_add_3 44 = .ok (.iconst 1, 1) := dk_4 (dk_at dksJ6_add_3_1 22 rfl rfl)
theorem dJ6_add_3_45 : decode cJ6_add_3 45 = .ok (.iadd, 1) := dk_96 (dk_at dksJ6_add_3_1 23 rfl rfl)
theorem dJ6_add_3_46 : decode cJ6_add_3 46 = .ok (.iload_n 3, 1) := dk_29 (dk_at dksJ6_add_3_2 0 rfl rfl)
theorem dJ6_add_3_47 : decode cJ6_add_3 47 = .ok (.iload_n 1, 1) := dk_27 (dk_at dksJ6_add_3_2 1 rfl rfl)
theorem dJ6_add_3_48 : decode cJ6_add_3 48 = .ok (.isub, 1) := dk_100 (dk_at dksJ6_add_3_2 2 rfl rfl)
theorem dJ6_add_3_49 : decode cJ6_add_3 49 = .ok (.invokestatic 112, 3) := dk_184 0 112 (dk_at dksJ6_add_3_2 3 rfl rfl)
theorem dJ6_add_3_52 : decode cJ6_add_3 52 = .ok (.aload 4, 2) := dk_25 4 (dk_at dksJ6_add_3_2 6 rfl rfl)
theorem dJ6_add_3_54 : decode cJ6_add_3 54 = .ok (.iload_n 1, 1) := dk_27 (dk_at dksJ6_add_3_2 8 rfl rfl)
theorem dJ6_add_3_55 : decode cJ6_add_3 55 = .ok (.aload_n 2, 1) := dk_44 (dk_at dksJ6_add_3_2 9 rfl rfl)
theorem dJ6_add_3_56 : decode cJ6_add_3 56 = .ok (.aastore, 1) := dk_83 (dk_at dksJ6_add_3_2 10 rfl rfl)
theorem dJ6_add_3_57 : decode cJ6_add_3 57 = .ok (.aload_n 0, 1) := dk_42 (dk_at dksJ6_add_3_2 11 rfl rfl)
theorem dJ6_add_3_58 : decode cJ6_add_3 58 = .ok (.iload_n 3, 1) := dk_29 (dk_at dksJ6_add_3_2 12 rfl rfl)
theorem dJ6_add_3_59 : decode cJ6_add_3 59 = .ok (.iconst 1, 1) := dk_4 (dk_at dksJ6_add_3_2 13 rfl rfl)
theorem dJ6_add_3_60 : decode cJ6_add_3 60 = .ok (.iadd, 1) := dk_96 (dk_at dksJ6_add_3_2 14 rfl rfl)
theorem dJ6_add_3_61 : decode cJ6_add_3 61 = .ok (.putfield 48, 3) := dk_181 0 48 (dk_at dksJ6_add_3_2 15 rfl rfl)
theorem dJ6_add_3_64 : decode cJ6_add_3 64 = .ok (.return_, 1) := dk_177 (dk_at dksJ6_add_3_2 18 rfl rfl)
abbrev cJ6_rangeCheckForAdd : ByteArray := prog_42_method_45_code
def yJ6_rangeCheckForAdd : MethodName := ⟨RJ6, "rangeCheckForAdd", "(I)V"⟩
def dkwJ6_rangeCheckForAdd_1 : List UInt8 := [191, 177]
abbrev dktJ6_rangeCheckForAdd_1 : List UInt8 := dkwJ6_rangeCheckForAdd_1 ++ []
def dkwJ6_rangeCheckForAdd_0 : List UInt8 := [27, 42, 180, 0, 48, 163, 0, 7, 27, 156, 0, 16, 187, 0, 187, 89, 42, 27, 182, 0, 198, 183, 0, 193]
abbrev dktJ6_rangeCheckForAdd_0 : List UInt8 := dkwJ6_rangeCheckForAdd_0 ++ dktJ6_rangeCheckForAdd_1
theorem dksJ6_rangeCheckForAdd_0 : cJ6_rangeCheckForAdd.data.toList.drop 0 = dktJ6_rangeCheckForAdd_0 := by decide +kernel
theorem dksJ6_rangeCheckForAdd_1 : cJ6_rangeCheckForAdd.data.toList.drop 24 = dktJ6_rangeCheckForAdd_1 := dk_seg dksJ6_rangeCheckForAdd_0 24 rfl rfl
theorem dJ6_rangeCheckForAdd_0 : decode cJ6_rangeCheckForAdd 0 = .ok (.iload_n 1, 1) := dk_27 (dk_at dksJ6_rangeCheckForAdd_0 0 rfl rfl)
theorem dJ6_rangeCheckForAdd_1 : decode cJ6_rangeCheckForAdd 1 = .ok (.aload_n 0, 1) := dk_42 (dk_at dksJ6_rangeCheckForAdd_0 1 rfl rfl)
theorem dJ6_rangeCheckForAdd_2 : decode cJ6_rangeCheckForAdd 2 = .ok (.getfield 48, 3) := dk_180 0 48 (dk_at dksJ6_rangeCheckForAdd_0 2 rfl rfl)
theorem dJ6_rangeCheckForAdd_5 : decode cJ6_rangeCheckForAdd 5 = .ok (.if_icmp .gt 7, 3) := dk_163 0 7 (dk_at dksJ6_rangeCheckForAdd_0 5 rfl rfl)
theorem dJ6_rangeCheckForAdd_8 : decode cJ6_rangeCheckForAdd 8 = .ok (.iload_n 1, 1) := dk_27 (dk_at dksJ6_rangeCheckForAdd_0 8 rfl rfl)
theorem dJ6_rangeCheckForAdd_9 : decode cJ6_rangeCheckForAdd 9 = .ok (.ifCond .ge 16, 3) := dk_156 0 16 (dk_at dksJ6_rangeCheckForAdd_0 9 rfl rfl)
theorem dJ6_rangeCheckForAdd_12 : decode cJ6_rangeCheckForAdd 12 = .ok (.new 187, 3) := dk_187 0 187 (dk_at dksJ6_rangeCheckForAdd_0 12 rfl rfl)
theorem dJ6_rangeCheckForAdd_15 : decode cJ6_rangeCheckForAdd 15 = .ok (.dup, 1) := dk_89 (dk_at dksJ6_rangeCheckForAdd_0 15 rfl rfl)
theorem dJ6_rangeCheckForAdd_16 : decode cJ6_rangeCheckForAdd 16 = .ok (.aload_n 0, 1) := dk_42 (dk_at dksJ6_rangeCheckForAdd_0 16 rfl rfl)
theorem dJ6_rangeCheckForAdd_17 : decode cJ6_rangeCheckForAdd 17 = .ok (.iload_n 1, 1) := dk_27 (dk_at dksJ6_rangeCheckForAdd_0 17 rfl rfl)
theorem dJ6_rangeCheckForAdd_18 : decode cJ6_rangeCheckForAdd 18 = .ok (.invokevirtual 198, 3) := dk_182 0 198 (dk_at dksJ6_rangeCheckForAdd_0 18 rfl rfl)
theorem dJ6_rangeCheckForAdd_21 : decode cJ6_rangeCheckForAdd 21 = .ok (.invokespecial 193, 3) := dk_183 0 193 (dk_at dksJ6_rangeCheckForAdd_0 21 rfl rfl)
theorem dJ6_rangeCheckForAdd_24 : decode cJ6_rangeCheckForAdd 24 = .ok (.athrow, 1) := dk_191 (dk_at dksJ6_rangeCheckForAdd_1 0 rfl rfl)
theorem dJ6_rangeCheckForAdd_25 : decode cJ6_rangeCheckForAdd 25 = .ok (.return_, 1) := dk_177 (dk_at dksJ6_rangeCheckForAdd_1 1 rfl rfl)
abbrev cJ6_outOfBoundsMsg : ByteArray := prog_42_method_46_code
def yJ6_outOfBoundsMsg : MethodName := ⟨RJ6, "outOfBoundsMsg", "(I)Ljava/lang/String;"⟩
def dkwJ6_outOfBoundsMsg_1 : List UInt8 := [180, 0, 48, 182, 0, 29, 182, 0, 32, 176]
abbrev dktJ6_outOfBoundsMsg_1 : List UInt8 := dkwJ6_outOfBoundsMsg_1 ++ []
def dkwJ6_outOfBoundsMsg_0 : List UInt8 := [187, 0, 20, 89, 183, 0, 22, 18, 201, 182, 0, 25, 27, 182, 0, 29, 18, 203, 182, 0, 25, 42]
abbrev dktJ6_outOfBoundsMsg_0 : List UInt8 := dkwJ6_outOfBoundsMsg_0 ++ dktJ6_outOfBoundsMsg_1
theorem dksJ6_outOfBoundsMsg_0 : cJ6_outOfBoundsMsg.data.toList.drop 0 = dktJ6_outOfBoundsMsg_0 := by decide +kernel
theorem dksJ6_outOfBoundsMsg_1 : cJ6_outOfBoundsMsg.data.toList.drop 22 = dktJ6_outOfBoundsMsg_1 := dk_seg dksJ6_outOfBoundsMsg_0 22 rfl rfl
theorem dJ6_outOfBoundsMsg_0 : decode cJ6_outOfBoundsMsg 0 = .ok (.new 20, 3) := dk_187 0 20 (dk_at dksJ6_outOfBoundsMsg_0 0 rfl rfl)
theorem dJ6_outOfBoundsMsg_3 : decode cJ6_outOfBoundsMsg 3 = .ok (.dup, 1) := dk_89 (dk_at dksJ6_outOfBoundsMsg_0 3 rfl rfl)
theorem dJ6_outOfBoundsMsg_4 : decode cJ6_outOfBoundsMsg 4 = .ok (.invokespecial 22, 3) := dk_183 0 22 (dk_at dksJ6_outOfBoundsMsg_0 4 rfl rfl)
theorem dJ6_outOfBoundsMsg_7 : decode cJ6_outOfBoundsMsg 7 = .ok (.ldc 201, 2) := dk_18 201 (dk_at dksJ6_outOfBoundsMsg_0 7 rfl rfl)
theorem dJ6_outOfBoundsMsg_9 : decode cJ6_outOfBoundsMsg 9 = .ok (.invokevirtual 25, 3) := dk_182 0 25 (dk_at dksJ6_outOfBoundsMsg_0 9 rfl rfl)
theorem dJ6_outOfBoundsMsg_12 : decode cJ6_outOfBoundsMsg 12 = .ok (.iload_n 1, 1) := dk_27 (dk_at dksJ6_outOfBoundsMsg_0 12 rfl rfl)
theorem dJ6_outOfBoundsMsg_13 : decode cJ6_outOfBoundsMsg 13 = .ok (.invokevirtual 29, 3) := dk_182 0 29 (dk_at dksJ6_outOfBoundsMsg_0 13 rfl rfl)
theorem dJ6_outOfBoundsMsg_16 : decode cJ6_outOfBoundsMsg 16 = .ok (.ldc 203, 2) := dk_18 203 (dk_at dksJ6_outOfBoundsMsg_0 16 rfl rfl)
theorem dJ6_outOfBoundsMsg_18 : decode cJ6_outOfBoundsMsg 18 = .ok (.invokevirtual 25, 3) := dk_182 0 25 (dk_at dksJ6_outOfBoundsMsg_0 18 rfl rfl)
theorem dJ6_outOfBoundsMsg_21 : decode cJ6_outOfBoundsMsg 21 = .ok (.aload_n 0, 1) := dk_42 (dk_at dksJ6_outOfBoundsMsg_0 21 rfl rfl)
theorem dJ6_outOfBoundsMsg_22 : decode cJ6_outOfBoundsMsg 22 = .ok (.getfield 48, 3) := dk_180 0 48 (dk_at dksJ6_outOfBoundsMsg_1 0 rfl rfl)
theorem dJ6_outOfBoundsMsg_25 : decode cJ6_outOfBoundsMsg 25 = .ok (.invokevirtual 29, 3) := dk_182 0 29 (dk_at dksJ6_outOfBoundsMsg_1 3 rfl rfl)
theorem dJ6_outOfBoundsMsg_28 : decode cJ6_outOfBoundsMsg 28 = .ok (.invokevirtual 32, 3) := dk_182 0 32 (dk_at dksJ6_outOfBoundsMsg_1 6 rfl rfl)
theorem dJ6_outOfBoundsMsg_31 : decode cJ6_outOfBoundsMsg 31 = .ok (.areturn, 1) := dk_176 (dk_at dksJ6_outOfBoundsMsg_1 9 rfl rfl)
theorem q90 : (Jvm.Cond.initialized "java/util/ArrayList") ∈ lw_all := lw_g (lw_at lw_m1 16 rfl) rfl
theorem q348 : (Jvm.Cond.instantiable "java/util/ArrayList" (3 : Nat)) ∈ lw_all := lw_g (lw_at lw_m2 34 rfl) rfl
theorem q350 : (Jvm.Cond.instanceMethod ({ cls := "java/util/ArrayList", name := "<init>", desc := "()V" } : Jvm.MethodName)) ∈ lw_all := lw_g (lw_at lw_m2 36 rfl) rfl
theorem q351 : (Jvm.Cond.code ({ cls := "java/util/ArrayList", name := "<init>", desc := "()V" } : Jvm.MethodName) prog_42_method_2_code (1 : Nat) (Option.none : Option Jvm.ClassFile.FieldType)) ∈ lw_all := lw_g (lw_at lw_m2 37 rfl) rfl
theorem q352 : (Jvm.Cond.methodLink "java/util/ArrayList" (1 : Nat) ({ cls := "java/util/AbstractList", name := "<init>", desc := "()V" } : Jvm.MethodName)) ∈ lw_all := lw_g (lw_at lw_m2 38 rfl) rfl
theorem q359 : (Jvm.Cond.fieldLink "java/util/ArrayList" (39 : Nat) "java/util/ArrayList" "DEFAULTCAPACITY_EMPTY_ELEMENTDATA" "[Ljava/lang/Object;") ∈ lw_all := lw_g (lw_at lw_m2 45 rfl) rfl
theorem q360 : (Jvm.Cond.laysStatic "java/util/ArrayList" "DEFAULTCAPACITY_EMPTY_ELEMENTDATA" "[Ljava/lang/Object;") ∈ lw_tbl := lw_at lw_m2 46 rfl
theorem q361 : (Jvm.Cond.fieldLink "java/util/ArrayList" (9 : Nat) "java/util/ArrayList" "elementData" "[Ljava/lang/Object;") ∈ lw_all := lw_g (lw_at lw_m2 47 rfl) rfl
theorem q362 : (Jvm.Cond.fieldLink "java/util/ArrayList" (48 : Nat) "java/util/ArrayList" "size" "I") ∈ lw_all := lw_g (lw_at lw_m2 48 rfl) rfl
theorem q364 : (Jvm.Cond.fieldLink "java/util/ArrayList" (63 : Nat) "java/util/ArrayList" "modCount" "I") ∈ lw_all := lw_g (lw_at lw_m2 50 rfl) rfl
theorem q365 : (Jvm.Cond.sameField "java/util/ArrayList" "java/util/AbstractList" "modCount" "I") ∈ lw_all := lw_g (lw_at lw_m2 51 rfl) rfl
theorem q366 : (Jvm.Cond.lays "java/util/ArrayList" "java/util/ArrayList" "elementData" "[Ljava/lang/Object;") ∈ lw_all := lw_g (lw_at lw_m2 52 rfl) rfl
theorem q367 : (Jvm.Cond.soleField "java/util/ArrayList" "elementData") ∈ lw_all := lw_g (lw_at lw_m2 53 rfl) rfl
theorem q368 : (Jvm.Cond.lays "java/util/ArrayList" "java/util/ArrayList" "size" "I") ∈ lw_all := lw_g (lw_at lw_m2 54 rfl) rfl
theorem q369 : (Jvm.Cond.soleField "java/util/ArrayList" "size") ∈ lw_all := lw_g (lw_at lw_m2 55 rfl) rfl
theorem q370 : (Jvm.Cond.lays "java/util/ArrayList" "java/util/AbstractList" "modCount" "I") ∈ lw_all := lw_g (lw_at lw_m2 56 rfl) rfl
theorem q372 : (Jvm.Cond.superclass "java/util/ArrayList" "java/util/AbstractList") ∈ lw_all := lw_g (lw_at lw_m2 58 rfl) rfl
theorem q676 : (Jvm.Cond.instanceMethod ({ cls := "java/util/ArrayList", name := "size", desc := "()I" } : Jvm.MethodName)) ∈ lw_all := lw_g (lw_at lw_m3 122 rfl) rfl
theorem q677 : (Jvm.Cond.selects "java/util/ArrayList" ({ cls := "java/util/ArrayList", name := "size", desc := "()I" } : Jvm.MethodName) ({ cls := "java/util/ArrayList", name := "size", desc := "()I" } : Jvm.MethodName)) ∈ lw_all := lw_g (lw_at lw_m3 123 rfl) rfl
theorem q678 : (Jvm.Cond.code ({ cls := "java/util/ArrayList", name := "size", desc := "()I" } : Jvm.MethodName) prog_42_method_8_code (1 : Nat) (Option.some Jvm.ClassFile.FieldType.int)) ∈ lw_all := lw_g (lw_at lw_m3 124 rfl) rfl
theorem q680 : (Jvm.Cond.instanceMethod ({ cls := "java/util/ArrayList", name := "get", desc := "(I)Ljava/lang/Object;" } : Jvm.MethodName)) ∈ lw_all := lw_g (lw_at lw_m3 126 rfl) rfl
theorem q681 : (Jvm.Cond.selects "java/util/ArrayList" ({ cls := "java/util/ArrayList", name := "get", desc := "(I)Ljava/lang/Object;" } : Jvm.MethodName) ({ cls := "java/util/ArrayList", name := "get", desc := "(I)Ljava/lang/Object;" } : Jvm.MethodName)) ∈ lw_all := lw_g (lw_at lw_m3 127 rfl) rfl
theorem q682 : (Jvm.Cond.code ({ cls := "java/util/ArrayList", name := "get", desc := "(I)Ljava/lang/Object;" } : Jvm.MethodName) prog_42_method_20_code (2 : Nat) (Option.some (Jvm.ClassFile.FieldType.object "java/lang/Object"))) ∈ lw_all := lw_g (lw_at lw_m3 128 rfl) rfl
theorem q683 : (Jvm.Cond.methodLink "java/util/ArrayList" (118 : Nat) ({ cls := "java/util/Objects", name := "checkIndex", desc := "(II)I" } : Jvm.MethodName)) ∈ lw_all := lw_g (lw_at lw_m3 129 rfl) rfl
theorem q689 : (Jvm.Cond.methodLink "java/util/ArrayList" (123 : Nat) ({ cls := "java/util/ArrayList", name := "elementData", desc := "(I)Ljava/lang/Object;" } : Jvm.MethodName)) ∈ lw_all := lw_g (lw_at lw_m3 135 rfl) rfl
theorem q690 : (Jvm.Cond.instanceMethod ({ cls := "java/util/ArrayList", name := "elementData", desc := "(I)Ljava/lang/Object;" } : Jvm.MethodName)) ∈ lw_all := lw_g (lw_at lw_m3 136 rfl) rfl
theorem q691 : (Jvm.Cond.selects "java/util/ArrayList" ({ cls := "java/util/ArrayList", name := "elementData", desc := "(I)Ljava/lang/Object;" } : Jvm.MethodName) ({ cls := "java/util/ArrayList", name := "elementData", desc := "(I)Ljava/lang/Object;" } : Jvm.MethodName)) ∈ lw_all := lw_g (lw_at lw_m3 137 rfl) rfl
theorem q692 : (Jvm.Cond.code ({ cls := "java/util/ArrayList", name := "elementData", desc := "(I)Ljava/lang/Object;" } : Jvm.MethodName) prog_42_method_18_code (2 : Nat) (Option.some (Jvm.ClassFile.FieldType.object "java/lang/Object"))) ∈ lw_all := lw_g (lw_at lw_m3 138 rfl) rfl
theorem q695 : (Jvm.Cond.instanceMethod ({ cls := "java/util/ArrayList", name := "add", desc := "(Ljava/lang/Object;)Z" } : Jvm.MethodName)) ∈ lw_all := lw_g (lw_at lw_m3 141 rfl) rfl
theorem q696 : (Jvm.Cond.selects "java/util/ArrayList" ({ cls := "java/util/ArrayList", name := "add", desc := "(Ljava/lang/Object;)Z" } : Jvm.MethodName) ({ cls := "java/util/ArrayList", name := "add", desc := "(Ljava/lang/Object;)Z" } : Jvm.MethodName)) ∈ lw_all := lw_g (lw_at lw_m3 142 rfl) rfl
theorem q697 : (Jvm.Cond.code ({ cls := "java/util/ArrayList", name := "add", desc := "(Ljava/lang/Object;)Z" } : Jvm.MethodName) prog_42_method_25_code (2 : Nat) (Option.some Jvm.ClassFile.FieldType.boolean)) ∈ lw_all := lw_g (lw_at lw_m3 143 rfl) rfl
theorem q698 : (Jvm.Cond.methodLink "java/util/ArrayList" (131 : Nat) ({ cls := "java/util/ArrayList", name := "add", desc := "(Ljava/lang/Object;[Ljava/lang/Object;I)V" } : Jvm.MethodName)) ∈ lw_all := lw_g (lw_at lw_m3 144 rfl) rfl
theorem q699 : (Jvm.Cond.privateMethod ({ cls := "java/util/ArrayList", name := "add", desc := "(Ljava/lang/Object;[Ljava/lang/Object;I)V" } : Jvm.MethodName)) ∈ lw_tbl := lw_at lw_m3 145 rfl
theorem q700 : (Jvm.Cond.instanceMethod ({ cls := "java/util/ArrayList", name := "add", desc := "(Ljava/lang/Object;[Ljava/lang/Object;I)V" } : Jvm.MethodName)) ∈ lw_all := lw_g (lw_at lw_m3 146 rfl) rfl
theorem q701 : (Jvm.Cond.code ({ cls := "java/util/ArrayList", name := "add", desc := "(Ljava/lang/Object;[Ljava/lang/Object;I)V" } : Jvm.MethodName) prog_42_method_24_code (4 : Nat) (Option.none : Option Jvm.ClassFile.FieldType)) ∈ lw_all := lw_g (lw_at lw_m3 147 rfl) rfl
theorem q702 : (Jvm.Cond.methodLink "java/util/ArrayList" (129 : Nat) ({ cls := "java/util/ArrayList", name := "grow", desc := "()[Ljava/lang/Object;" } : Jvm.MethodName)) ∈ lw_all := lw_g (lw_at lw_m3 148 rfl) rfl
theorem q703 : (Jvm.Cond.privateMethod ({ cls := "java/util/ArrayList", name := "grow", desc := "()[Ljava/lang/Object;" } : Jvm.MethodName)) ∈ lw_tbl := lw_at lw_m3 149 rfl
theorem q704 : (Jvm.Cond.instanceMethod ({ cls := "java/util/ArrayList", name := "grow", desc := "()[Ljava/lang/Object;" } : Jvm.MethodName)) ∈ lw_all := lw_g (lw_at lw_m3 150 rfl) rfl
theorem q705 : (Jvm.Cond.code ({ cls := "java/util/ArrayList", name := "grow", desc := "()[Ljava/lang/Object;" } : Jvm.MethodName) prog_42_method_7_code (1 : Nat) (Option.some (Jvm.ClassFile.FieldType.array (Jvm.ClassFile.FieldType.object "java/lang/Object")))) ∈ lw_all := lw_g (lw_at lw_m3 151 rfl) rfl
theorem q706 : (Jvm.Cond.methodLink "java/util/ArrayList" (69 : Nat) ({ cls := "java/util/ArrayList", name := "grow", desc := "(I)[Ljava/lang/Object;" } : Jvm.MethodName)) ∈ lw_all := lw_g (lw_at lw_m3 152 rfl) rfl
theorem q707 : (Jvm.Cond.privateMethod ({ cls := "java/util/ArrayList", name := "grow", desc := "(I)[Ljava/lang/Object;" } : Jvm.MethodName)) ∈ lw_tbl := lw_at lw_m3 153 rfl
theorem q708 : (Jvm.Cond.instanceMethod ({ cls := "java/util/ArrayList", name := "grow", desc := "(I)[Ljava/lang/Object;" } : Jvm.MethodName)) ∈ lw_all := lw_g (lw_at lw_m3 154 rfl) rfl
theorem q709 : (Jvm.Cond.code ({ cls := "java/util/ArrayList", name := "grow", desc := "(I)[Ljava/lang/Object;" } : Jvm.MethodName) prog_42_method_6_code (4 : Nat) (Option.some (Jvm.ClassFile.FieldType.array (Jvm.ClassFile.FieldType.object "java/lang/Object")))) ∈ lw_all := lw_g (lw_at lw_m3 155 rfl) rfl
theorem q710 : (Jvm.Cond.methodLink "java/util/ArrayList" (73 : Nat) ({ cls := "jdk/internal/util/ArraysSupport", name := "newLength", desc := "(III)I" } : Jvm.MethodName)) ∈ lw_all := lw_g (lw_at lw_m3 156 rfl) rfl
theorem q720 : (Jvm.Cond.methodLink "java/util/ArrayList" (66 : Nat) ({ cls := "java/util/Arrays", name := "copyOf", desc := "([Ljava/lang/Object;I)[Ljava/lang/Object;" } : Jvm.MethodName)) ∈ lw_all := lw_g (lw_at lw_m3 166 rfl) rfl
theorem q744 : (Jvm.Cond.selects "java/util/ArrayList" ({ cls := "java/lang/Object", name := "getClass", desc := "()Ljava/lang/Class;" } : Jvm.MethodName) ({ cls := "java/lang/Object", name := "getClass", desc := "()Ljava/lang/Class;" } : Jvm.MethodName)) ∈ lw_all := lw_g (lw_at lw_m3 190 rfl) rfl
theorem q759 : (Jvm.Cond.methodLink "java/util/ArrayList" (79 : Nat) ({ cls := "java/lang/Math", name := "max", desc := "(II)I" } : Jvm.MethodName)) ∈ lw_all := lw_g (lw_at lw_m3 205 rfl) rfl
theorem q760 : (Jvm.Cond.classLink "java/util/ArrayList" (7 : Nat) "java/lang/Object") ∈ lw_all := lw_g (lw_at lw_m3 206 rfl) rfl
theorem q762 : (Jvm.Cond.instanceMethod ({ cls := "java/util/ArrayList", name := "clear", desc := "()V" } : Jvm.MethodName)) ∈ lw_all := lw_g (lw_at lw_m3 208 rfl) rfl
theorem q763 : (Jvm.Cond.selects "java/util/ArrayList" ({ cls := "java/util/ArrayList", name := "clear", desc := "()V" } : Jvm.MethodName) ({ cls := "java/util/ArrayList", name := "clear", desc := "()V" } : Jvm.MethodName)) ∈ lw_all := lw_g (lw_at lw_m3 209 rfl) rfl
theorem q764 : (Jvm.Cond.code ({ cls := "java/util/ArrayList", name := "clear", desc := "()V" } : Jvm.MethodName) prog_42_method_40_code (4 : Nat) (Option.none : Option Jvm.ClassFile.FieldType)) ∈ lw_all := lw_g (lw_at lw_m3 210 rfl) rfl
theorem q981 : (Jvm.Cond.instanceMethod ({ cls := "java/util/ArrayList", name := "isEmpty", desc := "()Z" } : Jvm.MethodName)) ∈ lw_all := lw_g (lw_at lw_m4 187 rfl) rfl
theorem q982 : (Jvm.Cond.selects "java/util/ArrayList" ({ cls := "java/util/ArrayList", name := "isEmpty", desc := "()Z" } : Jvm.MethodName) ({ cls := "java/util/ArrayList", name := "isEmpty", desc := "()Z" } : Jvm.MethodName)) ∈ lw_all := lw_g (lw_at lw_m4 188 rfl) rfl
theorem q983 : (Jvm.Cond.code ({ cls := "java/util/ArrayList", name := "isEmpty", desc := "()Z" } : Jvm.MethodName) prog_42_method_9_code (1 : Nat) (Option.some Jvm.ClassFile.FieldType.boolean)) ∈ lw_all := lw_g (lw_at lw_m4 189 rfl) rfl
theorem q985 : (Jvm.Cond.instanceMethod ({ cls := "java/util/ArrayList", name := "remove", desc := "(I)Ljava/lang/Object;" } : Jvm.MethodName)) ∈ lw_all := lw_g (lw_at lw_m4 191 rfl) rfl
theorem q986 : (Jvm.Cond.selects "java/util/ArrayList" ({ cls := "java/util/ArrayList", name := "remove", desc := "(I)Ljava/lang/Object;" } : Jvm.MethodName) ({ cls := "java/util/ArrayList", name := "remove", desc := "(I)Ljava/lang/Object;" } : Jvm.MethodName)) ∈ lw_all := lw_g (lw_at lw_m4 192 rfl) rfl
theorem q987 : (Jvm.Cond.code ({ cls := "java/util/ArrayList", name := "remove", desc := "(I)Ljava/lang/Object;" } : Jvm.MethodName) prog_42_method_29_code (4 : Nat) (Option.some (Jvm.ClassFile.FieldType.object "java/lang/Object"))) ∈ lw_all := lw_g (lw_at lw_m4 193 rfl) rfl
theorem q988 : (Jvm.Cond.methodLink "java/util/ArrayList" (144 : Nat) ({ cls := "java/util/ArrayList", name := "fastRemove", desc := "([Ljava/lang/Object;I)V" } : Jvm.MethodName)) ∈ lw_all := lw_g (lw_at lw_m4 194 rfl) rfl
theorem q989 : (Jvm.Cond.privateMethod ({ cls := "java/util/ArrayList", name := "fastRemove", desc := "([Ljava/lang/Object;I)V" } : Jvm.MethodName)) ∈ lw_tbl := lw_at lw_m4 195 rfl
theorem q990 : (Jvm.Cond.instanceMethod ({ cls := "java/util/ArrayList", name := "fastRemove", desc := "([Ljava/lang/Object;I)V" } : Jvm.MethodName)) ∈ lw_all := lw_g (lw_at lw_m4 196 rfl) rfl
theorem q991 : (Jvm.Cond.code ({ cls := "java/util/ArrayList", name := "fastRemove", desc := "([Ljava/lang/Object;I)V" } : Jvm.MethodName) prog_42_method_39_code (4 : Nat) (Option.none : Option Jvm.ClassFile.FieldType)) ∈ lw_all := lw_g (lw_at lw_m4 197 rfl) rfl
theorem q992 : (Jvm.Cond.methodLink "java/util/ArrayList" (112 : Nat) ({ cls := "java/lang/System", name := "arraycopy", desc := "(Ljava/lang/Object;ILjava/lang/Object;II)V" } : Jvm.MethodName)) ∈ lw_all := lw_g (lw_at lw_m4 198 rfl) rfl
theorem q1038 : (Jvm.Cond.instanceMethod ({ cls := "java/util/ArrayList", name := "add", desc := "(ILjava/lang/Object;)V" } : Jvm.MethodName)) ∈ lw_all := lw_g (lw_at lw_m5 4 rfl) rfl
theorem q1039 : (Jvm.Cond.selects "java/util/ArrayList" ({ cls := "java/util/ArrayList", name := "add", desc := "(ILjava/lang/Object;)V" } : Jvm.MethodName) ({ cls := "java/util/ArrayList", name := "add", desc := "(ILjava/lang/Object;)V" } : Jvm.MethodName)) ∈ lw_all := lw_g (lw_at lw_m5 5 rfl) rfl
theorem q1040 : (Jvm.Cond.code ({ cls := "java/util/ArrayList", name := "add", desc := "(ILjava/lang/Object;)V" } : Jvm.MethodName) prog_42_method_26_code (5 : Nat) (Option.none : Option Jvm.ClassFile.FieldType)) ∈ lw_all := lw_g (lw_at lw_m5 6 rfl) rfl
theorem q1041 : (Jvm.Cond.methodLink "java/util/ArrayList" (135 : Nat) ({ cls := "java/util/ArrayList", name := "rangeCheckForAdd", desc := "(I)V" } : Jvm.MethodName)) ∈ lw_all := lw_g (lw_at lw_m5 7 rfl) rfl
theorem q1042 : (Jvm.Cond.privateMethod ({ cls := "java/util/ArrayList", name := "rangeCheckForAdd", desc := "(I)V" } : Jvm.MethodName)) ∈ lw_tbl := lw_at lw_m5 8 rfl
theorem q1043 : (Jvm.Cond.instanceMethod ({ cls := "java/util/ArrayList", name := "rangeCheckForAdd", desc := "(I)V" } : Jvm.MethodName)) ∈ lw_all := lw_g (lw_at lw_m5 9 rfl) rfl
theorem q1044 : (Jvm.Cond.code ({ cls := "java/util/ArrayList", name := "rangeCheckForAdd", desc := "(I)V" } : Jvm.MethodName) prog_42_method_45_code (2 : Nat) (Option.none : Option Jvm.ClassFile.FieldType)) ∈ lw_all := lw_g (lw_at lw_m5 10 rfl) rfl
theorem q1045 : (Jvm.Cond.classLink "java/util/ArrayList" (187 : Nat) "java/lang/IndexOutOfBoundsException") ∈ lw_all := lw_g (lw_at lw_m5 11 rfl) rfl
theorem q1046 : (Jvm.Cond.methodLink "java/util/ArrayList" (198 : Nat) ({ cls := "java/util/ArrayList", name := "outOfBoundsMsg", desc := "(I)Ljava/lang/String;" } : Jvm.MethodName)) ∈ lw_all := lw_g (lw_at lw_m5 12 rfl) rfl
theorem q1047 : (Jvm.Cond.privateMethod ({ cls := "java/util/ArrayList", name := "outOfBoundsMsg", desc := "(I)Ljava/lang/String;" } : Jvm.MethodName)) ∈ lw_tbl := lw_at lw_m5 13 rfl
theorem q1048 : (Jvm.Cond.instanceMethod ({ cls := "java/util/ArrayList", name := "outOfBoundsMsg", desc := "(I)Ljava/lang/String;" } : Jvm.MethodName)) ∈ lw_all := lw_g (lw_at lw_m5 14 rfl) rfl
theorem q1049 : (Jvm.Cond.code ({ cls := "java/util/ArrayList", name := "outOfBoundsMsg", desc := "(I)Ljava/lang/String;" } : Jvm.MethodName) prog_42_method_46_code (2 : Nat) (Option.some (Jvm.ClassFile.FieldType.object "java/lang/String"))) ∈ lw_all := lw_g (lw_at lw_m5 15 rfl) rfl
theorem q1050 : (Jvm.Cond.classLink "java/util/ArrayList" (20 : Nat) "java/lang/StringBuilder") ∈ lw_all := lw_g (lw_at lw_m5 16 rfl) rfl
theorem q1052 : (Jvm.Cond.methodLink "java/util/ArrayList" (22 : Nat) ({ cls := "java/lang/StringBuilder", name := "<init>", desc := "()V" } : Jvm.MethodName)) ∈ lw_all := lw_g (lw_at lw_m5 18 rfl) rfl
theorem q1081 : (Jvm.Cond.stringRef "java/util/ArrayList" (201 : Nat) "Index: ") ∈ lw_tbl := lw_at lw_m5 47 rfl
theorem q1082 : (Jvm.Cond.methodLink "java/util/ArrayList" (25 : Nat) ({ cls := "java/lang/StringBuilder", name := "append", desc := "(Ljava/lang/String;)Ljava/lang/StringBuilder;" } : Jvm.MethodName)) ∈ lw_all := lw_g (lw_at lw_m5 48 rfl) rfl
theorem q1187 : (Jvm.Cond.methodLink "java/util/ArrayList" (29 : Nat) ({ cls := "java/lang/StringBuilder", name := "append", desc := "(I)Ljava/lang/StringBuilder;" } : Jvm.MethodName)) ∈ lw_all := lw_g (lw_at lw_m5 153 rfl) rfl
theorem q1212 : (Jvm.Cond.stringRef "java/util/ArrayList" (203 : Nat) ", Size: ") ∈ lw_tbl := lw_at lw_m5 178 rfl
theorem q1213 : (Jvm.Cond.methodLink "java/util/ArrayList" (32 : Nat) ({ cls := "java/lang/StringBuilder", name := "toString", desc := "()Ljava/lang/String;" } : Jvm.MethodName)) ∈ lw_all := lw_g (lw_at lw_m5 179 rfl) rfl
theorem q1279 : (Jvm.Cond.methodLink "java/util/ArrayList" (193 : Nat) ({ cls := "java/lang/IndexOutOfBoundsException", name := "<init>", desc := "(Ljava/lang/String;)V" } : Jvm.MethodName)) ∈ lw_all := lw_g (lw_at lw_m6 5 rfl) rfl
theorem q1717 : (Jvm.Cond.castable "java/util/ArrayList" "java/lang/Object") ∈ lw_tbl := lw_at lw_m7 203 rfl
theorem in_J6 : ∀ w ∈ wsJ60, w ∈ lw_all := lw_in wsJ60 [370, 366, 368] (by decide +kernel) (by decide +kernel)
/-! java/lang/Math -/
set_option maxRecDepth 100000
def RJ7 : String := "java/lang/Math"
abbrev cJ7_abs : ByteArray := prog_29_method_59_code
def yJ7_abs : MethodName := ⟨RJ7, "abs", "(I)I"⟩
def dkwJ7_abs_0 : List UInt8 := [26, 156, 0, 8, 26, 116, 167, 0, 4, 26, 172]
abbrev dktJ7_abs_0 : List UInt8 := dkwJ7_abs_0 ++ []
theorem dksJ7_abs_0 : cJ7_abs.data.toList.drop 0 = dktJ7_abs_0 := by decide +kernel
theorem dJ7_abs_0 : decode cJ7_abs 0 = .ok (.iload_n 0, 1) := dk_26 (dk_at dksJ7_abs_0 0 rfl rfl)
theorem dJ7_abs_1 : decode cJ7_abs 1 = .ok (.ifCond .ge 8, 3) := dk_156 0 8 (dk_at dksJ7_abs_0 1 rfl rfl)
theorem dJ7_abs_4 : decode cJ7_abs 4 = .ok (.iload_n 0, 1) := dk_26 (dk_at dksJ7_abs_0 4 rfl rfl)
theorem dJ7_abs_5 : decode cJ7_abs 5 = .ok (.ineg, 1) := dk_116 (dk_at dksJ7_abs_0 5 rfl rfl)
theorem dJ7_abs_6 : decode cJ7_abs 6 = .ok (.goto 4, 3) := dk_167 0 4 (dk_at dksJ7_abs_0 6 rfl rfl)
theorem dJ7_abs_9 : decode cJ7_abs 9 = .ok (.iload_n 0, 1) := dk_26 (dk_at dksJ7_abs_0 9 rfl rfl)
theorem dJ7_abs_10 : decode cJ7_abs 10 = .ok (.ireturn, 1) := dk_172 (dk_at dksJ7_abs_0 10 rfl rfl)
abbrev cJ7_abs_2 : ByteArray := prog_29_method_61_code
def yJ7_abs_2 : MethodName := ⟨RJ7, "abs", "(J)J"⟩
def dkwJ7_abs_2_0 : List UInt8 := [30, 9, 148, 156, 0, 8, 30, 117, 167, 0, 4, 30, 173]
abbrev dktJ7_abs_2_0 : List UInt8 := dkwJ7_abs_2_0 ++ []
theorem dksJ7_abs_2_0 : cJ7_abs_2.data.toList.drop 0 = dktJ7_abs_2_0 := by decide +kernel
theorem dJ7_abs_2_0 : decode cJ7_abs_2 0 = .ok (.lload_n 0, 1) := dk_30 (dk_at dksJ7_abs_2_0 0 rfl rfl)
theorem dJ7_abs_2_1 : decode cJ7_abs_2 1 = .ok (.lconst 0, 1) := dk_9 (dk_at dksJ7_abs_2_0 1 rfl rfl)
theorem dJ7_abs_2_2 : decode cJ7_abs_2 2 = .ok (.lcmp, 1) := dk_148 (dk_at dksJ7_abs_2_0 2 rfl rfl)
theorem dJ7_abs_2_3 : decode cJ7_abs_2 3 = .ok (.ifCond .ge 8, 3) := dk_156 0 8 (dk_at dksJ7_abs_2_0 3 rfl rfl)
theorem dJ7_abs_2_6 : decode cJ7_abs_2 6 = .ok (.lload_n 0, 1) := dk_30 (dk_at dksJ7_abs_2_0 6 rfl rfl)
theorem dJ7_abs_2_7 : decode cJ7_abs_2 7 = .ok (.lneg, 1) := dk_117 (dk_at dksJ7_abs_2_0 7 rfl rfl)
theorem dJ7_abs_2_8 : decode cJ7_abs_2 8 = .ok (.goto 4, 3) := dk_167 0 4 (dk_at dksJ7_abs_2_0 8 rfl rfl)
theorem dJ7_abs_2_11 : decode cJ7_abs_2 11 = .ok (.lload_n 0, 1) := dk_30 (dk_at dksJ7_abs_2_0 11 rfl rfl)
theorem dJ7_abs_2_12 : decode cJ7_abs_2 12 = .ok (.lreturn, 1) := dk_173 (dk_at dksJ7_abs_2_0 12 rfl rfl)
abbrev cJ7_floorDiv : ByteArray := prog_29_method_49_code
def yJ7_floorDiv : MethodName := ⟨RJ7, "floorDiv", "(JJ)J"⟩
def dkwJ7_floorDiv_1 : List UInt8 := [10, 101, 173, 22, 4, 173]
abbrev dktJ7_floorDiv_1 : List UInt8 := dkwJ7_floorDiv_1 ++ []
def dkwJ7_floorDiv_0 : List UInt8 := [30, 32, 109, 55, 4, 30, 32, 131, 9, 148, 156, 0, 17, 22, 4, 32, 105, 30, 148, 153, 0, 8, 22, 4]
abbrev dktJ7_floorDiv_0 : List UInt8 := dkwJ7_floorDiv_0 ++ dktJ7_floorDiv_1
theorem dksJ7_floorDiv_0 : cJ7_floorDiv.data.toList.drop 0 = dktJ7_floorDiv_0 := by decide +kernel
theorem dksJ7_floorDiv_1 : cJ7_floorDiv.data.toList.drop 24 = dktJ7_floorDiv_1 := dk_seg dksJ7_floorDiv_0 24 rfl rfl
theorem dJ7_floorDiv_0 : decode cJ7_floorDiv 0 = .ok (.lload_n 0, 1) := dk_30 (dk_at dksJ7_floorDiv_0 0 rfl rfl)
theorem dJ7_floorDiv_1 : decode cJ7_floorDiv 1 = .ok (.lload_n 2, 1) := dk_32 (dk_at dksJ7_floorDiv_0 1 rfl rfl)
theorem dJ7_floorDiv_2 : decode cJ7_floorDiv 2 = .ok (.ldiv, 1) := dk_109 (dk_at dksJ7_floorDiv_0 2 rfl rfl)
theorem dJ7_floorDiv_3 : decode cJ7_floorDiv 3 = .ok (.lstore 4, 2) := dk_55 4 (dk_at dksJ7_floorDiv_0 3 rfl rfl)
theorem dJ7_floorDiv_5 : decode cJ7_floorDiv 5 = .ok (.lload_n 0, 1) := dk_30 (dk_at dksJ7_floorDiv_0 5 rfl rfl)
theorem dJ7_floorDiv_6 : decode cJ7_floorDiv 6 = .ok (.lload_n 2, 1) := dk_32 (dk_at dksJ7_floorDiv_0 6 rfl rfl)
theorem dJ7_floorDiv_7 : decode cJ7_floorDiv 7 = .ok (.lxor, 1) := dk_131 (dk_at dksJ7_floorDiv_0 7 rfl rfl)
theorem dJ7_floorDiv_8 : decode cJ7_floorDiv 8 = .ok (.lconst 0, 1) := dk_9 (dk_at dksJ7_floorDiv_0 8 rfl rfl)
theorem dJ7_floorDiv_9 : decode cJ7_floorDiv 9 = .ok (.lcmp, 1) := dk_148 (dk_at dksJ7_floorDiv_0 9 rfl rfl)
theorem dJ7_floorDiv_10 : decode cJ7_floorDiv 10 = .ok (.ifCond .ge 17, 3) := dk_156 0 17 (dk_at dksJ7_floorDiv_0 10 rfl rfl)
theorem dJ7_floorDiv_13 : decode cJ7_floorDiv 13 = .ok (.lload 4, 2) := dk_22 4 (dk_at dksJ7_floorDiv_0 13 rfl rfl)
theorem dJ7_floorDiv_15 : decode cJ7_floorDiv 15 = .ok (.lload_n 2, 1) := dk_32 (dk_at dksJ7_floorDiv_0 15 rfl rfl)
theorem dJ7_floorDiv_16 : decode cJ7_floorDiv 16 = .ok (.lmul, 1) := dk_105 (dk_at dksJ7_floorDiv_0 16 rfl rfl)
theorem dJ7_floorDiv_17 : decode cJ7_floorDiv 17 = .ok (.lload_n 0, 1) := dk_30 (dk_at dksJ7_floorDiv_0 17 rfl rfl)
theorem dJ7_floorDiv_18 : decode cJ7_floorDiv 18 = .ok (.lcmp, 1) := dk_148 (dk_at dksJ7_floorDiv_0 18 rfl rfl)
theorem dJ7_floorDiv_19 : decode cJ7_floorDiv 19 = .ok (.ifCond .eq 8, 3) := dk_153 0 8 (dk_at dksJ7_floorDiv_0 19 rfl rfl)
theorem dJ7_floorDiv_22 : decode cJ7_floorDiv 22 = .ok (.lload 4, 2) := dk_22 4 (dk_at dksJ7_floorDiv_0 22 rfl rfl)
theorem dJ7_floorDiv_24 : decode cJ7_floorDiv 24 = .ok (.lconst 1, 1) := dk_10 (dk_at dksJ7_floorDiv_1 0 rfl rfl)
theorem dJ7_floorDiv_25 : decode cJ7_floorDiv 25 = .ok (.lsub, 1) := dk_101 (dk_at dksJ7_floorDiv_1 1 rfl rfl)
theorem dJ7_floorDiv_26 : decode cJ7_floorDiv 26 = .ok (.lreturn, 1) := dk_173 (dk_at dksJ7_floorDiv_1 2 rfl rfl)
theorem dJ7_floorDiv_27 : decode cJ7_floorDiv 27 = .ok (.lload 4, 2) := dk_22 4 (dk_at dksJ7_floorDiv_1 3 rfl rfl)
theorem dJ7_floorDiv_29 : decode cJ7_floorDiv 29 = .ok (.lreturn, 1) := dk_173 (dk_at dksJ7_floorDiv_1 5 rfl rfl)
abbrev cJ7_max : ByteArray := prog_29_method_65_code
def yJ7_max : MethodName := ⟨RJ7, "max", "(II)I"⟩
def dkwJ7_max_0 : List UInt8 := [26, 27, 161, 0, 7, 26, 167, 0, 4, 27, 172]
abbrev dktJ7_max_0 : List UInt8 := dkwJ7_max_0 ++ []
theorem dksJ7_max_0 : cJ7_max.data.toList.drop 0 = dktJ7_max_0 := by decide +kernel
theorem dJ7_max_0 : decode cJ7_max 0 = .ok (.iload_n 0, 1) := dk_26 (dk_at dksJ7_max_0 0 rfl rfl)
theorem dJ7_max_1 : decode cJ7_max 1 = .ok (.iload_n 1, 1) := dk_27 (dk_at dksJ7_max_0 1 rfl rfl)
theorem dJ7_max_2 : decode cJ7_max 2 = .ok (.if_icmp .lt 7, 3) := dk_161 0 7 (dk_at dksJ7_max_0 2 rfl rfl)
theorem dJ7_max_5 : decode cJ7_max 5 = .ok (.iload_n 0, 1) := dk_26 (dk_at dksJ7_max_0 5 rfl rfl)
theorem dJ7_max_6 : decode cJ7_max 6 = .ok (.goto 4, 3) := dk_167 0 4 (dk_at dksJ7_max_0 6 rfl rfl)
theorem dJ7_max_9 : decode cJ7_max 9 = .ok (.iload_n 1, 1) := dk_27 (dk_at dksJ7_max_0 9 rfl rfl)
theorem dJ7_max_10 : decode cJ7_max 10 = .ok (.ireturn, 1) := dk_172 (dk_at dksJ7_max_0 10 rfl rfl)
abbrev cJ7_min : ByteArray := prog_29_method_69_code
def yJ7_min : MethodName := ⟨RJ7, "min", "(II)I"⟩
def dkwJ7_min_0 : List UInt8 := [26, 27, 163, 0, 7, 26, 167, 0, 4, 27, 172]
abbrev dktJ7_min_0 : List UInt8 := dkwJ7_min_0 ++ []
theorem dksJ7_min_0 : cJ7_min.data.toList.drop 0 = dktJ7_min_0 := by decide +kernel
theorem dJ7_min_0 : decode cJ7_min 0 = .ok (.iload_n 0, 1) := dk_26 (dk_at dksJ7_min_0 0 rfl rfl)
theorem dJ7_min_1 : decode cJ7_min 1 = .ok (.iload_n 1, 1) := dk_27 (dk_at dksJ7_min_0 1 rfl rfl)
theorem dJ7_min_2 : decode cJ7_min 2 = .ok (.if_icmp .gt 7, 3) := dk_163 0 7 (dk_at dksJ7_min_0 2 rfl rfl)
theorem dJ7_min_5 : decode cJ7_min 5 = .ok (.iload_n 0, 1) := dk_26 (dk_at dksJ7_min_0 5 rfl rfl)
theorem dJ7_min_6 : decode cJ7_min 6 = .ok (.goto 4, 3) := dk_167 0 4 (dk_at dksJ7_min_0 6 rfl rfl)
theorem dJ7_min_9 : decode cJ7_min 9 = .ok (.iload_n 1, 1) := dk_27 (dk_at dksJ7_min_0 9 rfl rfl)
theorem dJ7_min_10 : decode cJ7_min 10 = .ok (.ireturn, 1) := dk_172 (dk_at dksJ7_min_0 10 rfl rfl)
theorem q94 : (Jvm.Cond.initialized "java/lang/Math") ∈ lw_all := lw_g (lw_at lw_m1 20 rfl) rfl
theorem q621 : (Jvm.Cond.static ({ cls := "java/lang/Math", name := "abs", desc := "(I)I" } : Jvm.MethodName)) ∈ lw_all := lw_g (lw_at lw_m3 67 rfl) rfl
theorem q622 : (Jvm.Cond.code ({ cls := "java/lang/Math", name := "abs", desc := "(I)I" } : Jvm.MethodName) prog_29_method_59_code (1 : Nat) (Option.some Jvm.ClassFile.FieldType.int)) ∈ lw_all := lw_g (lw_at lw_m3 68 rfl) rfl
theorem q642 : (Jvm.Cond.static ({ cls := "java/lang/Math", name := "abs", desc := "(J)J" } : Jvm.MethodName)) ∈ lw_all := lw_g (lw_at lw_m3 88 rfl) rfl
theorem q643 : (Jvm.Cond.code ({ cls := "java/lang/Math", name := "abs", desc := "(J)J" } : Jvm.MethodName) prog_29_method_61_code (2 : Nat) (Option.some Jvm.ClassFile.FieldType.long)) ∈ lw_all := lw_g (lw_at lw_m3 89 rfl) rfl
theorem q653 : (Jvm.Cond.static ({ cls := "java/lang/Math", name := "floorDiv", desc := "(JJ)J" } : Jvm.MethodName)) ∈ lw_all := lw_g (lw_at lw_m3 99 rfl) rfl
theorem q654 : (Jvm.Cond.code ({ cls := "java/lang/Math", name := "floorDiv", desc := "(JJ)J" } : Jvm.MethodName) prog_29_method_49_code (6 : Nat) (Option.some Jvm.ClassFile.FieldType.long)) ∈ lw_all := lw_g (lw_at lw_m3 100 rfl) rfl
theorem q714 : (Jvm.Cond.static ({ cls := "java/lang/Math", name := "max", desc := "(II)I" } : Jvm.MethodName)) ∈ lw_all := lw_g (lw_at lw_m3 160 rfl) rfl
theorem q715 : (Jvm.Cond.code ({ cls := "java/lang/Math", name := "max", desc := "(II)I" } : Jvm.MethodName) prog_29_method_65_code (2 : Nat) (Option.some Jvm.ClassFile.FieldType.int)) ∈ lw_all := lw_g (lw_at lw_m3 161 rfl) rfl
theorem q754 : (Jvm.Cond.static ({ cls := "java/lang/Math", name := "min", desc := "(II)I" } : Jvm.MethodName)) ∈ lw_all := lw_g (lw_at lw_m3 200 rfl) rfl
theorem q755 : (Jvm.Cond.code ({ cls := "java/lang/Math", name := "min", desc := "(II)I" } : Jvm.MethodName) prog_29_method_69_code (2 : Nat) (Option.some Jvm.ClassFile.FieldType.int)) ∈ lw_all := lw_g (lw_at lw_m3 201 rfl) rfl
/-! java/util/Objects -/
set_option maxRecDepth 100000
def RJ8 : String := "java/util/Objects"
abbrev cJ8_checkIndex : ByteArray := prog_47_method_17_code
def yJ8_checkIndex : MethodName := ⟨RJ8, "checkIndex", "(II)I"⟩
def dkwJ8_checkIndex_0 : List UInt8 := [26, 27, 1, 184, 0, 105, 172]
abbrev dktJ8_checkIndex_0 : List UInt8 := dkwJ8_checkIndex_0 ++ []
theorem dksJ8_checkIndex_0 : cJ8_checkIndex.data.toList.drop 0 = dktJ8_checkIndex_0 := by decide +kernel
theorem dJ8_checkIndex_0 : decode cJ8_checkIndex 0 = .ok (.iload_n 0, 1) := dk_26 (dk_at dksJ8_checkIndex_0 0 rfl rfl)
theorem dJ8_checkIndex_1 : decode cJ8_checkIndex 1 = .ok (.iload_n 1, 1) := dk_27 (dk_at dksJ8_checkIndex_0 1 rfl rfl)
theorem dJ8_checkIndex_2 : decode cJ8_checkIndex 2 = .ok (.aconst_null, 1) := dk_1 (dk_at dksJ8_checkIndex_0 2 rfl rfl)
theorem dJ8_checkIndex_3 : decode cJ8_checkIndex 3 = .ok (.invokestatic 105, 3) := dk_184 0 105 (dk_at dksJ8_checkIndex_0 3 rfl rfl)
theorem dJ8_checkIndex_6 : decode cJ8_checkIndex 6 = .ok (.ireturn, 1) := dk_172 (dk_at dksJ8_checkIndex_0 6 rfl rfl)
theorem q95 : (Jvm.Cond.initialized "java/util/Objects") ∈ lw_all := lw_g (lw_at lw_m1 21 rfl) rfl
theorem q684 : (Jvm.Cond.static ({ cls := "java/util/Objects", name := "checkIndex", desc := "(II)I" } : Jvm.MethodName)) ∈ lw_all := lw_g (lw_at lw_m3 130 rfl) rfl
theorem q685 : (Jvm.Cond.code ({ cls := "java/util/Objects", name := "checkIndex", desc := "(II)I" } : Jvm.MethodName) prog_47_method_17_code (2 : Nat) (Option.some Jvm.ClassFile.FieldType.int)) ∈ lw_all := lw_g (lw_at lw_m3 131 rfl) rfl
theorem q686 : (Jvm.Cond.methodLink "java/util/Objects" (105 : Nat) ({ cls := "jdk/internal/util/Preconditions", name := "checkIndex", desc := "(IILjava/util/function/BiFunction;)I" } : Jvm.MethodName)) ∈ lw_all := lw_g (lw_at lw_m3 132 rfl) rfl
/-! jdk/internal/util/Preconditions -/
set_option maxRecDepth 100000
def RJ9 : String := "jdk/internal/util/Preconditions"
abbrev cJ9_checkIndex : ByteArray := prog_51_method_11_code
def yJ9_checkIndex : MethodName := ⟨RJ9, "checkIndex", "(IILjava/util/function/BiFunction;)I"⟩
def dkwJ9_checkIndex_0 : List UInt8 := [26, 155, 0, 8, 26, 27, 161, 0, 10, 44, 26, 27, 184, 0, 95, 191, 26, 172]
abbrev dktJ9_checkIndex_0 : List UInt8 := dkwJ9_checkIndex_0 ++ []
theorem dksJ9_checkIndex_0 : cJ9_checkIndex.data.toList.drop 0 = dktJ9_checkIndex_0 := by decide +kernel
theorem dJ9_checkIndex_0 : decode cJ9_checkIndex 0 = .ok (.iload_n 0, 1) := dk_26 (dk_at dksJ9_checkIndex_0 0 rfl rfl)
theorem dJ9_checkIndex_1 : decode cJ9_checkIndex 1 = .ok (.ifCond .lt 8, 3) := dk_155 0 8 (dk_at dksJ9_checkIndex_0 1 rfl rfl)
theorem dJ9_checkIndex_4 : decode cJ9_checkIndex 4 = .ok (.iload_n 0, 1) := dk_26 (dk_at dksJ9_checkIndex_0 4 rfl rfl)
theorem dJ9_checkIndex_5 : decode cJ9_checkIndex 5 = .ok (.iload_n 1, 1) := dk_27 (dk_at dksJ9_checkIndex_0 5 rfl rfl)
theorem dJ9_checkIndex_6 : decode cJ9_checkIndex 6 = .ok (.if_icmp .lt 10, 3) := dk_161 0 10 (dk_at dksJ9_checkIndex_0 6 rfl rfl)
theorem dJ9_checkIndex_9 : decode cJ9_checkIndex 9 = .ok (.aload_n 2, 1) := dk_44 (dk_at dksJ9_checkIndex_0 9 rfl rfl)
theorem dJ9_checkIndex_10 : decode cJ9_checkIndex 10 = .ok (.iload_n 0, 1) := dk_26 (dk_at dksJ9_checkIndex_0 10 rfl rfl)
theorem dJ9_checkIndex_11 : decode cJ9_checkIndex 11 = .ok (.iload_n 1, 1) := dk_27 (dk_at dksJ9_checkIndex_0 11 rfl rfl)
theorem dJ9_checkIndex_12 : decode cJ9_checkIndex 12 = .ok (.invokestatic 95, 3) := dk_184 0 95 (dk_at dksJ9_checkIndex_0 12 rfl rfl)
theorem dJ9_checkIndex_15 : decode cJ9_checkIndex 15 = .ok (.athrow, 1) := dk_191 (dk_at dksJ9_checkIndex_0 15 rfl rfl)
theorem dJ9_checkIndex_16 : decode cJ9_checkIndex 16 = .ok (.iload_n 0, 1) := dk_26 (dk_at dksJ9_checkIndex_0 16 rfl rfl)
theorem dJ9_checkIndex_17 : decode cJ9_checkIndex 17 = .ok (.ireturn, 1) := dk_172 (dk_at dksJ9_checkIndex_0 17 rfl rfl)
abbrev cJ9_checkFromToIndex : ByteArray := prog_51_method_12_code
def yJ9_checkFromToIndex : MethodName := ⟨RJ9, "checkFromToIndex", "(IIILjava/util/function/BiFunction;)I"⟩
def dkwJ9_checkFromToIndex_0 : List UInt8 := [26, 155, 0, 13, 26, 27, 163, 0, 8, 27, 28, 164, 0, 11, 45, 26, 27, 28, 184, 0, 99, 191, 26, 172]
abbrev dktJ9_checkFromToIndex_0 : List UInt8 := dkwJ9_checkFromToIndex_0 ++ []
theorem dksJ9_checkFromToIndex_0 : cJ9_checkFromToIndex.data.toList.drop 0 = dktJ9_checkFromToIndex_0 := by decide +kernel
theorem dJ9_checkFromToIndex_0 : decode cJ9_checkFromToIndex 0 = .ok (.iload_n 0, 1) := dk_26 (dk_at dksJ9_checkFromToIndex_0 0 rfl rfl)
theorem dJ9_checkFromToIndex_1 : decode cJ9_checkFromToIndex 1 = .ok (.ifCond .lt 13, 3) := dk_155 0 13 (dk_at dksJ9_checkFromToIndex_0 1 rfl rfl)
theorem dJ9_checkFromToIndex_4 : decode cJ9_checkFromToIndex 4 = .ok (.iload_n 0, 1) := dk_26 (dk_at dksJ9_checkFromToIndex_0 4 rfl rfl)
theorem dJ9_checkFromToIndex_5 : decode cJ9_checkFromToIndex 5 = .ok (.iload_n 1, 1) := dk_27 (dk_at dksJ9_checkFromToIndex_0 5 rfl rfl)
theorem dJ9_checkFromToIndex_6 : decode cJ9_checkFromToIndex 6 = .ok (.if_icmp .gt 8, 3) := dk_163 0 8 (dk_at dksJ9_checkFromToIndex_0 6 rfl rfl)
theorem dJ9_checkFromToIndex_9 : decode cJ9_checkFromToIndex 9 = .ok (.iload_n 1, 1) := dk_27 (dk_at dksJ9_checkFromToIndex_0 9 rfl rfl)
theorem dJ9_checkFromToIndex_10 : decode cJ9_checkFromToIndex 10 = .ok (.iload_n 2, 1) := dk_28 (dk_at dksJ9_checkFromToIndex_0 10 rfl rfl)
theorem dJ9_checkFromToIndex_11 : decode cJ9_checkFromToIndex 11 = .ok (.if_icmp .le 11, 3) := dk_164 0 11 (dk_at dksJ9_checkFromToIndex_0 11 rfl rfl)
theorem dJ9_checkFromToIndex_14 : decode cJ9_checkFromToIndex 14 = .ok (.aload_n 3, 1) := dk_45 (dk_at dksJ9_checkFromToIndex_0 14 rfl rfl)
theorem dJ9_checkFromToIndex_15 : decode cJ9_checkFromToIndex 15 = .ok (.iload_n 0, 1) := dk_26 (dk_at dksJ9_checkFromToIndex_0 15 rfl rfl)
theorem dJ9_checkFromToIndex_16 : decode cJ9_checkFromToIndex 16 = .ok (.iload_n 1, 1) := dk_27 (dk_at dksJ9_checkFromToIndex_0 16 rfl rfl)
theorem dJ9_checkFromToIndex_17 : decode cJ9_checkFromToIndex 17 = .ok (.iload_n 2, 1) := dk_28 (dk_at dksJ9_checkFromToIndex_0 17 rfl rfl)
theorem dJ9_checkFromToIndex_18 : decode cJ9_checkFromToIndex 18 = .ok (.invokestatic 99, 3) := dk_184 0 99 (dk_at dksJ9_checkFromToIndex_0 18 rfl rfl)
theorem dJ9_checkFromToIndex_21 : decode cJ9_checkFromToIndex 21 = .ok (.athrow, 1) := dk_191 (dk_at dksJ9_checkFromToIndex_0 21 rfl rfl)
theorem dJ9_checkFromToIndex_22 : decode cJ9_checkFromToIndex 22 = .ok (.iload_n 0, 1) := dk_26 (dk_at dksJ9_checkFromToIndex_0 22 rfl rfl)
theorem dJ9_checkFromToIndex_23 : decode cJ9_checkFromToIndex 23 = .ok (.ireturn, 1) := dk_172 (dk_at dksJ9_checkFromToIndex_0 23 rfl rfl)
abbrev cJ9_checkFromIndexSize : ByteArray := prog_51_method_13_code
def yJ9_checkFromIndexSize : MethodName := ⟨RJ9, "checkFromIndexSize", "(IIILjava/util/function/BiFunction;)I"⟩
def dkwJ9_checkFromIndexSize_1 : List UInt8 := [172]
abbrev dktJ9_checkFromIndexSize_1 : List UInt8 := dkwJ9_checkFromIndexSize_1 ++ []
def dkwJ9_checkFromIndexSize_0 : List UInt8 := [28, 26, 128, 27, 128, 155, 0, 10, 27, 28, 26, 100, 164, 0, 11, 45, 26, 27, 28, 184, 0, 103, 191, 26]
abbrev dktJ9_checkFromIndexSize_0 : List UInt8 := dkwJ9_checkFromIndexSize_0 ++ dktJ9_checkFromIndexSize_1
theorem dksJ9_checkFromIndexSize_0 : cJ9_checkFromIndexSize.data.toList.drop 0 = dktJ9_checkFromIndexSize_0 := by decide +kernel
theorem dksJ9_checkFromIndexSize_1 : cJ9_checkFromIndexSize.data.toList.drop 24 = dktJ9_checkFromIndexSize_1 := dk_seg dksJ9_checkFromIndexSize_0 24 rfl rfl
theorem dJ9_checkFromIndexSize_0 : decode cJ9_checkFromIndexSize 0 = .ok (.iload_n 2, 1) := dk_28 (dk_at dksJ9_checkFromIndexSize_0 0 rfl rfl)
theorem dJ9_checkFromIndexSize_1 : decode cJ9_checkFromIndexSize 1 = .ok (.iload_n 0, 1) := dk_26 (dk_at dksJ9_checkFromIndexSize_0 1 rfl rfl)
theorem dJ9_checkFromIndexSize_2 : decode cJ9_checkFromIndexSize 2 = .ok (.ior, 1) := dk_128 (dk_at dksJ9_checkFromIndexSize_0 2 rfl rfl)
theorem dJ9_checkFromIndexSize_3 : decode cJ9_checkFromIndexSize 3 = .ok (.iload_n 1, 1) := dk_27 (dk_at dksJ9_checkFromIndexSize_0 3 rfl rfl)
theorem dJ9_checkFromIndexSize_4 : decode cJ9_checkFromIndexSize 4 = .ok (.ior, 1) := dk_128 (dk_at dksJ9_checkFromIndexSize_0 4 rfl rfl)
theorem dJ9_checkFromIndexSize_5 : decode cJ9_checkFromIndexSize 5 = .ok (.ifCond .lt 10, 3) := dk_155 0 10 (dk_at dksJ9_checkFromIndexSize_0 5 rfl rfl)
theorem dJ9_checkFromIndexSize_8 : decode cJ9_checkFromIndexSize 8 = .ok (.iload_n 1, 1) := dk_27 (dk_at dksJ9_checkFromIndexSize_0 8 rfl rfl)
theorem dJ9_checkFromIndexSize_9 : decode cJ9_checkFromIndexSize 9 = .ok (.iload_n 2, 1) := dk_28 (dk_at dksJ9_checkFromIndexSize_0 9 rfl rfl)
theorem dJ9_checkFromIndexSize_10 : decode cJ9_checkFromIndexSize 10 = .ok (.iload_n 0, 1) := dk_26 (dk_at dksJ9_checkFromIndexSize_0 10 rfl rfl)
theorem dJ9_checkFromIndexSize_11 : decode cJ9_checkFromIndexSize 11 = .ok (.isub, 1) := dk_100 (dk_at dksJ9_checkFromIndexSize_0 11 rfl rfl)
theorem dJ9_checkFromIndexSize_12 : decode cJ9_checkFromIndexSize 12 = .ok (.if_icmp .le 11, 3) := dk_164 0 11 (dk_at dksJ9_checkFromIndexSize_0 12 rfl rfl)
theorem dJ9_checkFromIndexSize_15 : decode cJ9_checkFromIndexSize 15 = .ok (.aload_n 3, 1) := dk_45 (dk_at dksJ9_checkFromIndexSize_0 15 rfl rfl)
theorem dJ9_checkFromIndexSize_16 : decode cJ9_checkFromIndexSize 16 = .ok (.iload_n 0, 1) := dk_26 (dk_at dksJ9_checkFromIndexSize_0 16 rfl rfl)
theorem dJ9_checkFromIndexSize_17 : decode cJ9_checkFromIndexSize 17 = .ok (.iload_n 1, 1) := dk_27 (dk_at dksJ9_checkFromIndexSize_0 17 rfl rfl)
theorem dJ9_checkFromIndexSize_18 : decode cJ9_checkFromIndexSize 18 = .ok (.iload_n 2, 1) := dk_28 (dk_at dksJ9_checkFromIndexSize_0 18 rfl rfl)
theorem dJ9_checkFromIndexSize_19 : decode cJ9_checkFromIndexSize 19 = .ok (.invokestatic 103, 3) := dk_184 0 103 (dk_at dksJ9_checkFromIndexSize_0 19 rfl rfl)
theorem dJ9_checkFromIndexSize_22 : decode cJ9_checkFromIndexSize 22 = .ok (.athrow, 1) := dk_191 (dk_at dksJ9_checkFromIndexSize_0 22 rfl rfl)
theorem dJ9_checkFromIndexSize_23 : decode cJ9_checkFromIndexSize 23 = .ok (.iload_n 0, 1) := dk_26 (dk_at dksJ9_checkFromIndexSize_0 23 rfl rfl)
theorem dJ9_checkFromIndexSize_24 : decode cJ9_checkFromIndexSize 24 = .ok (.ireturn, 1) := dk_172 (dk_at dksJ9_checkFromIndexSize_1 0 rfl rfl)
theorem q96 : (Jvm.Cond.initialized "jdk/internal/util/Preconditions") ∈ lw_all := lw_g (lw_at lw_m1 22 rfl) rfl
theorem q687 : (Jvm.Cond.static ({ cls := "jdk/internal/util/Preconditions", name := "checkIndex", desc := "(IILjava/util/function/BiFunction;)I" } : Jvm.MethodName)) ∈ lw_all := lw_g (lw_at lw_m3 133 rfl) rfl
theorem q688 : (Jvm.Cond.code ({ cls := "jdk/internal/util/Preconditions", name := "checkIndex", desc := "(IILjava/util/function/BiFunction;)I" } : Jvm.MethodName) prog_51_method_11_code (3 : Nat) (Option.some Jvm.ClassFile.FieldType.int)) ∈ lw_all := lw_g (lw_at lw_m3 134 rfl) rfl
theorem q1131 : (Jvm.Cond.laysStatic "jdk/internal/util/Preconditions" "SIOOBE_FORMATTER" "Ljava/util/function/BiFunction;") ∈ lw_tbl := lw_at lw_m5 97 rfl
theorem q1133 : (Jvm.Cond.static ({ cls := "jdk/internal/util/Preconditions", name := "checkFromToIndex", desc := "(IIILjava/util/function/BiFunction;)I" } : Jvm.MethodName)) ∈ lw_all := lw_g (lw_at lw_m5 99 rfl) rfl
theorem q1134 : (Jvm.Cond.code ({ cls := "jdk/internal/util/Preconditions", name := "checkFromToIndex", desc := "(IIILjava/util/function/BiFunction;)I" } : Jvm.MethodName) prog_51_method_12_code (4 : Nat) (Option.some Jvm.ClassFile.FieldType.int)) ∈ lw_all := lw_g (lw_at lw_m5 100 rfl) rfl
theorem q1179 : (Jvm.Cond.static ({ cls := "jdk/internal/util/Preconditions", name := "checkFromIndexSize", desc := "(IIILjava/util/function/BiFunction;)I" } : Jvm.MethodName)) ∈ lw_all := lw_g (lw_at lw_m5 145 rfl) rfl
theorem q1180 : (Jvm.Cond.code ({ cls := "jdk/internal/util/Preconditions", name := "checkFromIndexSize", desc := "(IIILjava/util/function/BiFunction;)I" } : Jvm.MethodName) prog_51_method_13_code (4 : Nat) (Option.some Jvm.ClassFile.FieldType.int)) ∈ lw_all := lw_g (lw_at lw_m5 146 rfl) rfl
/-! jdk/internal/util/ArraysSupport -/
set_option maxRecDepth 100000
def RJ10 : String := "jdk/internal/util/ArraysSupport"
abbrev cJ10_newLength : ByteArray := prog_50_method_27_code
def yJ10_newLength : MethodName := ⟨RJ10, "newLength", "(III)I"⟩
def dkwJ10_newLength_1 : List UInt8 := [184, 0, 201, 172]
abbrev dktJ10_newLength_1 : List UInt8 := dkwJ10_newLength_1 ++ []
def dkwJ10_newLength_0 : List UInt8 := [26, 27, 28, 184, 0, 194, 96, 62, 3, 29, 162, 0, 11, 29, 18, 200, 163, 0, 5, 29, 172, 26, 27]
abbrev dktJ10_newLength_0 : List UInt8 := dkwJ10_newLength_0 ++ dktJ10_newLength_1
theorem dksJ10_newLength_0 : cJ10_newLength.data.toList.drop 0 = dktJ10_newLength_0 := by decide +kernel
theorem dksJ10_newLength_1 : cJ10_newLength.data.toList.drop 23 = dktJ10_newLength_1 := dk_seg dksJ10_newLength_0 23 rfl rfl
theorem dJ10_newLength_0 : decode cJ10_newLength 0 = .ok (.iload_n 0, 1) := dk_26 (dk_at dksJ10_newLength_0 0 rfl rfl)
theorem dJ10_newLength_1 : decode cJ10_newLength 1 = .ok (.iload_n 1, 1) := dk_27 (dk_at dksJ10_newLength_0 1 rfl rfl)
theorem dJ10_newLength_2 : decode cJ10_newLength 2 = .ok (.iload_n 2, 1) := dk_28 (dk_at dksJ10_newLength_0 2 rfl rfl)
theorem dJ10_newLength_3 : decode cJ10_newLength 3 = .ok (.invokestatic 194, 3) := dk_184 0 194 (dk_at dksJ10_newLength_0 3 rfl rfl)
theorem dJ10_newLength_6 : decode cJ10_newLength 6 = .ok (.iadd, 1) := dk_96 (dk_at dksJ10_newLength_0 6 rfl rfl)
theorem dJ10_newLength_7 : decode cJ10_newLength 7 = .ok (.istore_n 3, 1) := dk_62 (dk_at dksJ10_newLength_0 7 rfl rfl)
theorem dJ10_newLength_8 : decode cJ10_newLength 8 = .ok (.iconst 0, 1) := dk_3 (dk_at dksJ10_newLength_0 8 rfl rfl)
theorem dJ10_newLength_9 : decode cJ10_newLength 9 = .ok (.iload_n 3, 1) := dk_29 (dk_at dksJ10_newLength_0 9 rfl rfl)
theorem dJ10_newLength_10 : decode cJ10_newLength 10 = .ok (.if_icmp .ge 11, 3) := dk_162 0 11 (dk_at dksJ10_newLength_0 10 rfl rfl)
theorem dJ10_newLength_13 : decode cJ10_newLength 13 = .ok (.iload_n 3, 1) := dk_29 (dk_at dksJ10_newLength_0 13 rfl rfl)
theorem dJ10_newLength_14 : decode cJ10_newLength 14 = .ok (.ldc 200, 2) := dk_18 200 (dk_at dksJ10_newLength_0 14 rfl rfl)
theorem dJ10_newLength_16 : decode cJ10_newLength 16 = .ok (.if_icmp .gt 5, 3) := dk_163 0 5 (dk_at dksJ10_newLength_0 16 rfl rfl)
theorem dJ10_newLength_19 : decode cJ10_newLength 19 = .ok (.iload_n 3, 1) := dk_29 (dk_at dksJ10_newLength_0 19 rfl rfl)
theorem dJ10_newLength_20 : decode cJ10_newLength 20 = .ok (.ireturn, 1) := dk_172 (dk_at dksJ10_newLength_0 20 rfl rfl)
theorem dJ10_newLength_21 : decode cJ10_newLength 21 = .ok (.iload_n 0, 1) := dk_26 (dk_at dksJ10_newLength_0 21 rfl rfl)
theorem dJ10_newLength_22 : decode cJ10_newLength 22 = .ok (.iload_n 1, 1) := dk_27 (dk_at dksJ10_newLength_0 22 rfl rfl)
theorem dJ10_newLength_23 : decode cJ10_newLength 23 = .ok (.invokestatic 201, 3) := dk_184 0 201 (dk_at dksJ10_newLength_1 0 rfl rfl)
theorem dJ10_newLength_26 : decode cJ10_newLength 26 = .ok (.ireturn, 1) := dk_172 (dk_at dksJ10_newLength_1 3 rfl rfl)
abbrev cJ10_hugeLength : ByteArray := prog_50_method_28_code
def yJ10_hugeLength : MethodName := ⟨RJ10, "hugeLength", "(II)I"⟩
def dkwJ10_hugeLength_2 : List UInt8 := [191, 28, 18, 200, 163, 0, 6, 18, 200, 172, 28, 172]
abbrev dktJ10_hugeLength_2 : List UInt8 := dkwJ10_hugeLength_2 ++ []
def dkwJ10_hugeLength_1 : List UInt8 := [26, 182, 0, 98, 18, 208, 182, 0, 94, 27, 182, 0, 98, 18, 210, 182, 0, 94, 182, 0, 101, 183, 0, 212]
abbrev dktJ10_hugeLength_1 : List UInt8 := dkwJ10_hugeLength_1 ++ dktJ10_hugeLength_2
def dkwJ10_hugeLength_0 : List UInt8 := [26, 27, 96, 61, 28, 156, 0, 44, 187, 0, 204, 89, 187, 0, 89, 89, 183, 0, 91, 18, 206, 182, 0, 94]
abbrev dktJ10_hugeLength_0 : List UInt8 := dkwJ10_hugeLength_0 ++ dktJ10_hugeLength_1
theorem dksJ10_hugeLength_0 : cJ10_hugeLength.data.toList.drop 0 = dktJ10_hugeLength_0 := by decide +kernel
theorem dksJ10_hugeLength_1 : cJ10_hugeLength.data.toList.drop 24 = dktJ10_hugeLength_1 := dk_seg dksJ10_hugeLength_0 24 rfl rfl
theorem dksJ10_hugeLength_2 : cJ10_hugeLength.data.toList.drop 48 = dktJ10_hugeLength_2 := dk_seg dksJ10_hugeLength_1 24 rfl rfl
theorem dJ10_hugeLength_0 : decode cJ10_hugeLength 0 = .ok (.iload_n 0, 1) := dk_26 (dk_at dksJ10_hugeLength_0 0 rfl rfl)
theorem dJ10_hugeLength_1 : decode cJ10_hugeLength 1 = .ok (.iload_n 1, 1) := dk_27 (dk_at dksJ10_hugeLength_0 1 rfl rfl)
theorem dJ10_hugeLength_2 : decode cJ10_hugeLength 2 = .ok (.iadd, 1) := dk_96 (dk_at dksJ10_hugeLength_0 2 rfl rfl)
theorem dJ10_hugeLength_3 : decode cJ10_hugeLength 3 = .ok (.istore_n 2, 1) := dk_61 (dk_at dksJ10_hugeLength_0 3 rfl rfl)
theorem dJ10_hugeLength_4 : decode cJ10_hugeLength 4 = .ok (.iload_n 2, 1) := dk_28 (dk_at dksJ10_hugeLength_0 4 rfl rfl)
theorem dJ10_hugeLength_5 : decode cJ10_hugeLength 5 = .ok (.ifCond .ge 44, 3) := dk_156 0 44 (dk_at dksJ10_hugeLength_0 5 rfl rfl)
theorem dJ10_hugeLength_8 : decode cJ10_hugeLength 8 = .ok (.new 204, 3) := dk_187 0 204 (dk_at dksJ10_hugeLength_0 8 rfl rfl)
theorem dJ10_hugeLength_11 : decode cJ10_hugeLength 11 = .ok (.dup, 1) := dk_89 (dk_at dksJ10_hugeLength_0 11 rfl rfl)
theorem dJ10_hugeLength_12 : decode cJ10_hugeLength 12 = .ok (.new 89, 3) := dk_187 0 89 (dk_at dksJ10_hugeLength_0 12 rfl rfl)
theorem dJ10_hugeLength_15 : decode cJ10_hugeLength 15 = .ok (.dup, 1) := dk_89 (dk_at dksJ10_hugeLength_0 15 rfl rfl)
theorem dJ10_hugeLength_16 : decode cJ10_hugeLength 16 = .ok (.invokespecial 91, 3) := dk_183 0 91 (dk_at dksJ10_hugeLength_0 16 rfl rfl)
theorem dJ10_hugeLength_19 : decode cJ10_hugeLength 19 = .ok (.ldc 206, 2) := dk_18 206 (dk_at dksJ10_hugeLength_0 19 rfl rfl)
theorem dJ10_hugeLength_21 : decode cJ10_hugeLength 21 = .ok (.invokevirtual 94, 3) := dk_182 0 94 (dk_at dksJ10_hugeLength_0 21 rfl rfl)
theorem dJ10_hugeLength_24 : decode cJ10_hugeLength 24 = .ok (.iload_n 0, 1) := dk_26 (dk_at dksJ10_hugeLength_1 0 rfl rfl)
theorem dJ10_hugeLength_25 : decode cJ10_hugeLength 25 = .ok (.invokevirtual 98, 3) := dk_182 0 98 (dk_at dksJ10_hugeLength_1 1 rfl rfl)
theorem dJ10_hugeLength_28 : decode cJ10_hugeLength 28 = .ok (.ldc 208, 2) := dk_18 208 (dk_at dksJ10_hugeLength_1 4 rfl rfl)
theorem dJ10_hugeLength_30 : decode cJ10_hugeLength 30 = .ok (.invokevirtual 94, 3) := dk_182 0 94 (dk_at dksJ10_hugeLength_1 6 rfl rfl)
theorem dJ10_hugeLength_33 : decode cJ10_hugeLength 33 = .ok (.iload_n 1, 1) := dk_27 (dk_at dksJ10_hugeLength_1 9 rfl rfl)
theorem dJ10_hugeLength_34 : decode cJ10_hugeLength 34 = .ok (.invokevirtual 98, 3) := dk_182 0 98 (dk_at dksJ10_hugeLength_1 10 rfl rfl)
theorem dJ10_hugeLength_37 : decode cJ10_hugeLength 37 = .ok (.ldc 210, 2) := dk_18 210 (dk_at dksJ10_hugeLength_1 13 rfl rfl)
theorem dJ10_hugeLength_39 : decode cJ10_hugeLength 39 = .ok (.invokevirtual 94, 3) := dk_182 0 94 (dk_at dksJ10_hugeLength_1 15 rfl rfl)
theorem dJ10_hugeLength_42 : decode cJ10_hugeLength 42 = .ok (.invokevirtual 101, 3) := dk_182 0 101 (dk_at dksJ10_hugeLength_1 18 rfl rfl)
theorem dJ10_hugeLength_45 : decode cJ10_hugeLength 45 = .ok (.invokespecial 212, 3) := dk_183 0 212 (dk_at dksJ10_hugeLength_1 21 rfl rfl)
theorem dJ10_hugeLength_48 : decode cJ10_hugeLength 48 = .ok (.athrow, 1) := dk_191 (dk_at dksJ10_hugeLength_2 0 rfl rfl)
theorem dJ10_hugeLength_49 : decode cJ10_hugeLength 49 = .ok (.iload_n 2, 1) := dk_28 (dk_at dksJ10_hugeLength_2 1 rfl rfl)
theorem dJ10_hugeLength_50 : decode cJ10_hugeLength 50 = .ok (.ldc 200, 2) := dk_18 200 (dk_at dksJ10_hugeLength_2 2 rfl rfl)
theorem dJ10_hugeLength_52 : decode cJ10_hugeLength 52 = .ok (.if_icmp .gt 6, 3) := dk_163 0 6 (dk_at dksJ10_hugeLength_2 4 rfl rfl)
theorem dJ10_hugeLength_55 : decode cJ10_hugeLength 55 = .ok (.ldc 200, 2) := dk_18 200 (dk_at dksJ10_hugeLength_2 7 rfl rfl)
theorem dJ10_hugeLength_57 : decode cJ10_hugeLength 57 = .ok (.ireturn, 1) := dk_172 (dk_at dksJ10_hugeLength_2 9 rfl rfl)
theorem dJ10_hugeLength_58 : decode cJ10_hugeLength 58 = .ok (.iload_n 2, 1) := dk_28 (dk_at dksJ10_hugeLength_2 10 rfl rfl)
theorem dJ10_hugeLength_59 : decode cJ10_hugeLength 59 = .ok (.ireturn, 1) := dk_172 (dk_at dksJ10_hugeLength_2 11 rfl rfl)
theorem q97 : (Jvm.Cond.initialized "jdk/internal/util/ArraysSupport") ∈ lw_all := lw_g (lw_at lw_m1 23 rfl) rfl
theorem q711 : (Jvm.Cond.static ({ cls := "jdk/internal/util/ArraysSupport", name := "newLength", desc := "(III)I" } : Jvm.MethodName)) ∈ lw_all := lw_g (lw_at lw_m3 157 rfl) rfl
theorem q712 : (Jvm.Cond.code ({ cls := "jdk/internal/util/ArraysSupport", name := "newLength", desc := "(III)I" } : Jvm.MethodName) prog_50_method_27_code (4 : Nat) (Option.some Jvm.ClassFile.FieldType.int)) ∈ lw_all := lw_g (lw_at lw_m3 158 rfl) rfl
theorem q713 : (Jvm.Cond.methodLink "jdk/internal/util/ArraysSupport" (194 : Nat) ({ cls := "java/lang/Math", name := "max", desc := "(II)I" } : Jvm.MethodName)) ∈ lw_all := lw_g (lw_at lw_m3 159 rfl) rfl
theorem q716 : (Jvm.Cond.constant "jdk/internal/util/ArraysSupport" (200 : Nat) (2147483639 : Int32)) ∈ lw_all := lw_g (lw_at lw_m3 162 rfl) rfl
theorem q717 : (Jvm.Cond.methodLink "jdk/internal/util/ArraysSupport" (201 : Nat) ({ cls := "jdk/internal/util/ArraysSupport", name := "hugeLength", desc := "(II)I" } : Jvm.MethodName)) ∈ lw_all := lw_g (lw_at lw_m3 163 rfl) rfl
theorem q718 : (Jvm.Cond.static ({ cls := "jdk/internal/util/ArraysSupport", name := "hugeLength", desc := "(II)I" } : Jvm.MethodName)) ∈ lw_all := lw_g (lw_at lw_m3 164 rfl) rfl
theorem q719 : (Jvm.Cond.code ({ cls := "jdk/internal/util/ArraysSupport", name := "hugeLength", desc := "(II)I" } : Jvm.MethodName) prog_50_method_28_code (3 : Nat) (Option.some Jvm.ClassFile.FieldType.int)) ∈ lw_all := lw_g (lw_at lw_m3 165 rfl) rfl
/-! java/util/Arrays -/
set_option maxRecDepth 100000
def RJ11 : String := "java/util/Arrays"
abbrev cJ11_copyOf : ByteArray := prog_43_method_119_code
def yJ11_copyOf : MethodName := ⟨RJ11, "copyOf", "([Ljava/lang/Object;I)[Ljava/lang/Object;"⟩
def dkwJ11_copyOf_0 : List UInt8 := [42, 27, 42, 182, 0, 86, 184, 1, 44, 176]
abbrev dktJ11_copyOf_0 : List UInt8 := dkwJ11_copyOf_0 ++ []
theorem dksJ11_copyOf_0 : cJ11_copyOf.data.toList.drop 0 = dktJ11_copyOf_0 := by decide +kernel
theorem dJ11_copyOf_0 : decode cJ11_copyOf 0 = .ok (.aload_n 0, 1) := dk_42 (dk_at dksJ11_copyOf_0 0 rfl rfl)
theorem dJ11_copyOf_1 : decode cJ11_copyOf 1 = .ok (.iload_n 1, 1) := dk_27 (dk_at dksJ11_copyOf_0 1 rfl rfl)
theorem dJ11_copyOf_2 : decode cJ11_copyOf 2 = .ok (.aload_n 0, 1) := dk_42 (dk_at dksJ11_copyOf_0 2 rfl rfl)
theorem dJ11_copyOf_3 : decode cJ11_copyOf 3 = .ok (.invokevirtual 86, 3) := dk_182 0 86 (dk_at dksJ11_copyOf_0 3 rfl rfl)
theorem dJ11_copyOf_6 : decode cJ11_copyOf 6 = .ok (.invokestatic 300, 3) := dk_184 1 44 (dk_at dksJ11_copyOf_0 6 rfl rfl)
theorem dJ11_copyOf_9 : decode cJ11_copyOf 9 = .ok (.areturn, 1) := dk_176 (dk_at dksJ11_copyOf_0 9 rfl rfl)
abbrev cJ11_copyOf_2 : ByteArray := prog_43_method_120_code
def yJ11_copyOf_2 : MethodName := ⟨RJ11, "copyOf", "([Ljava/lang/Object;ILjava/lang/Class;)[Ljava/lang/Object;"⟩
def dkwJ11_copyOf_2_1 : List UInt8 := [78, 42, 3, 45, 3, 42, 190, 27, 184, 1, 48, 184, 0, 150, 45, 176]
abbrev dktJ11_copyOf_2_1 : List UInt8 := dkwJ11_copyOf_2_1 ++ []
def dkwJ11_copyOf_2_0 : List UInt8 := [44, 18, 110, 166, 0, 10, 27, 189, 0, 2, 167, 0, 14, 44, 182, 0, 90, 27, 184, 0, 95, 192, 0, 110]
abbrev dktJ11_copyOf_2_0 : List UInt8 := dkwJ11_copyOf_2_0 ++ dktJ11_copyOf_2_1
theorem dksJ11_copyOf_2_0 : cJ11_copyOf_2.data.toList.drop 0 = dktJ11_copyOf_2_0 := by decide +kernel
theorem dksJ11_copyOf_2_1 : cJ11_copyOf_2.data.toList.drop 24 = dktJ11_copyOf_2_1 := dk_seg dksJ11_copyOf_2_0 24 rfl rfl
theorem dJ11_copyOf_2_0 : decode cJ11_copyOf_2 0 = .ok (.aload_n 2, 1) := dk_44 (dk_at dksJ11_copyOf_2_0 0 rfl rfl)
theorem dJ11_copyOf_2_1 : decode cJ11_copyOf_2 1 = .ok (.ldc 110, 2) := dk_18 110 (dk_at dksJ11_copyOf_2_0 1 rfl rfl)
theorem dJ11_copyOf_2_3 : decode cJ11_copyOf_2 3 = .ok (.if_acmp .ne 10, 3) := dk_166 0 10 (dk_at dksJ11_copyOf_2_0 3 rfl rfl)
theorem dJ11_copyOf_2_6 : decode cJ11_copyOf_2 6 = .ok (.iload_n 1, 1) := dk_27 (dk_at dksJ11_copyOf_2_0 6 rfl rfl)
theorem dJ11_copyOf_2_7 : decode cJ11_copyOf_2 7 = .ok (.anewarray 2, 3) := dk_189 0 2 (dk_at dksJ11_copyOf_2_0 7 rfl rfl)
theorem dJ11_copyOf_2_10 : decode cJ11_copyOf_2 10 = .ok (.goto 14, 3) := dk_167 0 14 (dk_at dksJ11_copyOf_2_0 10 rfl rfl)
theorem dJ11_copyOf_2_13 : decode cJ11_copyOf_2 13 = .ok (.aload_n 2, 1) := dk_44 (dk_at dksJ11_copyOf_2_0 13 rfl rfl)
theorem dJ11_copyOf_2_14 : decode cJ11_copyOf_2 14 = .ok (.invokevirtual 90, 3) := dk_182 0 90 (dk_at dksJ11_copyOf_2_0 14 rfl rfl)
theorem dJ11_copyOf_2_17 : decode cJ11_copyOf_2 17 = .ok (.iload_n 1, 1) := dk_27 (dk_at dksJ11_copyOf_2_0 17 rfl rfl)
theorem dJ11_copyOf_2_18 : decode cJ11_copyOf_2 18 = .ok (.invokestatic 95, 3) := dk_184 0 95 (dk_at dksJ11_copyOf_2_0 18 rfl rfl)
theorem dJ11_copyOf_2_21 : decode cJ11_copyOf_2 21 = .ok (.checkcast 110, 3) := dk_192 0 110 (dk_at dksJ11_copyOf_2_0 21 rfl rfl)
theorem dJ11_copyOf_2_24 : decode cJ11_copyOf_2 24 = .ok (.astore_n 3, 1) := dk_78 (dk_at dksJ11_copyOf_2_1 0 rfl rfl)
theorem dJ11_copyOf_2_25 : decode cJ11_copyOf_2 25 = .ok (.aload_n 0, 1) := dk_42 (dk_at dksJ11_copyOf_2_1 1 rfl rfl)
theorem dJ11_copyOf_2_26 : decode cJ11_copyOf_2 26 = .ok (.iconst 0, 1) := dk_3 (dk_at dksJ11_copyOf_2_1 2 rfl rfl)
theorem dJ11_copyOf_2_27 : decode cJ11_copyOf_2 27 = .ok (.aload_n 3, 1) := dk_45 (dk_at dksJ11_copyOf_2_1 3 rfl rfl)
theorem dJ11_copyOf_2_28 : decode cJ11_copyOf_2 28 = .ok (.iconst 0, 1) := dk_3 (dk_at dksJ11_copyOf_2_1 4 rfl rfl)
theorem dJ11_copyOf_2_29 : decode cJ11_copyOf_2 29 = .ok (.aload_n 0, 1) := dk_42 (dk_at dksJ11_copyOf_2_1 5 rfl rfl)
theorem dJ11_copyOf_2_30 : decode cJ11_copyOf_2 30 = .ok (.arraylength, 1) := dk_190 (dk_at dksJ11_copyOf_2_1 6 rfl rfl)
theorem dJ11_copyOf_2_31 : decode cJ11_copyOf_2 31 = .ok (.iload_n 1, 1) := dk_27 (dk_at dksJ11_copyOf_2_1 7 rfl rfl)
theorem dJ11_copyOf_2_32 : decode cJ11_copyOf_2 32 = .ok (.invokestatic 304, 3) := dk_184 1 48 (dk_at dksJ11_copyOf_2_1 8 rfl rfl)
theorem dJ11_copyOf_2_35 : decode cJ11_copyOf_2 35 = .ok (.invokestatic 150, 3) := dk_184 0 150 (dk_at dksJ11_copyOf_2_1 11 rfl rfl)
theorem dJ11_copyOf_2_38 : decode cJ11_copyOf_2 38 = .ok (.aload_n 3, 1) := dk_45 (dk_at dksJ11_copyOf_2_1 14 rfl rfl)
theorem dJ11_copyOf_2_39 : decode cJ11_copyOf_2 39 = .ok (.areturn, 1) := dk_176 (dk_at dksJ11_copyOf_2_1 15 rfl rfl)
abbrev cJ11_copyOf_3 : ByteArray := prog_43_method_121_code
def yJ11_copyOf_3 : MethodName := ⟨RJ11, "copyOf", "([BI)[B"⟩
def dkwJ11_copyOf_3_1 : List UInt8 := [27, 184, 1, 48, 184, 0, 150, 44, 176]
abbrev dktJ11_copyOf_3_1 : List UInt8 := dkwJ11_copyOf_3_1 ++ []
def dkwJ11_copyOf_3_0 : List UInt8 := [27, 42, 190, 160, 0, 11, 42, 182, 1, 54, 192, 1, 55, 176, 27, 188, 8, 77, 42, 3, 44, 3, 42, 190]
abbrev dktJ11_copyOf_3_0 : List UInt8 := dkwJ11_copyOf_3_0 ++ dktJ11_copyOf_3_1
theorem dksJ11_copyOf_3_0 : cJ11_copyOf_3.data.toList.drop 0 = dktJ11_copyOf_3_0 := by decide +kernel
theorem dksJ11_copyOf_3_1 : cJ11_copyOf_3.data.toList.drop 24 = dktJ11_copyOf_3_1 := dk_seg dksJ11_copyOf_3_0 24 rfl rfl
theorem dJ11_copyOf_3_0 : decode cJ11_copyOf_3 0 = .ok (.iload_n 1, 1) := dk_27 (dk_at dksJ11_copyOf_3_0 0 rfl rfl)
theorem dJ11_copyOf_3_1 : decode cJ11_copyOf_3 1 = .ok (.aload_n 0, 1) := dk_42 (dk_at dksJ11_copyOf_3_0 1 rfl rfl)
theorem dJ11_copyOf_3_2 : decode cJ11_copyOf_3 2 = .ok (.arraylength, 1) := dk_190 (dk_at dksJ11_copyOf_3_0 2 rfl rfl)
theorem dJ11_copyOf_3_3 : decode cJ11_copyOf_3 3 = .ok (.if_icmp .ne 11, 3) := dk_160 0 11 (dk_at dksJ11_copyOf_3_0 3 rfl rfl)
theorem dJ11_copyOf_3_6 : decode cJ11_copyOf_3 6 = .ok (.aload_n 0, 1) := dk_42 (dk_at dksJ11_copyOf_3_0 6 rfl rfl)
theorem dJ11_copyOf_3_7 : decode cJ11_copyOf_3 7 = .ok (.invokevirtual 310, 3) := dk_182 1 54 (dk_at dksJ11_copyOf_3_0 7 rfl rfl)
theorem dJ11_copyOf_3_10 : decode cJ11_copyOf_3 10 = .ok (.checkcast 311, 3) := dk_192 1 55 (dk_at dksJ11_copyOf_3_0 10 rfl rfl)
theorem dJ11_copyOf_3_13 : decode cJ11_copyOf_3 13 = .ok (.areturn, 1) := dk_176 (dk_at dksJ11_copyOf_3_0 13 rfl rfl)
theorem dJ11_copyOf_3_14 : decode cJ11_copyOf_3 14 = .ok (.iload_n 1, 1) := dk_27 (dk_at dksJ11_copyOf_3_0 14 rfl rfl)
theorem dJ11_copyOf_3_15 : decode cJ11_copyOf_3 15 = .ok (.newarray .byte, 2) := dk_188_8 (dk_at dksJ11_copyOf_3_0 15 rfl rfl)
theorem dJ11_copyOf_3_17 : decode cJ11_copyOf_3 17 = .ok (.astore_n 2, 1) := dk_77 (dk_at dksJ11_copyOf_3_0 17 rfl rfl)
theorem dJ11_copyOf_3_18 : decode cJ11_copyOf_3 18 = .ok (.aload_n 0, 1) := dk_42 (dk_at dksJ11_copyOf_3_0 18 rfl rfl)
theorem dJ11_copyOf_3_19 : decode cJ11_copyOf_3 19 = .ok (.iconst 0, 1) := dk_3 (dk_at dksJ11_copyOf_3_0 19 rfl rfl)
theorem dJ11_copyOf_3_20 : decode cJ11_copyOf_3 20 = .ok (.aload_n 2, 1) := dk_44 (dk_at dksJ11_copyOf_3_0 20 rfl rfl)
theorem dJ11_copyOf_3_21 : decode cJ11_copyOf_3 21 = .ok (.iconst 0, 1) := dk_3 (dk_at dksJ11_copyOf_3_0 21 rfl rfl)
theorem dJ11_copyOf_3_22 : decode cJ11_copyOf_3 22 = .ok (.aload_n 0, 1) := dk_42 (dk_at dksJ11_copyOf_3_0 22 rfl rfl)
theorem dJ11_copyOf_3_23 : decode cJ11_copyOf_3 23 = .ok (.arraylength, 1) := dk_190 (dk_at dksJ11_copyOf_3_0 23 rfl rfl)
theorem dJ11_copyOf_3_24 : decode cJ11_copyOf_3 24 = .ok (.iload_n 1, 1) := dk_27 (dk_at dksJ11_copyOf_3_1 0 rfl rfl)
theorem dJ11_copyOf_3_25 : decode cJ11_copyOf_3 25 = .ok (.invokestatic 304, 3) := dk_184 1 48 (dk_at dksJ11_copyOf_3_1 1 rfl rfl)
theorem dJ11_copyOf_3_28 : decode cJ11_copyOf_3 28 = .ok (.invokestatic 150, 3) := dk_184 0 150 (dk_at dksJ11_copyOf_3_1 4 rfl rfl)
theorem dJ11_copyOf_3_31 : decode cJ11_copyOf_3 31 = .ok (.aload_n 2, 1) := dk_44 (dk_at dksJ11_copyOf_3_1 7 rfl rfl)
theorem dJ11_copyOf_3_32 : decode cJ11_copyOf_3 32 = .ok (.areturn, 1) := dk_176 (dk_at dksJ11_copyOf_3_1 8 rfl rfl)
abbrev cJ11_copyOfRange : ByteArray := prog_43_method_132_code
def yJ11_copyOfRange : MethodName := ⟨RJ11, "copyOfRange", "([BII)[B"⟩
def dkwJ11_copyOfRange_1 : List UInt8 := [176]
abbrev dktJ11_copyOfRange_1 : List UInt8 := dkwJ11_copyOfRange_1 ++ []
def dkwJ11_copyOfRange_0 : List UInt8 := [27, 154, 0, 9, 28, 42, 190, 159, 0, 10, 42, 27, 28, 184, 1, 83, 176, 42, 182, 1, 54, 192, 1, 55]
abbrev dktJ11_copyOfRange_0 : List UInt8 := dkwJ11_copyOfRange_0 ++ dktJ11_copyOfRange_1
theorem dksJ11_copyOfRange_0 : cJ11_copyOfRange.data.toList.drop 0 = dktJ11_copyOfRange_0 := by decide +kernel
theorem dksJ11_copyOfRange_1 : cJ11_copyOfRange.data.toList.drop 24 = dktJ11_copyOfRange_1 := dk_seg dksJ11_copyOfRange_0 24 rfl rfl
theorem dJ11_copyOfRange_0 : decode cJ11_copyOfRange 0 = .ok (.iload_n 1, 1) := dk_27 (dk_at dksJ11_copyOfRange_0 0 rfl rfl)
theorem dJ11_copyOfRange_1 : decode cJ11_copyOfRange 1 = .ok (.ifCond .ne 9, 3) := dk_154 0 9 (dk_at dksJ11_copyOfRange_0 1 rfl rfl)
theorem dJ11_copyOfRange_4 : decode cJ11_copyOfRange 4 = .ok (.iload_n 2, 1) := dk_28 (dk_at dksJ11_copyOfRange_0 4 rfl rfl)
theorem dJ11_copyOfRange_5 : decode cJ11_copyOfRange 5 = .ok (.aload_n 0, 1) := dk_42 (dk_at dksJ11_copyOfRange_0 5 rfl rfl)
theorem dJ11_copyOfRange_6 : decode cJ11_copyOfRange 6 = .ok (.arraylength, 1) := dk_190 (dk_at dksJ11_copyOfRange_0 6 rfl rfl)
theorem dJ11_copyOfRange_7 : decode cJ11_copyOfRange 7 = .ok (.if_icmp .eq 10, 3) := dk_159 0 10 (dk_at dksJ11_copyOfRange_0 7 rfl rfl)
theorem dJ11_copyOfRange_10 : decode cJ11_copyOfRange 10 = .ok (.aload_n 0, 1) := dk_42 (dk_at dksJ11_copyOfRange_0 10 rfl rfl)
theorem dJ11_copyOfRange_11 : decode cJ11_copyOfRange 11 = .ok (.iload_n 1, 1) := dk_27 (dk_at dksJ11_copyOfRange_0 11 rfl rfl)
theorem dJ11_copyOfRange_12 : decode cJ11_copyOfRange 12 = .ok (.iload_n 2, 1) := dk_28 (dk_at dksJ11_copyOfRange_0 12 rfl rfl)
theorem dJ11_copyOfRange_13 : decode cJ11_copyOfRange 13 = .ok (.invokestatic 339, 3) := dk_184 1 83 (dk_at dksJ11_copyOfRange_0 13 rfl rfl)
theorem dJ11_copyOfRange_16 : decode cJ11_copyOfRange 16 = .ok (.areturn, 1) := dk_176 (dk_at dksJ11_copyOfRange_0 16 rfl rfl)
theorem dJ11_copyOfRange_17 : decode cJ11_copyOfRange 17 = .ok (.aload_n 0, 1) := dk_42 (dk_at dksJ11_copyOfRange_0 17 rfl rfl)
theorem dJ11_copyOfRange_18 : decode cJ11_copyOfRange 18 = .ok (.invokevirtual 310, 3) := dk_182 1 54 (dk_at dksJ11_copyOfRange_0 18 rfl rfl)
theorem dJ11_copyOfRange_21 : decode cJ11_copyOfRange 21 = .ok (.checkcast 311, 3) := dk_192 1 55 (dk_at dksJ11_copyOfRange_0 21 rfl rfl)
theorem dJ11_copyOfRange_24 : decode cJ11_copyOfRange 24 = .ok (.areturn, 1) := dk_176 (dk_at dksJ11_copyOfRange_1 0 rfl rfl)
abbrev cJ11_copyOfRangeByte : ByteArray := prog_43_method_133_code
def yJ11_copyOfRangeByte : MethodName := ⟨RJ11, "copyOfRangeByte", "([BII)[B"⟩
def dkwJ11_copyOfRangeByte_1 : List UInt8 := [184, 1, 48, 184, 0, 150, 25, 4, 176]
abbrev dktJ11_copyOfRangeByte_1 : List UInt8 := dkwJ11_copyOfRangeByte_1 ++ []
def dkwJ11_copyOfRangeByte_0 : List UInt8 := [27, 28, 184, 1, 87, 28, 27, 100, 62, 29, 188, 8, 58, 4, 42, 27, 25, 4, 3, 42, 190, 27, 100, 29]
abbrev dktJ11_copyOfRangeByte_0 : List UInt8 := dkwJ11_copyOfRangeByte_0 ++ dktJ11_copyOfRangeByte_1
theorem dksJ11_copyOfRangeByte_0 : cJ11_copyOfRangeByte.data.toList.drop 0 = dktJ11_copyOfRangeByte_0 := by decide +kernel
theorem dksJ11_copyOfRangeByte_1 : cJ11_copyOfRangeByte.data.toList.drop 24 = dktJ11_copyOfRangeByte_1 := dk_seg dksJ11_copyOfRangeByte_0 24 rfl rfl
theorem dJ11_copyOfRangeByte_0 : decode cJ11_copyOfRangeByte 0 = .ok (.iload_n 1, 1) := dk_27 (dk_at dksJ11_copyOfRangeByte_0 0 rfl rfl)
theorem dJ11_copyOfRangeByte_1 : decode cJ11_copyOfRangeByte 1 = .ok (.iload_n 2, 1) := dk_28 (dk_at dksJ11_copyOfRangeByte_0 1 rfl rfl)
theorem dJ11_copyOfRangeByte_2 : decode cJ11_copyOfRangeByte 2 = .ok (.invokestatic 343, 3) := dk_184 1 87 (dk_at dksJ11_copyOfRangeByte_0 2 rfl rfl)
theorem dJ11_copyOfRangeByte_5 : decode cJ11_copyOfRangeByte 5 = .ok (.iload_n 2, 1) := dk_28 (dk_at dksJ11_copyOfRangeByte_0 5 rfl rfl)
theorem dJ11_copyOfRangeByte_6 : decode cJ11_copyOfRangeByte 6 = .ok (.iload_n 1, 1) := dk_27 (dk_at dksJ11_copyOfRangeByte_0 6 rfl rfl)
theorem dJ11_copyOfRangeByte_7 : decode cJ11_copyOfRangeByte 7 = .ok (.isub, 1) := dk_100 (dk_at dksJ11_copyOfRangeByte_0 7 rfl rfl)
theorem dJ11_copyOfRangeByte_8 : decode cJ11_copyOfRangeByte 8 = .ok (.istore_n 3, 1) := dk_62 (dk_at dksJ11_copyOfRangeByte_0 8 rfl rfl)
theorem dJ11_copyOfRangeByte_9 : decode cJ11_copyOfRangeByte 9 = .ok (.iload_n 3, 1) := dk_29 (dk_at dksJ11_copyOfRangeByte_0 9 rfl rfl)
theorem dJ11_copyOfRangeByte_10 : decode cJ11_copyOfRangeByte 10 = .ok (.newarray .byte, 2) := dk_188_8 (dk_at dksJ11_copyOfRangeByte_0 10 rfl rfl)
theorem dJ11_copyOfRangeByte_12 : decode cJ11_copyOfRangeByte 12 = .ok (.astore 4, 2) := dk_58 4 (dk_at dksJ11_copyOfRangeByte_0 12 rfl rfl)
theorem dJ11_copyOfRangeByte_14 : decode cJ11_copyOfRangeByte 14 = .ok (.aload_n 0, 1) := dk_42 (dk_at dksJ11_copyOfRangeByte_0 14 rfl rfl)
theorem dJ11_copyOfRangeByte_15 : decode cJ11_copyOfRangeByte 15 = .ok (.iload_n 1, 1) := dk_27 (dk_at dksJ11_copyOfRangeByte_0 15 rfl rfl)
theorem dJ11_copyOfRangeByte_16 : decode cJ11_copyOfRangeByte 16 = .ok (.aload 4, 2) := dk_25 4 (dk_at dksJ11_copyOfRangeByte_0 16 rfl rfl)
theorem dJ11_copyOfRangeByte_18 : decode cJ11_copyOfRangeByte 18 = .ok (.iconst 0, 1) := dk_3 (dk_at dksJ11_copyOfRangeByte_0 18 rfl rfl)
theorem dJ11_copyOfRangeByte_19 : decode cJ11_copyOfRangeByte 19 = .ok (.aload_n 0, 1) := dk_42 (dk_at dksJ11_copyOfRangeByte_0 19 rfl rfl)
theorem dJ11_copyOfRangeByte_20 : decode cJ11_copyOfRangeByte 20 = .ok (.arraylength, 1) := dk_190 (dk_at dksJ11_copyOfRangeByte_0 20 rfl rfl)
theorem dJ11_copyOfRangeByte_21 : decode cJ11_copyOfRangeByte 21 = .ok (.iload_n 1, 1) := dk_27 (dk_at dksJ11_copyOfRangeByte_0 21 rfl rfl)
theorem dJ11_copyOfRangeByte_22 : decode cJ11_copyOfRangeByte 22 = .ok (.isub, 1) := dk_100 (dk_at dksJ11_copyOfRangeByte_0 22 rfl rfl)
theorem dJ11_copyOfRangeByte_23 : decode cJ11_copyOfRangeByte 23 = .ok (.iload_n 3, 1) := dk_29 (dk_at dksJ11_copyOfRangeByte_0 23 rfl rfl)
theorem dJ11_copyOfRangeByte_24 : decode cJ11_copyOfRangeByte 24 = .ok (.invokestatic 304, 3) := dk_184 1 48 (dk_at dksJ11_copyOfRangeByte_1 0 rfl rfl)
theorem dJ11_copyOfRangeByte_27 : decode cJ11_copyOfRangeByte 27 = .ok (.invokestatic 150, 3) := dk_184 0 150 (dk_at dksJ11_copyOfRangeByte_1 3 rfl rfl)
theorem dJ11_copyOfRangeByte_30 : decode cJ11_copyOfRangeByte 30 = .ok (.aload 4, 2) := dk_25 4 (dk_at dksJ11_copyOfRangeByte_1 6 rfl rfl)
theorem dJ11_copyOfRangeByte_32 : decode cJ11_copyOfRangeByte 32 = .ok (.areturn, 1) := dk_176 (dk_at dksJ11_copyOfRangeByte_1 8 rfl rfl)
abbrev cJ11_checkLength : ByteArray := prog_43_method_131_code
def yJ11_checkLength : MethodName := ⟨RJ11, "checkLength", "(II)V"⟩
def dkwJ11_checkLength_1 : List UInt8 := [182, 0, 50, 27, 182, 0, 54, 182, 0, 61, 183, 0, 65, 191, 177]
abbrev dktJ11_checkLength_1 : List UInt8 := dkwJ11_checkLength_1 ++ []
def dkwJ11_checkLength_0 : List UInt8 := [27, 26, 162, 0, 35, 187, 0, 43, 89, 187, 0, 45, 89, 183, 0, 47, 26, 182, 0, 54, 19, 1, 81]
abbrev dktJ11_checkLength_0 : List UInt8 := dkwJ11_checkLength_0 ++ dktJ11_checkLength_1
theorem dksJ11_checkLength_0 : cJ11_checkLength.data.toList.drop 0 = dktJ11_checkLength_0 := by decide +kernel
theorem dksJ11_checkLength_1 : cJ11_checkLength.data.toList.drop 23 = dktJ11_checkLength_1 := dk_seg dksJ11_checkLength_0 23 rfl rfl
theorem dJ11_checkLength_0 : decode cJ11_checkLength 0 = .ok (.iload_n 1, 1) := dk_27 (dk_at dksJ11_checkLength_0 0 rfl rfl)
theorem dJ11_checkLength_1 : decode cJ11_checkLength 1 = .ok (.iload_n 0, 1) := dk_26 (dk_at dksJ11_checkLength_0 1 rfl rfl)
theorem dJ11_checkLength_2 : decode cJ11_checkLength 2 = .ok (.if_icmp .ge 35, 3) := dk_162 0 35 (dk_at dksJ11_checkLength_0 2 rfl rfl)
theorem dJ11_checkLength_5 : decode cJ11_checkLength 5 = .ok (.new 43, 3) := dk_187 0 43 (dk_at dksJ11_checkLength_0 5 rfl rfl)
theorem dJ11_checkLength_8 : decode cJ11_checkLength 8 = .ok (.dup, 1) := dk_89 (dk_at dksJ11_checkLength_0 8 rfl rfl)
theorem dJ11_checkLength_9 : decode cJ11_checkLength 9 = .ok (.new 45, 3) := dk_187 0 45 (dk_at dksJ11_checkLength_0 9 rfl rfl)
theorem dJ11_checkLength_12 : decode cJ11_checkLength 12 = .ok (.dup, 1) := dk_89 (dk_at dksJ11_checkLength_0 12 rfl rfl)
theorem dJ11_checkLength_13 : decode cJ11_checkLength 13 = .ok (.invokespecial 47, 3) := dk_183 0 47 (dk_at dksJ11_checkLength_0 13 rfl rfl)
theorem dJ11_checkLength_16 : decode cJ11_checkLength 16 = .ok (.iload_n 0, 1) := dk_26 (dk_at dksJ11_checkLength_0 16 rfl rfl)
theorem dJ11_checkLength_17 : decode cJ11_checkLength 17 = .ok (.invokevirtual 54, 3) := dk_182 0 54 (dk_at dksJ11_checkLength_0 17 rfl rfl)
theorem dJ11_checkLength_20 : decode cJ11_checkLength 20 = .ok (.ldc_w 337, 3) := dk_19 1 81 (dk_at dksJ11_checkLength_0 20 rfl rfl)
theorem dJ11_checkLength_23 : decode cJ11_checkLength 23 = .ok (.invokevirtual 50, 3) := dk_182 0 50 (dk_at dksJ11_checkLength_1 0 rfl rfl)
theorem dJ11_checkLength_26 : decode cJ11_checkLength 26 = .ok (.iload_n 1, 1) := dk_27 (dk_at dksJ11_checkLength_1 3 rfl rfl)
theorem dJ11_checkLength_27 : decode cJ11_checkLength 27 = .ok (.invokevirtual 54, 3) := dk_182 0 54 (dk_at dksJ11_checkLength_1 4 rfl rfl)
theorem dJ11_checkLength_30 : decode cJ11_checkLength 30 = .ok (.invokevirtual 61, 3) := dk_182 0 61 (dk_at dksJ11_checkLength_1 7 rfl rfl)
theorem dJ11_checkLength_33 : decode cJ11_checkLength 33 = .ok (.invokespecial 65, 3) := dk_183 0 65 (dk_at dksJ11_checkLength_1 10 rfl rfl)
theorem dJ11_checkLength_36 : decode cJ11_checkLength 36 = .ok (.athrow, 1) := dk_191 (dk_at dksJ11_checkLength_1 13 rfl rfl)
theorem dJ11_checkLength_37 : decode cJ11_checkLength 37 = .ok (.return_, 1) := dk_177 (dk_at dksJ11_checkLength_1 14 rfl rfl)
theorem q98 : (Jvm.Cond.initialized "java/util/Arrays") ∈ lw_all := lw_g (lw_at lw_m1 24 rfl) rfl
theorem q721 : (Jvm.Cond.static ({ cls := "java/util/Arrays", name := "copyOf", desc := "([Ljava/lang/Object;I)[Ljava/lang/Object;" } : Jvm.MethodName)) ∈ lw_all := lw_g (lw_at lw_m3 167 rfl) rfl
theorem q722 : (Jvm.Cond.code ({ cls := "java/util/Arrays", name := "copyOf", desc := "([Ljava/lang/Object;I)[Ljava/lang/Object;" } : Jvm.MethodName) prog_43_method_119_code (2 : Nat) (Option.some (Jvm.ClassFile.FieldType.array (Jvm.ClassFile.FieldType.object "java/lang/Object")))) ∈ lw_all := lw_g (lw_at lw_m3 168 rfl) rfl
theorem q723 : (Jvm.Cond.methodLink "java/util/Arrays" (86 : Nat) ({ cls := "java/lang/Object", name := "getClass", desc := "()Ljava/lang/Class;" } : Jvm.MethodName)) ∈ lw_all := lw_g (lw_at lw_m3 169 rfl) rfl
theorem q747 : (Jvm.Cond.methodLink "java/util/Arrays" (300 : Nat) ({ cls := "java/util/Arrays", name := "copyOf", desc := "([Ljava/lang/Object;ILjava/lang/Class;)[Ljava/lang/Object;" } : Jvm.MethodName)) ∈ lw_all := lw_g (lw_at lw_m3 193 rfl) rfl
theorem q748 : (Jvm.Cond.static ({ cls := "java/util/Arrays", name := "copyOf", desc := "([Ljava/lang/Object;ILjava/lang/Class;)[Ljava/lang/Object;" } : Jvm.MethodName)) ∈ lw_all := lw_g (lw_at lw_m3 194 rfl) rfl
theorem q749 : (Jvm.Cond.code ({ cls := "java/util/Arrays", name := "copyOf", desc := "([Ljava/lang/Object;ILjava/lang/Class;)[Ljava/lang/Object;" } : Jvm.MethodName) prog_43_method_120_code (4 : Nat) (Option.some (Jvm.ClassFile.FieldType.array (Jvm.ClassFile.FieldType.object "java/lang/Object")))) ∈ lw_all := lw_g (lw_at lw_m3 195 rfl) rfl
theorem q750 : (Jvm.Cond.classLink "java/util/Arrays" (110 : Nat) "[Ljava/lang/Object;") ∈ lw_all := lw_g (lw_at lw_m3 196 rfl) rfl
theorem q752 : (Jvm.Cond.classLink "java/util/Arrays" (2 : Nat) "java/lang/Object") ∈ lw_all := lw_g (lw_at lw_m3 198 rfl) rfl
theorem q753 : (Jvm.Cond.methodLink "java/util/Arrays" (304 : Nat) ({ cls := "java/lang/Math", name := "min", desc := "(II)I" } : Jvm.MethodName)) ∈ lw_all := lw_g (lw_at lw_m3 199 rfl) rfl
theorem q756 : (Jvm.Cond.methodLink "java/util/Arrays" (150 : Nat) ({ cls := "java/lang/System", name := "arraycopy", desc := "(Ljava/lang/Object;ILjava/lang/Object;II)V" } : Jvm.MethodName)) ∈ lw_all := lw_g (lw_at lw_m3 202 rfl) rfl
theorem q1104 : (Jvm.Cond.static ({ cls := "java/util/Arrays", name := "copyOf", desc := "([BI)[B" } : Jvm.MethodName)) ∈ lw_all := lw_g (lw_at lw_m5 70 rfl) rfl
theorem q1105 : (Jvm.Cond.code ({ cls := "java/util/Arrays", name := "copyOf", desc := "([BI)[B" } : Jvm.MethodName) prog_43_method_121_code (3 : Nat) (Option.some (Jvm.ClassFile.FieldType.array Jvm.ClassFile.FieldType.byte))) ∈ lw_all := lw_g (lw_at lw_m5 71 rfl) rfl
theorem q1106 : (Jvm.Cond.methodLink "java/util/Arrays" (310 : Nat) ({ cls := "[B", name := "clone", desc := "()Ljava/lang/Object;" } : Jvm.MethodName)) ∈ lw_all := lw_g (lw_at lw_m5 72 rfl) rfl
theorem q1112 : (Jvm.Cond.classLink "java/util/Arrays" (311 : Nat) "[B") ∈ lw_all := lw_g (lw_at lw_m5 78 rfl) rfl
theorem q1240 : (Jvm.Cond.static ({ cls := "java/util/Arrays", name := "copyOfRange", desc := "([BII)[B" } : Jvm.MethodName)) ∈ lw_all := lw_g (lw_at lw_m5 206 rfl) rfl
theorem q1241 : (Jvm.Cond.code ({ cls := "java/util/Arrays", name := "copyOfRange", desc := "([BII)[B" } : Jvm.MethodName) prog_43_method_132_code (3 : Nat) (Option.some (Jvm.ClassFile.FieldType.array Jvm.ClassFile.FieldType.byte))) ∈ lw_all := lw_g (lw_at lw_m5 207 rfl) rfl
theorem q1242 : (Jvm.Cond.methodLink "java/util/Arrays" (339 : Nat) ({ cls := "java/util/Arrays", name := "copyOfRangeByte", desc := "([BII)[B" } : Jvm.MethodName)) ∈ lw_all := lw_g (lw_at lw_m5 208 rfl) rfl
theorem q1243 : (Jvm.Cond.static ({ cls := "java/util/Arrays", name := "copyOfRangeByte", desc := "([BII)[B" } : Jvm.MethodName)) ∈ lw_all := lw_g (lw_at lw_m5 209 rfl) rfl
theorem q1244 : (Jvm.Cond.code ({ cls := "java/util/Arrays", name := "copyOfRangeByte", desc := "([BII)[B" } : Jvm.MethodName) prog_43_method_133_code (5 : Nat) (Option.some (Jvm.ClassFile.FieldType.array Jvm.ClassFile.FieldType.byte))) ∈ lw_all := lw_g (lw_at lw_m5 210 rfl) rfl
theorem q1245 : (Jvm.Cond.methodLink "java/util/Arrays" (343 : Nat) ({ cls := "java/util/Arrays", name := "checkLength", desc := "(II)V" } : Jvm.MethodName)) ∈ lw_all := lw_g (lw_at lw_m5 211 rfl) rfl
theorem q1246 : (Jvm.Cond.static ({ cls := "java/util/Arrays", name := "checkLength", desc := "(II)V" } : Jvm.MethodName)) ∈ lw_all := lw_g (lw_at lw_m5 212 rfl) rfl
theorem q1247 : (Jvm.Cond.code ({ cls := "java/util/Arrays", name := "checkLength", desc := "(II)V" } : Jvm.MethodName) prog_43_method_131_code (2 : Nat) (Option.none : Option Jvm.ClassFile.FieldType)) ∈ lw_all := lw_g (lw_at lw_m5 213 rfl) rfl
theorem q1248 : (Jvm.Cond.classLink "java/util/Arrays" (43 : Nat) "java/lang/IllegalArgumentException") ∈ lw_all := lw_g (lw_at lw_m5 214 rfl) rfl
theorem q1249 : (Jvm.Cond.classLink "java/util/Arrays" (45 : Nat) "java/lang/StringBuilder") ∈ lw_all := lw_g (lw_at lw_m5 215 rfl) rfl
theorem q1250 : (Jvm.Cond.methodLink "java/util/Arrays" (47 : Nat) ({ cls := "java/lang/StringBuilder", name := "<init>", desc := "()V" } : Jvm.MethodName)) ∈ lw_all := lw_g (lw_at lw_m5 216 rfl) rfl
theorem q1251 : (Jvm.Cond.methodLink "java/util/Arrays" (54 : Nat) ({ cls := "java/lang/StringBuilder", name := "append", desc := "(I)Ljava/lang/StringBuilder;" } : Jvm.MethodName)) ∈ lw_all := lw_g (lw_at lw_m5 217 rfl) rfl
theorem q1252 : (Jvm.Cond.stringRef "java/util/Arrays" (337 : Nat) " > ") ∈ lw_tbl := lw_at lw_m5 218 rfl
theorem q1253 : (Jvm.Cond.methodLink "java/util/Arrays" (50 : Nat) ({ cls := "java/lang/StringBuilder", name := "append", desc := "(Ljava/lang/String;)Ljava/lang/StringBuilder;" } : Jvm.MethodName)) ∈ lw_all := lw_g (lw_at lw_m5 219 rfl) rfl
theorem q1254 : (Jvm.Cond.methodLink "java/util/Arrays" (61 : Nat) ({ cls := "java/lang/StringBuilder", name := "toString", desc := "()Ljava/lang/String;" } : Jvm.MethodName)) ∈ lw_all := lw_g (lw_at lw_m5 220 rfl) rfl
theorem q1255 : (Jvm.Cond.methodLink "java/util/Arrays" (65 : Nat) ({ cls := "java/lang/IllegalArgumentException", name := "<init>", desc := "(Ljava/lang/String;)V" } : Jvm.MethodName)) ∈ lw_all := lw_g (lw_at lw_m5 221 rfl) rfl
/-! java/lang/Object -/
set_option maxRecDepth 100000
def RJ22 : String := "java/lang/Object"
abbrev cJ22_init : ByteArray := object_method_1_code
def yJ22_init : MethodName := ⟨RJ22, "<init>", "()V"⟩
theorem dJ22_init_0 : decode cJ22_init 0 = .ok (.return_, 1) := by decide +kernel
theorem q118 : (Jvm.Cond.instanceMethod ({ cls := "java/lang/Object", name := "<init>", desc := "()V" } : Jvm.MethodName)) ∈ lw_all := lw_g (lw_at lw_m1 44 rfl) rfl
theorem q119 : (Jvm.Cond.code ({ cls := "java/lang/Object", name := "<init>", desc := "()V" } : Jvm.MethodName) object_method_1_code (1 : Nat) (Option.none : Option Jvm.ClassFile.FieldType)) ∈ lw_all := lw_g (lw_at lw_m1 45 rfl) rfl
theorem q724 : (Jvm.Cond.instanceMethod ({ cls := "java/lang/Object", name := "getClass", desc := "()Ljava/lang/Class;" } : Jvm.MethodName)) ∈ lw_all := lw_g (lw_at lw_m3 170 rfl) rfl
theorem q725 : (Jvm.Cond.sameMethod "java/lang/Object" "java/lang/Object" "getClass" "()Ljava/lang/Class;") ∈ lw_all := lw_g (lw_at lw_m3 171 rfl) rfl
theorem q746 : (Jvm.Cond.native ({ cls := "java/lang/Object", name := "getClass", desc := "()Ljava/lang/Class;" } : Jvm.MethodName)) ∈ lw_all := lw_g (lw_at lw_m3 192 rfl) rfl
theorem q1108 : (Jvm.Cond.native ({ cls := "java/lang/Object", name := "clone", desc := "()Ljava/lang/Object;" } : Jvm.MethodName)) ∈ lw_all := lw_g (lw_at lw_m5 74 rfl) rfl
theorem q1109 : (Jvm.Cond.instanceMethod ({ cls := "java/lang/Object", name := "clone", desc := "()Ljava/lang/Object;" } : Jvm.MethodName)) ∈ lw_all := lw_g (lw_at lw_m5 75 rfl) rfl
theorem q1704 : (Jvm.Cond.initialized "java/lang/Object") ∈ lw_all := lw_g (lw_at lw_m7 190 rfl) rfl
theorem q1730 : (Jvm.Cond.declares ({ cls := "java/lang/Object", name := "getClass", desc := "()Ljava/lang/Class;" } : Jvm.MethodName)) ∈ lw_tbl := lw_at lw_m7 216 rfl
