/-! LeastSolutions$Grower -/
set_option maxRecDepth 100000
def RX6 : String := "LeastSolutions$Grower"
def TX6 : u_T := fun k => match k with
  | 0 => ("LeastSolutions$Grower", "m", "LLeastSolutions$Model;", false)
  | 1 => ("LeastSolutions$Grower", "signs", "[I", true)
  | 2 => ("LeastSolutions$Grower", "found", "LLeastSolutions$Shelf;", true)
  | 3 => ("LeastSolutions$Grower", "here", "[I", false)
  | 4 => ("LeastSolutions$Grower", "next", "[I", false)
  | 5 => ("LeastSolutions$Grower", "hereSize", "I", false)
  | 6 => ("LeastSolutions$Grower", "nextSize", "I", false)
  | 7 => ("LeastSolutions$Grower", "x", "[I", true)
  | 8 => ("LeastSolutions$Grower", "made", "[I", true)
  | 9 => ("LeastSolutions$Grower", "others", "LLeastSolutions$Shelf;", false)
  | _ => ("LeastSolutions$Grower", "full", "Z", false)
def tyX6 : Nat → FieldType := fun k => match k with
  | 0 => .object "LeastSolutions$Model"
  | 1 => .array .int
  | 2 => .object "LeastSolutions$Shelf"
  | 3 => .array .int
  | 4 => .array .int
  | 5 => .int
  | 6 => .int
  | 7 => .array .int
  | 8 => .array .int
  | 9 => .object "LeastSolutions$Shelf"
  | _ => .boolean
abbrev wsX60 : List Cond := u_ws RX6 TX6 11
theorem nmX6 : ∀ a, a < 11 → ∀ b, b < 11 → a ≠ b → (TX6 a).2.1 ≠ (TX6 b).2.1 := by decide +kernel
theorem tyX6_ok : ∀ k, k < 11 → parseFieldDescriptor (TX6 k).2.2.1 = some (tyX6 k) := by decide +kernel
abbrev cX6_init : ByteArray := prog_3_method_1_code
def yX6_init : MethodName := ⟨RX6, "<init>", "()V"⟩
def dkwX6_init_2 : List UInt8 := [181, 0, 28, 42, 7, 188, 10, 181, 0, 31, 177]
abbrev dktX6_init_2 : List UInt8 := dkwX6_init_2 ++ []
def dkwX6_init_1 : List UInt8 := [17, 0, 224, 188, 10, 181, 0, 22, 42, 17, 0, 224, 188, 10, 181, 0, 25, 42, 16, 6, 188, 10]
abbrev dktX6_init_1 : List UInt8 := dkwX6_init_1 ++ dktX6_init_2
def dkwX6_init_0 : List UInt8 := [42, 183, 0, 3, 42, 16, 6, 188, 10, 181, 0, 9, 42, 187, 0, 15, 89, 183, 0, 17, 181, 0, 18, 42]
abbrev dktX6_init_0 : List UInt8 := dkwX6_init_0 ++ dktX6_init_1
theorem dksX6_init_0 : cX6_init.data.toList.drop 0 = dktX6_init_0 := by decide +kernel
theorem dksX6_init_1 : cX6_init.data.toList.drop 24 = dktX6_init_1 := dk_seg dksX6_init_0 24 rfl rfl
theorem dksX6_init_2 : cX6_init.data.toList.drop 46 = dktX6_init_2 := dk_seg dksX6_init_1 22 rfl rfl
theorem dX6_init_0 : decode cX6_init 0 = .ok (.aload_n 0, 1) := dk_42 (dk_at dksX6_init_0 0 rfl rfl)
theorem dX6_init_1 : decode cX6_init 1 = .ok (.invokespecial 3, 3) := dk_183 0 3 (dk_at dksX6_init_0 1 rfl rfl)
theorem dX6_init_4 : decode cX6_init 4 = .ok (.aload_n 0, 1) := dk_42 (dk_at dksX6_init_0 4 rfl rfl)
theorem dX6_init_5 : decode cX6_init 5 = .ok (.bipush 6, 2) := dk_16 6 (dk_at dksX6_init_0 5 rfl rfl)
theorem dX6_init_7 : decode cX6_init 7 = .ok (.newarray .int, 2) := dk_188_10 (dk_at dksX6_init_0 7 rfl rfl)
theorem dX6_init_9 : decode cX6_init 9 = .ok (.putfield 9, 3) := dk_181 0 9 (dk_at dksX6_init_0 9 rfl rfl)
theorem dX6_init_12 : decode cX6_init 12 = .ok (.aload_n 0, 1) := dk_42 (dk_at dksX6_init_0 12 rfl rfl)
theorem dX6_init_13 : decode cX6_init 13 = .ok (.new 15, 3) := dk_187 0 15 (dk_at dksX6_init_0 13 rfl rfl)
theorem dX6_init_16 : decode cX6_init 16 = .ok (.dup, 1) := dk_89 (dk_at dksX6_init_0 16 rfl rfl)
theorem dX6_init_17 : decode cX6_init 17 = .ok (.invokespecial 17, 3) := dk_183 0 17 (dk_at dksX6_init_0 17 rfl rfl)
theorem dX6_init_20 : decode cX6_init 20 = .ok (.putfield 18, 3) := dk_181 0 18 (dk_at dksX6_init_0 20 rfl rfl)
theorem dX6_init_23 : decode cX6_init 23 = .ok (.aload_n 0, 1) := dk_42 (dk_at dksX6_init_0 23 rfl rfl)
theorem dX6_init_24 : decode cX6_init 24 = .ok (.sipush 224, 3) := dk_17 0 224 (dk_at dksX6_init_1 0 rfl rfl)
theorem dX6_init_27 : decode cX6_init 27 = .ok (.newarray .int, 2) := dk_188_10 (dk_at dksX6_init_1 3 rfl rfl)
theorem dX6_init_29 : decode cX6_init 29 = .ok (.putfield 22, 3) := dk_181 0 22 (dk_at dksX6_init_1 5 rfl rfl)
theorem dX6_init_32 : decode cX6_init 32 = .ok (.aload_n 0, 1) := dk_42 (dk_at dksX6_init_1 8 rfl rfl)
theorem dX6_init_33 : decode cX6_init 33 = .ok (.sipush 224, 3) := dk_17 0 224 (dk_at dksX6_init_1 9 rfl rfl)
theorem dX6_init_36 : decode cX6_init 36 = .ok (.newarray .int, 2) := dk_188_10 (dk_at dksX6_init_1 12 rfl rfl)
theorem dX6_init_38 : decode cX6_init 38 = .ok (.putfield 25, 3) := dk_181 0 25 (dk_at dksX6_init_1 14 rfl rfl)
theorem dX6_init_41 : decode cX6_init 41 = .ok (.aload_n 0, 1) := dk_42 (dk_at dksX6_init_1 17 rfl rfl)
theorem dX6_init_42 : decode cX6_init 42 = .ok (.bipush 6, 2) := dk_16 6 (dk_at dksX6_init_1 18 rfl rfl)
theorem dX6_init_44 : decode cX6_init 44 = .ok (.newarray .int, 2) := dk_188_10 (dk_at dksX6_init_1 20 rfl rfl)
theorem dX6_init_46 : decode cX6_init 46 = .ok (.putfield 28, 3) := dk_181 0 28 (dk_at dksX6_init_2 0 rfl rfl)
theorem dX6_init_49 : decode cX6_init 49 = .ok (.aload_n 0, 1) := dk_42 (dk_at dksX6_init_2 3 rfl rfl)
theorem dX6_init_50 : decode cX6_init 50 = .ok (.iconst 4, 1) := dk_7 (dk_at dksX6_init_2 4 rfl rfl)
theorem dX6_init_51 : decode cX6_init 51 = .ok (.newarray .int, 2) := dk_188_10 (dk_at dksX6_init_2 5 rfl rfl)
theorem dX6_init_53 : decode cX6_init 53 = .ok (.putfield 31, 3) := dk_181 0 31 (dk_at dksX6_init_2 7 rfl rfl)
theorem dX6_init_56 : decode cX6_init 56 = .ok (.return_, 1) := dk_177 (dk_at dksX6_init_2 10 rfl rfl)
abbrev cX6_kernel : ByteArray := prog_3_method_2_code
def yX6_kernel : MethodName := ⟨RX6, "kernel", "(LLeastSolutions$Model;II)Z"⟩
def dkwX6_kernel_4 : List UInt8 := [180, 0, 59, 154, 0, 7, 4, 167, 0, 4, 3, 172]
abbrev dktX6_kernel_4 : List UInt8 := dkwX6_kernel_4 ++ []
def dkwX6_kernel_3 : List UInt8 := [4, 21, 4, 120, 4, 100, 182, 0, 51, 132, 4, 1, 167, 255, 188, 42, 4, 29, 3, 182, 0, 55, 42]
abbrev dktX6_kernel_3 : List UInt8 := dkwX6_kernel_3 ++ dktX6_kernel_4
def dkwX6_kernel_2 : List UInt8 := [160, 0, 7, 4, 167, 0, 4, 3, 79, 132, 5, 1, 167, 255, 227, 29, 158, 0, 17, 42, 42, 180, 0, 28]
abbrev dktX6_kernel_2 : List UInt8 := dkwX6_kernel_2 ++ dktX6_kernel_3
def dkwX6_kernel_1 : List UInt8 := [162, 0, 62, 3, 54, 5, 21, 5, 16, 6, 162, 0, 28, 42, 180, 0, 28, 21, 5, 21, 5, 21, 4]
abbrev dktX6_kernel_1 : List UInt8 := dkwX6_kernel_1 ++ dktX6_kernel_2
def dkwX6_kernel_0 : List UInt8 := [42, 43, 28, 182, 0, 34, 42, 1, 181, 0, 38, 3, 54, 4, 21, 4, 42, 180, 0, 41, 180, 0, 45]
abbrev dktX6_kernel_0 : List UInt8 := dkwX6_kernel_0 ++ dktX6_kernel_1
theorem dksX6_kernel_0 : cX6_kernel.data.toList.drop 0 = dktX6_kernel_0 := by decide +kernel
theorem dksX6_kernel_1 : cX6_kernel.data.toList.drop 23 = dktX6_kernel_1 := dk_seg dksX6_kernel_0 23 rfl rfl
theorem dksX6_kernel_2 : cX6_kernel.data.toList.drop 46 = dktX6_kernel_2 := dk_seg dksX6_kernel_1 23 rfl rfl
theorem dksX6_kernel_3 : cX6_kernel.data.toList.drop 70 = dktX6_kernel_3 := dk_seg dksX6_kernel_2 24 rfl rfl
theorem dksX6_kernel_4 : cX6_kernel.data.toList.drop 93 = dktX6_kernel_4 := dk_seg dksX6_kernel_3 23 rfl rfl
theorem dX6_kernel_0 : decode cX6_kernel 0 = .ok (.aload_n 0, 1) := dk_42 (dk_at dksX6_kernel_0 0 rfl rfl)
theorem dX6_kernel_1 : decode cX6_kernel 1 = .ok (.aload_n 1, 1) := dk_43 (dk_at dksX6_kernel_0 1 rfl rfl)
theorem dX6_kernel_2 : decode cX6_kernel 2 = .ok (.iload_n 2, 1) := dk_28 (dk_at dksX6_kernel_0 2 rfl rfl)
theorem dX6_kernel_3 : decode cX6_kernel 3 = .ok (.invokevirtual 34, 3) := dk_182 0 34 (dk_at dksX6_kernel_0 3 rfl rfl)
theorem dX6_kernel_6 : decode cX6_kernel 6 = .ok (.aload_n 0, 1) := dk_42 (dk_at dksX6_kernel_0 6 rfl rfl)
theorem dX6_kernel_7 : decode cX6_kernel 7 = .ok (.aconst_null, 1) := dk_1 (dk_at dksX6_kernel_0 7 rfl rfl)
theorem dX6_kernel_8 : decode cX6_kernel 8 = .ok (.putfield 38, 3) := dk_181 0 38 (dk_at dksX6_kernel_0 8 rfl rfl)
theorem dX6_kernel_11 : decode cX6_kernel 11 = .ok (.iconst 0, 1) := dk_3 (dk_at dksX6_kernel_0 11 rfl rfl)
theorem dX6_kernel_12 : decode cX6_kernel 12 = .ok (.istore 4, 2) := dk_54 4 (dk_at dksX6_kernel_0 12 rfl rfl)
theorem dX6_kernel_14 : decode cX6_kernel 14 = .ok (.iload 4, 2) := dk_21 4 (dk_at dksX6_kernel_0 14 rfl rfl)
theorem dX6_kernel_16 : decode cX6_kernel 16 = .ok (.aload_n 0, 1) := dk_42 (dk_at dksX6_kernel_0 16 rfl rfl)
theorem dX6_kernel_17 : decode cX6_kernel 17 = .ok (.getfield 41, 3) := dk_180 0 41 (dk_at dksX6_kernel_0 17 rfl rfl)
theorem dX6_kernel_20 : decode cX6_kernel 20 = .ok (.getfield 45, 3) := dk_180 0 45 (dk_at dksX6_kernel_0 20 rfl rfl)
theorem dX6_kernel_23 : decode cX6_kernel 23 = .ok (.if_icmp .ge 62, 3) := dk_162 0 62 (dk_at dksX6_kernel_1 0 rfl rfl)
theorem dX6_kernel_26 : decode cX6_kernel 26 = .ok (.iconst 0, 1) := dk_3 (dk_at dksX6_kernel_1 3 rfl rfl)
theorem dX6_kernel_27 : decode cX6_kernel 27 = .ok (.istore 5, 2) := dk_54 5 (dk_at dksX6_kernel_1 4 rfl rfl)
theorem dX6_kernel_29 : decode cX6_kernel 29 = .ok (.iload 5, 2) := dk_21 5 (dk_at dksX6_kernel_1 6 rfl rfl)
theorem dX6_kernel_31 : decode cX6_kernel 31 = .ok (.bipush 6, 2) := dk_16 6 (dk_at dksX6_kernel_1 8 rfl rfl)
theorem dX6_kernel_33 : decode cX6_kernel 33 = .ok (.if_icmp .ge 28, 3) := dk_162 0 28 (dk_at dksX6_kernel_1 10 rfl rfl)
theorem dX6_kernel_36 : decode cX6_kernel 36 = .ok (.aload_n 0, 1) := dk_42 (dk_at dksX6_kernel_1 13 rfl rfl)
theorem dX6_kernel_37 : decode cX6_kernel 37 = .ok (.getfield 28, 3) := dk_180 0 28 (dk_at dksX6_kernel_1 14 rfl rfl)
theorem dX6_kernel_40 : decode cX6_kernel 40 = .ok (.iload 5, 2) := dk_21 5 (dk_at dksX6_kernel_1 17 rfl rfl)
theorem dX6_kernel_42 : decode cX6_kernel 42 = .ok (.iload 5, 2) := dk_21 5 (dk_at dksX6_kernel_1 19 rfl rfl)
theorem dX6_kernel_44 : decode cX6_kernel 44 = .ok (.iload 4, 2) := dk_21 4 (dk_at dksX6_kernel_1 21 rfl rfl)
theorem dX6_kernel_46 : decode cX6_kernel 46 = .ok (.if_icmp .ne 7, 3) := dk_160 0 7 (dk_at dksX6_kernel_2 0 rfl rfl)
theorem dX6_kernel_49 : decode cX6_kernel 49 = .ok (.iconst 1, 1) := dk_4 (dk_at dksX6_kernel_2 3 rfl rfl)
theorem dX6_kernel_50 : decode cX6_kernel 50 = .ok (.goto 4, 3) := dk_167 0 4 (dk_at dksX6_kernel_2 4 rfl rfl)
theorem dX6_kernel_53 : decode cX6_kernel 53 = .ok (.iconst 0, 1) := dk_3 (dk_at dksX6_kernel_2 7 rfl rfl)
theorem dX6_kernel_54 : decode cX6_kernel 54 = .ok (.iastore, 1) := dk_79 (dk_at dksX6_kernel_2 8 rfl rfl)
theorem dX6_kernel_55 : decode cX6_kernel 55 = .ok (.iinc 5 1, 3) := dk_132 5 1 (dk_at dksX6_kernel_2 9 rfl rfl)
theorem dX6_kernel_58 : decode cX6_kernel 58 = .ok (.goto (-29), 3) := dk_167 255 227 (dk_at dksX6_kernel_2 12 rfl rfl)
theorem dX6_kernel_61 : decode cX6_kernel 61 = .ok (.iload_n 3, 1) := dk_29 (dk_at dksX6_kernel_2 15 rfl rfl)
theorem dX6_kernel_62 : decode cX6_kernel 62 = .ok (.ifCond .le 17, 3) := dk_158 0 17 (dk_at dksX6_kernel_2 16 rfl rfl)
theorem dX6_kernel_65 : decode cX6_kernel 65 = .ok (.aload_n 0, 1) := dk_42 (dk_at dksX6_kernel_2 19 rfl rfl)
theorem dX6_kernel_66 : decode cX6_kernel 66 = .ok (.aload_n 0, 1) := dk_42 (dk_at dksX6_kernel_2 20 rfl rfl)
theorem dX6_kernel_67 : decode cX6_kernel 67 = .ok (.getfield 28, 3) := dk_180 0 28 (dk_at dksX6_kernel_2 21 rfl rfl)
theorem dX6_kernel_70 : decode cX6_kernel 70 = .ok (.iconst 1, 1) := dk_4 (dk_at dksX6_kernel_3 0 rfl rfl)
theorem dX6_kernel_71 : decode cX6_kernel 71 = .ok (.iload 4, 2) := dk_21 4 (dk_at dksX6_kernel_3 1 rfl rfl)
theorem dX6_kernel_73 : decode cX6_kernel 73 = .ok (.ishl, 1) := dk_120 (dk_at dksX6_kernel_3 3 rfl rfl)
theorem dX6_kernel_74 : decode cX6_kernel 74 = .ok (.iconst 1, 1) := dk_4 (dk_at dksX6_kernel_3 4 rfl rfl)
theorem dX6_kernel_75 : decode cX6_kernel 75 = .ok (.isub, 1) := dk_100 (dk_at dksX6_kernel_3 5 rfl rfl)
theorem dX6_kernel_76 : decode cX6_kernel 76 = .ok (.invokevirtual 51, 3) := dk_182 0 51 (dk_at dksX6_kernel_3 6 rfl rfl)
theorem dX6_kernel_79 : decode cX6_kernel 79 = .ok (.iinc 4 1, 3) := dk_132 4 1 (dk_at dksX6_kernel_3 9 rfl rfl)
theorem dX6_kernel_82 : decode cX6_kernel 82 = .ok (.goto (-68), 3) := dk_167 255 188 (dk_at dksX6_kernel_3 12 rfl rfl)
theorem dX6_kernel_85 : decode cX6_kernel 85 = .ok (.aload_n 0, 1) := dk_42 (dk_at dksX6_kernel_3 15 rfl rfl)
theorem dX6_kernel_86 : decode cX6_kernel 86 = .ok (.iconst 1, 1) := dk_4 (dk_at dksX6_kernel_3 16 rfl rfl)
theorem dX6_kernel_87 : decode cX6_kernel 87 = .ok (.iload_n 3, 1) := dk_29 (dk_at dksX6_kernel_3 17 rfl rfl)
theorem dX6_kernel_88 : decode cX6_kernel 88 = .ok (.iconst 0, 1) := dk_3 (dk_at dksX6_kernel_3 18 rfl rfl)
theorem dX6_kernel_89 : decode cX6_kernel 89 = .ok (.invokevirtual 55, 3) := dk_182 0 55 (dk_at dksX6_kernel_3 19 rfl rfl)
theorem dX6_kernel_92 : decode cX6_kernel 92 = .ok (.aload_n 0, 1) := dk_42 (dk_at dksX6_kernel_3 22 rfl rfl)
theorem dX6_kernel_93 : decode cX6_kernel 93 = .ok (.getfield 59, 3) := dk_180 0 59 (dk_at dksX6_kernel_4 0 rfl rfl)
theorem dX6_kernel_96 : decode cX6_kernel 96 = .ok (.ifCond .ne 7, 3) := dk_154 0 7 (dk_at dksX6_kernel_4 3 rfl rfl)
theorem dX6_kernel_99 : decode cX6_kernel 99 = .ok (.iconst 1, 1) := dk_4 (dk_at dksX6_kernel_4 6 rfl rfl)
theorem dX6_kernel_100 : decode cX6_kernel 100 = .ok (.goto 4, 3) := dk_167 0 4 (dk_at dksX6_kernel_4 7 rfl rfl)
theorem dX6_kernel_103 : decode cX6_kernel 103 = .ok (.iconst 0, 1) := dk_3 (dk_at dksX6_kernel_4 10 rfl rfl)
theorem dX6_kernel_104 : decode cX6_kernel 104 = .ok (.ireturn, 1) := dk_172 (dk_at dksX6_kernel_4 11 rfl rfl)
abbrev cX6_begin : ByteArray := prog_3_method_4_code
def yX6_begin : MethodName := ⟨RX6, "begin", "(LLeastSolutions$Model;I)V"⟩
def dkwX6_begin_2 : List UInt8 := [181, 0, 66, 42, 3, 181, 0, 59, 177]
abbrev dktX6_begin_2 : List UInt8 := dkwX6_begin_2 ++ []
def dkwX6_begin_1 : List UInt8 := [160, 0, 7, 2, 167, 0, 4, 4, 79, 132, 3, 1, 167, 255, 227, 42, 180, 0, 18, 182, 0, 63, 42, 3]
abbrev dktX6_begin_1 : List UInt8 := dkwX6_begin_1 ++ dktX6_begin_2
def dkwX6_begin_0 : List UInt8 := [42, 43, 181, 0, 41, 3, 62, 29, 16, 6, 162, 0, 29, 42, 180, 0, 9, 29, 28, 29, 122, 4, 126, 4]
abbrev dktX6_begin_0 : List UInt8 := dkwX6_begin_0 ++ dktX6_begin_1
theorem dksX6_begin_0 : cX6_begin.data.toList.drop 0 = dktX6_begin_0 := by decide +kernel
theorem dksX6_begin_1 : cX6_begin.data.toList.drop 24 = dktX6_begin_1 := dk_seg dksX6_begin_0 24 rfl rfl
theorem dksX6_begin_2 : cX6_begin.data.toList.drop 48 = dktX6_begin_2 := dk_seg dksX6_begin_1 24 rfl rfl
theorem dX6_begin_0 : decode cX6_begin 0 = .ok (.aload_n 0, 1) := dk_42 (dk_at dksX6_begin_0 0 rfl rfl)
theorem dX6_begin_1 : decode cX6_begin 1 = .ok (.aload_n 1, 1) := dk_43 (dk_at dksX6_begin_0 1 rfl rfl)
theorem dX6_begin_2 : decode cX6_begin 2 = .ok (.putfield 41, 3) := dk_181 0 41 (dk_at dksX6_begin_0 2 rfl rfl)
theorem dX6_begin_5 : decode cX6_begin 5 = .ok (.iconst 0, 1) := dk_3 (dk_at dksX6_begin_0 5 rfl rfl)
theorem dX6_begin_6 : decode cX6_begin 6 = .ok (.istore_n 3, 1) := dk_62 (dk_at dksX6_begin_0 6 rfl rfl)
theorem dX6_begin_7 : decode cX6_begin 7 = .ok (.iload_n 3, 1) := dk_29 (dk_at dksX6_begin_0 7 rfl rfl)
theorem dX6_begin_8 : decode cX6_begin 8 = .ok (.bipush 6, 2) := dk_16 6 (dk_at dksX6_begin_0 8 rfl rfl)
theorem dX6_begin_10 : decode cX6_begin 10 = .ok (.if_icmp .ge 29, 3) := dk_162 0 29 (dk_at dksX6_begin_0 10 rfl rfl)
theorem dX6_begin_13 : decode cX6_begin 13 = .ok (.aload_n 0, 1) := dk_42 (dk_at dksX6_begin_0 13 rfl rfl)
theorem dX6_begin_14 : decode cX6_begin 14 = .ok (.getfield 9, 3) := dk_180 0 9 (dk_at dksX6_begin_0 14 rfl rfl)
theorem dX6_begin_17 : decode cX6_begin 17 = .ok (.iload_n 3, 1) := dk_29 (dk_at dksX6_begin_0 17 rfl rfl)
theorem dX6_begin_18 : decode cX6_begin 18 = .ok (.iload_n 2, 1) := dk_28 (dk_at dksX6_begin_0 18 rfl rfl)
theorem dX6_begin_19 : decode cX6_begin 19 = .ok (.iload_n 3, 1) := dk_29 (dk_at dksX6_begin_0 19 rfl rfl)
theorem dX6_begin_20 : decode cX6_begin 20 = .ok (.ishr, 1) := dk_122 (dk_at dksX6_begin_0 20 rfl rfl)
theorem dX6_begin_21 : decode cX6_begin 21 = .ok (.iconst 1, 1) := dk_4 (dk_at dksX6_begin_0 21 rfl rfl)
theorem dX6_begin_22 : decode cX6_begin 22 = .ok (.iand, 1) := dk_126 (dk_at dksX6_begin_0 22 rfl rfl)
theorem dX6_begin_23 : decode cX6_begin 23 = .ok (.iconst 1, 1) := dk_4 (dk_at dksX6_begin_0 23 rfl rfl)
theorem dX6_begin_24 : decode cX6_begin 24 = .ok (.if_icmp .ne 7, 3) := dk_160 0 7 (dk_at dksX6_begin_1 0 rfl rfl)
theorem dX6_begin_27 : decode cX6_begin 27 = .ok (.iconst (-1), 1) := dk_2 (dk_at dksX6_begin_1 3 rfl rfl)
theorem dX6_begin_28 : decode cX6_begin 28 = .ok (.goto 4, 3) := dk_167 0 4 (dk_at dksX6_begin_1 4 rfl rfl)
theorem dX6_begin_31 : decode cX6_begin 31 = .ok (.iconst 1, 1) := dk_4 (dk_at dksX6_begin_1 7 rfl rfl)
theorem dX6_begin_32 : decode cX6_begin 32 = .ok (.iastore, 1) := dk_79 (dk_at dksX6_begin_1 8 rfl rfl)
theorem dX6_begin_33 : decode cX6_begin 33 = .ok (.iinc 3 1, 3) := dk_132 3 1 (dk_at dksX6_begin_1 9 rfl rfl)
theorem dX6_begin_36 : decode cX6_begin 36 = .ok (.goto (-29), 3) := dk_167 255 227 (dk_at dksX6_begin_1 12 rfl rfl)
theorem dX6_begin_39 : decode cX6_begin 39 = .ok (.aload_n 0, 1) := dk_42 (dk_at dksX6_begin_1 15 rfl rfl)
theorem dX6_begin_40 : decode cX6_begin 40 = .ok (.getfield 18, 3) := dk_180 0 18 (dk_at dksX6_begin_1 16 rfl rfl)
theorem dX6_begin_43 : decode cX6_begin 43 = .ok (.invokevirtual 63, 3) := dk_182 0 63 (dk_at dksX6_begin_1 19 rfl rfl)
theorem dX6_begin_46 : decode cX6_begin 46 = .ok (.aload_n 0, 1) := dk_42 (dk_at dksX6_begin_1 22 rfl rfl)
theorem dX6_begin_47 : decode cX6_begin 47 = .ok (.iconst 0, 1) := dk_3 (dk_at dksX6_begin_1 23 rfl rfl)
theorem dX6_begin_48 : decode cX6_begin 48 = .ok (.putfield 66, 3) := dk_181 0 66 (dk_at dksX6_begin_2 0 rfl rfl)
theorem dX6_begin_51 : decode cX6_begin 51 = .ok (.aload_n 0, 1) := dk_42 (dk_at dksX6_begin_2 3 rfl rfl)
theorem dX6_begin_52 : decode cX6_begin 52 = .ok (.iconst 0, 1) := dk_3 (dk_at dksX6_begin_2 4 rfl rfl)
theorem dX6_begin_53 : decode cX6_begin 53 = .ok (.putfield 59, 3) := dk_181 0 59 (dk_at dksX6_begin_2 5 rfl rfl)
theorem dX6_begin_56 : decode cX6_begin 56 = .ok (.return_, 1) := dk_177 (dk_at dksX6_begin_2 8 rfl rfl)
abbrev cX6_come : ByteArray := prog_3_method_7_code
def yX6_come : MethodName := ⟨RX6, "come", "([II)V"⟩
def dkwX6_come_4 : List UInt8 := [181, 0, 66, 177]
abbrev dktX6_come_4 : List UInt8 := dkwX6_come_4 ++ []
def dkwX6_come_3 : List UInt8 := [167, 255, 233, 42, 180, 0, 25, 42, 180, 0, 66, 16, 6, 96, 28, 79, 42, 89, 180, 0, 66, 16, 7, 96]
abbrev dktX6_come_3 : List UInt8 := dkwX6_come_3 ++ dktX6_come_4
def dkwX6_come_2 : List UInt8 := [16, 6, 162, 0, 23, 42, 180, 0, 25, 42, 180, 0, 66, 29, 96, 43, 29, 46, 79, 132, 3, 1]
abbrev dktX6_come_2 : List UInt8 := dkwX6_come_2 ++ dktX6_come_3
def dkwX6_come_1 : List UInt8 := [78, 42, 180, 0, 25, 3, 45, 3, 42, 180, 0, 66, 184, 0, 93, 42, 45, 181, 0, 25, 3, 62, 29]
abbrev dktX6_come_1 : List UInt8 := dkwX6_come_1 ++ dktX6_come_2
def dkwX6_come_0 : List UInt8 := [42, 180, 0, 66, 16, 7, 96, 42, 180, 0, 25, 190, 164, 0, 32, 5, 42, 180, 0, 25, 190, 104, 188, 10]
abbrev dktX6_come_0 : List UInt8 := dkwX6_come_0 ++ dktX6_come_1
theorem dksX6_come_0 : cX6_come.data.toList.drop 0 = dktX6_come_0 := by decide +kernel
theorem dksX6_come_1 : cX6_come.data.toList.drop 24 = dktX6_come_1 := dk_seg dksX6_come_0 24 rfl rfl
theorem dksX6_come_2 : cX6_come.data.toList.drop 47 = dktX6_come_2 := dk_seg dksX6_come_1 23 rfl rfl
theorem dksX6_come_3 : cX6_come.data.toList.drop 69 = dktX6_come_3 := dk_seg dksX6_come_2 22 rfl rfl
theorem dksX6_come_4 : cX6_come.data.toList.drop 93 = dktX6_come_4 := dk_seg dksX6_come_3 24 rfl rfl
theorem dX6_come_0 : decode cX6_come 0 = .ok (.aload_n 0, 1) := dk_42 (dk_at dksX6_come_0 0 rfl rfl)
theorem dX6_come_1 : decode cX6_come 1 = .ok (.getfield 66, 3) := dk_180 0 66 (dk_at dksX6_come_0 1 rfl rfl)
theorem dX6_come_4 : decode cX6_come 4 = .ok (.bipush 7, 2) := dk_16 7 (dk_at dksX6_come_0 4 rfl rfl)
theorem dX6_come_6 : decode cX6_come 6 = .ok (.iadd, 1) := dk_96 (dk_at dksX6_come_0 6 rfl rfl)
theorem dX6_come_7 : decode cX6_come 7 = .ok (.aload_n 0, 1) := dk_42 (dk_at dksX6_come_0 7 rfl rfl)
theorem dX6_come_8 : decode cX6_come 8 = .ok (.getfield 25, 3) := dk_180 0 25 (dk_at dksX6_come_0 8 rfl rfl)
theorem dX6_come_11 : decode cX6_come 11 = .ok (.arraylength, 1) := dk_190 (dk_at dksX6_come_0 11 rfl rfl)
theorem dX6_come_12 : decode cX6_come 12 = .ok (.if_icmp .le 32, 3) := dk_164 0 32 (dk_at dksX6_come_0 12 rfl rfl)
theorem dX6_come_15 : decode cX6_come 15 = .ok (.iconst 2, 1) := dk_5 (dk_at dksX6_come_0 15 rfl rfl)
theorem dX6_come_16 : decode cX6_come 16 = .ok (.aload_n 0, 1) := dk_42 (dk_at dksX6_come_0 16 rfl rfl)
theorem dX6_come_17 : decode cX6_come 17 = .ok (.getfield 25, 3) := dk_180 0 25 (dk_at dksX6_come_0 17 rfl rfl)
theorem dX6_come_20 : decode cX6_come 20 = .ok (.arraylength, 1) := dk_190 (dk_at dksX6_come_0 20 rfl rfl)
theorem dX6_come_21 : decode cX6_come 21 = .ok (.imul, 1) := dk_104 (dk_at dksX6_come_0 21 rfl rfl)
theorem dX6_come_22 : decode cX6_come 22 = .ok (.newarray .int, 2) := dk_188_10 (dk_at dksX6_come_0 22 rfl rfl)
theorem dX6_come_24 : decode cX6_come 24 = .ok (.astore_n 3, 1) := dk_78 (dk_at dksX6_come_1 0 rfl rfl)
theorem dX6_come_25 : decode cX6_come 25 = .ok (.aload_n 0, 1) := dk_42 (dk_at dksX6_come_1 1 rfl rfl)
theorem dX6_come_26 : decode cX6_come 26 = .ok (.getfield 25, 3) := dk_180 0 25 (dk_at dksX6_come_1 2 rfl rfl)
theorem dX6_come_29 : decode cX6_come 29 = .ok (.iconst 0, 1) := dk_3 (dk_at dksX6_come_1 5 rfl rfl)
theorem dX6_come_30 : decode cX6_come 30 = .ok (.aload_n 3, 1) := dk_45 (dk_at dksX6_come_1 6 rfl rfl)
theorem dX6_come_31 : decode cX6_come 31 = .ok (.iconst 0, 1) := dk_3 (dk_at dksX6_come_1 7 rfl rfl)
theorem dX6_come_32 : decode cX6_come 32 = .ok (.aload_n 0, 1) := dk_42 (dk_at dksX6_come_1 8 rfl rfl)
theorem dX6_come_33 : decode cX6_come 33 = .ok (.getfield 66, 3) := dk_180 0 66 (dk_at dksX6_come_1 9 rfl rfl)
theorem dX6_come_36 : decode cX6_come 36 = .ok (.invokestatic 93, 3) := dk_184 0 93 (dk_at dksX6_come_1 12 rfl rfl)
theorem dX6_come_39 : decode cX6_come 39 = .ok (.aload_n 0, 1) := dk_42 (dk_at dksX6_come_1 15 rfl rfl)
theorem dX6_come_40 : decode cX6_come 40 = .ok (.aload_n 3, 1) := dk_45 (dk_at dksX6_come_1 16 rfl rfl)
theorem dX6_come_41 : decode cX6_come 41 = .ok (.putfield 25, 3) := dk_181 0 25 (dk_at dksX6_come_1 17 rfl rfl)
theorem dX6_come_44 : decode cX6_come 44 = .ok (.iconst 0, 1) := dk_3 (dk_at dksX6_come_1 20 rfl rfl)
theorem dX6_come_45 : decode cX6_come 45 = .ok (.istore_n 3, 1) := dk_62 (dk_at dksX6_come_1 21 rfl rfl)
theorem dX6_come_46 : decode cX6_come 46 = .ok (.iload_n 3, 1) := dk_29 (dk_at dksX6_come_1 22 rfl rfl)
theorem dX6_come_47 : decode cX6_come 47 = .ok (.bipush 6, 2) := dk_16 6 (dk_at dksX6_come_2 0 rfl rfl)
theorem dX6_come_49 : decode cX6_come 49 = .ok (.if_icmp .ge 23, 3) := dk_162 0 23 (dk_at dksX6_come_2 2 rfl rfl)
theorem dX6_come_52 : decode cX6_come 52 = .ok (.aload_n 0, 1) := dk_42 (dk_at dksX6_come_2 5 rfl rfl)
theorem dX6_come_53 : decode cX6_come 53 = .ok (.getfield 25, 3) := dk_180 0 25 (dk_at dksX6_come_2 6 rfl rfl)
theorem dX6_come_56 : decode cX6_come 56 = .ok (.aload_n 0, 1) := dk_42 (dk_at dksX6_come_2 9 rfl rfl)
theorem dX6_come_57 : decode cX6_come 57 = .ok (.getfield 66, 3) := dk_180 0 66 (dk_at dksX6_come_2 10 rfl rfl)
theorem dX6_come_60 : decode cX6_come 60 = .ok (.iload_n 3, 1) := dk_29 (dk_at dksX6_come_2 13 rfl rfl)
theorem dX6_come_61 : decode cX6_come 61 = .ok (.iadd, 1) := dk_96 (dk_at dksX6_come_2 14 rfl rfl)
theorem dX6_come_62 : decode cX6_come 62 = .ok (.aload_n 1, 1) := dk_43 (dk_at dksX6_come_2 15 rfl rfl)
theorem dX6_come_63 : decode cX6_come 63 = .ok (.iload_n 3, 1) := dk_29 (dk_at dksX6_come_2 16 rfl rfl)
theorem dX6_come_64 : decode cX6_come 64 = .ok (.iaload, 1) := dk_46 (dk_at dksX6_come_2 17 rfl rfl)
theorem dX6_come_65 : decode cX6_come 65 = .ok (.iastore, 1) := dk_79 (dk_at dksX6_come_2 18 rfl rfl)
theorem dX6_come_66 : decode cX6_come 66 = .ok (.iinc 3 1, 3) := dk_132 3 1 (dk_at dksX6_come_2 19 rfl rfl)
theorem dX6_come_69 : decode cX6_come 69 = .ok (.goto (-23), 3) := dk_167 255 233 (dk_at dksX6_come_3 0 rfl rfl)
theorem dX6_come_72 : decode cX6_come 72 = .ok (.aload_n 0, 1) := dk_42 (dk_at dksX6_come_3 3 rfl rfl)
theorem dX6_come_73 : decode cX6_come 73 = .ok (.getfield 25, 3) := dk_180 0 25 (dk_at dksX6_come_3 4 rfl rfl)
theorem dX6_come_76 : decode cX6_come 76 = .ok (.aload_n 0, 1) := dk_42 (dk_at dksX6_come_3 7 rfl rfl)
theorem dX6_come_77 : decode cX6_come 77 = .ok (.getfield 66, 3) := dk_180 0 66 (dk_at dksX6_come_3 8 rfl rfl)
theorem dX6_come_80 : decode cX6_come 80 = .ok (.bipush 6, 2) := dk_16 6 (dk_at dksX6_come_3 11 rfl rfl)
theorem dX6_come_82 : decode cX6_come 82 = .ok (.iadd, 1) := dk_96 (dk_at dksX6_come_3 13 rfl rfl)
theorem dX6_come_83 : decode cX6_come 83 = .ok (.iload_n 2, 1) := dk_28 (dk_at dksX6_come_3 14 rfl rfl)
theorem dX6_come_84 : decode cX6_come 84 = .ok (.iastore, 1) := dk_79 (dk_at dksX6_come_3 15 rfl rfl)
theorem dX6_come_85 : decode cX6_come 85 = .ok (.aload_n 0, 1) := dk_42 (dk_at dksX6_come_3 16 rfl rfl)
theorem dX6_come_86 : decode cX6_come 86 = .ok (.dup, 1) := dk_89 (dk_at dksX6_come_3 17 rfl rfl)
theorem dX6_come_87 : decode cX6_come 87 = .ok (.getfield 66, 3) := dk_180 0 66 (dk_at dksX6_come_3 18 rfl rfl)
theorem dX6_come_90 : decode cX6_come 90 = .ok (.bipush 7, 2) := dk_16 7 (dk_at dksX6_come_3 21 rfl rfl)
theorem dX6_come_92 : decode cX6_come 92 = .ok (.iadd, 1) := dk_96 (dk_at dksX6_come_3 23 rfl rfl)
theorem dX6_come_93 : decode cX6_come 93 = .ok (.putfield 66, 3) := dk_181 0 66 (dk_at dksX6_come_4 0 rfl rfl)
theorem dX6_come_96 : decode cX6_come 96 = .ok (.return_, 1) := dk_177 (dk_at dksX6_come_4 3 rfl rfl)
abbrev cX6_grow : ByteArray := prog_3_method_8_code
def yX6_grow : MethodName := ⟨RX6, "grow", "(IIZ)V"⟩
def dkwX6_grow_5 : List UInt8 := [182, 0, 106, 132, 6, 7, 167, 255, 224, 132, 4, 1, 167, 255, 130, 177]
abbrev dktX6_grow_5 : List UInt8 := dkwX6_grow_5 ++ []
def dkwX6_grow_4 : List UInt8 := [180, 0, 99, 162, 0, 29, 42, 180, 0, 59, 154, 0, 22, 21, 4, 28, 162, 0, 16, 42, 21, 6, 29]
abbrev dktX6_grow_4 : List UInt8 := dkwX6_grow_4 ++ dktX6_grow_5
def dkwX6_grow_3 : List UInt8 := [154, 0, 16, 42, 21, 6, 29, 182, 0, 102, 132, 6, 7, 167, 255, 230, 3, 54, 6, 21, 6, 42]
abbrev dktX6_grow_3 : List UInt8 := dkwX6_grow_3 ++ dktX6_grow_4
def dkwX6_grow_2 : List UInt8 := [181, 0, 99, 42, 3, 181, 0, 66, 3, 54, 6, 21, 6, 42, 180, 0, 99, 162, 0, 23, 42, 180, 0, 59]
abbrev dktX6_grow_2 : List UInt8 := dkwX6_grow_2 ++ dktX6_grow_3
def dkwX6_grow_1 : List UInt8 := [180, 0, 22, 58, 5, 42, 42, 180, 0, 25, 181, 0, 22, 42, 25, 5, 181, 0, 25, 42, 42, 180, 0, 66]
abbrev dktX6_grow_1 : List UInt8 := dkwX6_grow_1 ++ dktX6_grow_2
def dkwX6_grow_0 : List UInt8 := [27, 54, 4, 21, 4, 28, 163, 0, 126, 42, 180, 0, 66, 158, 0, 119, 42, 180, 0, 59, 154, 0, 112, 42]
abbrev dktX6_grow_0 : List UInt8 := dkwX6_grow_0 ++ dktX6_grow_1
theorem dksX6_grow_0 : cX6_grow.data.toList.drop 0 = dktX6_grow_0 := by decide +kernel
theorem dksX6_grow_1 : cX6_grow.data.toList.drop 24 = dktX6_grow_1 := dk_seg dksX6_grow_0 24 rfl rfl
theorem dksX6_grow_2 : cX6_grow.data.toList.drop 48 = dktX6_grow_2 := dk_seg dksX6_grow_1 24 rfl rfl
theorem dksX6_grow_3 : cX6_grow.data.toList.drop 72 = dktX6_grow_3 := dk_seg dksX6_grow_2 24 rfl rfl
theorem dksX6_grow_4 : cX6_grow.data.toList.drop 94 = dktX6_grow_4 := dk_seg dksX6_grow_3 22 rfl rfl
theorem dksX6_grow_5 : cX6_grow.data.toList.drop 117 = dktX6_grow_5 := dk_seg dksX6_grow_4 23 rfl rfl
theorem dX6_grow_0 : decode cX6_grow 0 = .ok (.iload_n 1, 1) := dk_27 (dk_at dksX6_grow_0 0 rfl rfl)
theorem dX6_grow_1 : decode cX6_grow 1 = .ok (.istore 4, 2) := dk_54 4 (dk_at dksX6_grow_0 1 rfl rfl)
theorem dX6_grow_3 : decode cX6_grow 3 = .ok (.iload 4, 2) := dk_21 4 (dk_at dksX6_grow_0 3 rfl rfl)
theorem dX6_grow_5 : decode cX6_grow 5 = .ok (.iload_n 2, 1) := dk_28 (dk_at dksX6_grow_0 5 rfl rfl)
theorem dX6_grow_6 : decode cX6_grow 6 = .ok (.if_icmp .gt 126, 3) := dk_163 0 126 (dk_at dksX6_grow_0 6 rfl rfl)
theorem dX6_grow_9 : decode cX6_grow 9 = .ok (.aload_n 0, 1) := dk_42 (dk_at dksX6_grow_0 9 rfl rfl)
theorem dX6_grow_10 : decode cX6_grow 10 = .ok (.getfield 66, 3) := dk_180 0 66 (dk_at dksX6_grow_0 10 rfl rfl)
theorem dX6_grow_13 : decode cX6_grow 13 = .ok (.ifCond .le 119, 3) := dk_158 0 119 (dk_at dksX6_grow_0 13 rfl rfl)
theorem dX6_grow_16 : decode cX6_grow 16 = .ok (.aload_n 0, 1) := dk_42 (dk_at dksX6_grow_0 16 rfl rfl)
theorem dX6_grow_17 : decode cX6_grow 17 = .ok (.getfield 59, 3) := dk_180 0 59 (dk_at dksX6_grow_0 17 rfl rfl)
theorem dX6_grow_20 : decode cX6_grow 20 = .ok (.ifCond .ne 112, 3) := dk_154 0 112 (dk_at dksX6_grow_0 20 rfl rfl)
theorem dX6_grow_23 : decode cX6_grow 23 = .ok (.aload_n 0, 1) := dk_42 (dk_at dksX6_grow_0 23 rfl rfl)
theorem dX6_grow_24 : decode cX6_grow 24 = .ok (.getfield 22, 3) := dk_180 0 22 (dk_at dksX6_grow_1 0 rfl rfl)
theorem dX6_grow_27 : decode cX6_grow 27 = .ok (.astore 5, 2) := dk_58 5 (dk_at dksX6_grow_1 3 rfl rfl)
theorem dX6_grow_29 : decode cX6_grow 29 = .ok (.aload_n 0, 1) := dk_42 (dk_at dksX6_grow_1 5 rfl rfl)
theorem dX6_grow_30 : decode cX6_grow 30 = .ok (.aload_n 0, 1) := dk_42 (dk_at dksX6_grow_1 6 rfl rfl)
theorem dX6_grow_31 : decode cX6_grow 31 = .ok (.getfield 25, 3) := dk_180 0 25 (dk_at dksX6_grow_1 7 rfl rfl)
theorem dX6_grow_34 : decode cX6_grow 34 = .ok (.putfield 22, 3) := dk_181 0 22 (dk_at dksX6_grow_1 10 rfl rfl)
theorem dX6_grow_37 : decode cX6_grow 37 = .ok (.aload_n 0, 1) := dk_42 (dk_at dksX6_grow_1 13 rfl rfl)
theorem dX6_grow_38 : decode cX6_grow 38 = .ok (.aload 5, 2) := dk_25 5 (dk_at dksX6_grow_1 14 rfl rfl)
theorem dX6_grow_40 : decode cX6_grow 40 = .ok (.putfield 25, 3) := dk_181 0 25 (dk_at dksX6_grow_1 16 rfl rfl)
theorem dX6_grow_43 : decode cX6_grow 43 = .ok (.aload_n 0, 1) := dk_42 (dk_at dksX6_grow_1 19 rfl rfl)
theorem dX6_grow_44 : decode cX6_grow 44 = .ok (.aload_n 0, 1) := dk_42 (dk_at dksX6_grow_1 20 rfl rfl)
theorem dX6_grow_45 : decode cX6_grow 45 = .ok (.getfield 66, 3) := dk_180 0 66 (dk_at dksX6_grow_1 21 rfl rfl)
theorem dX6_grow_48 : decode cX6_grow 48 = .ok (.putfield 99, 3) := dk_181 0 99 (dk_at dksX6_grow_2 0 rfl rfl)
theorem dX6_grow_51 : decode cX6_grow 51 = .ok (.aload_n 0, 1) := dk_42 (dk_at dksX6_grow_2 3 rfl rfl)
theorem dX6_grow_52 : decode cX6_grow 52 = .ok (.iconst 0, 1) := dk_3 (dk_at dksX6_grow_2 4 rfl rfl)
theorem dX6_grow_53 : decode cX6_grow 53 = .ok (.putfield 66, 3) := dk_181 0 66 (dk_at dksX6_grow_2 5 rfl rfl)
theorem dX6_grow_56 : decode cX6_grow 56 = .ok (.iconst 0, 1) := dk_3 (dk_at dksX6_grow_2 8 rfl rfl)
theorem dX6_grow_57 : decode cX6_grow 57 = .ok (.istore 6, 2) := dk_54 6 (dk_at dksX6_grow_2 9 rfl rfl)
theorem dX6_grow_59 : decode cX6_grow 59 = .ok (.iload 6, 2) := dk_21 6 (dk_at dksX6_grow_2 11 rfl rfl)
theorem dX6_grow_61 : decode cX6_grow 61 = .ok (.aload_n 0, 1) := dk_42 (dk_at dksX6_grow_2 13 rfl rfl)
theorem dX6_grow_62 : decode cX6_grow 62 = .ok (.getfield 99, 3) := dk_180 0 99 (dk_at dksX6_grow_2 14 rfl rfl)
theorem dX6_grow_65 : decode cX6_grow 65 = .ok (.if_icmp .ge 23, 3) := dk_162 0 23 (dk_at dksX6_grow_2 17 rfl rfl)
theorem dX6_grow_68 : decode cX6_grow 68 = .ok (.aload_n 0, 1) := dk_42 (dk_at dksX6_grow_2 20 rfl rfl)
theorem dX6_grow_69 : decode cX6_grow 69 = .ok (.getfield 59, 3) := dk_180 0 59 (dk_at dksX6_grow_2 21 rfl rfl)
theorem dX6_grow_72 : decode cX6_grow 72 = .ok (.ifCond .ne 16, 3) := dk_154 0 16 (dk_at dksX6_grow_3 0 rfl rfl)
theorem dX6_grow_75 : decode cX6_grow 75 = .ok (.aload_n 0, 1) := dk_42 (dk_at dksX6_grow_3 3 rfl rfl)
theorem dX6_grow_76 : decode cX6_grow 76 = .ok (.iload 6, 2) := dk_21 6 (dk_at dksX6_grow_3 4 rfl rfl)
theorem dX6_grow_78 : decode cX6_grow 78 = .ok (.iload_n 3, 1) := dk_29 (dk_at dksX6_grow_3 6 rfl rfl)
theorem dX6_grow_79 : decode cX6_grow 79 = .ok (.invokevirtual 102, 3) := dk_182 0 102 (dk_at dksX6_grow_3 7 rfl rfl)
theorem dX6_grow_82 : decode cX6_grow 82 = .ok (.iinc 6 7, 3) := dk_132 6 7 (dk_at dksX6_grow_3 10 rfl rfl)
theorem dX6_grow_85 : decode cX6_grow 85 = .ok (.goto (-26), 3) := dk_167 255 230 (dk_at dksX6_grow_3 13 rfl rfl)
theorem dX6_grow_88 : decode cX6_grow 88 = .ok (.iconst 0, 1) := dk_3 (dk_at dksX6_grow_3 16 rfl rfl)
theorem dX6_grow_89 : decode cX6_grow 89 = .ok (.istore 6, 2) := dk_54 6 (dk_at dksX6_grow_3 17 rfl rfl)
theorem dX6_grow_91 : decode cX6_grow 91 = .ok (.iload 6, 2) := dk_21 6 (dk_at dksX6_grow_3 19 rfl rfl)
theorem dX6_grow_93 : decode cX6_grow 93 = .ok (.aload_n 0, 1) := dk_42 (dk_at dksX6_grow_3 21 rfl rfl)
theorem dX6_grow_94 : decode cX6_grow 94 = .ok (.getfield 99, 3) := dk_180 0 99 (dk_at dksX6_grow_4 0 rfl rfl)
theorem dX6_grow_97 : decode cX6_grow 97 = .ok (.if_icmp .ge 29, 3) := dk_162 0 29 (dk_at dksX6_grow_4 3 rfl rfl)
theorem dX6_grow_100 : decode cX6_grow 100 = .ok (.aload_n 0, 1) := dk_42 (dk_at dksX6_grow_4 6 rfl rfl)
theorem dX6_grow_101 : decode cX6_grow 101 = .ok (.getfield 59, 3) := dk_180 0 59 (dk_at dksX6_grow_4 7 rfl rfl)
theorem dX6_grow_104 : decode cX6_grow 104 = .ok (.ifCond .ne 22, 3) := dk_154 0 22 (dk_at dksX6_grow_4 10 rfl rfl)
theorem dX6_grow_107 : decode cX6_grow 107 = .ok (.iload 4, 2) := dk_21 4 (dk_at dksX6_grow_4 13 rfl rfl)
theorem dX6_grow_109 : decode cX6_grow 109 = .ok (.iload_n 2, 1) := dk_28 (dk_at dksX6_grow_4 15 rfl rfl)
theorem dX6_grow_110 : decode cX6_grow 110 = .ok (.if_icmp .ge 16, 3) := dk_162 0 16 (dk_at dksX6_grow_4 16 rfl rfl)
theorem dX6_grow_113 : decode cX6_grow 113 = .ok (.aload_n 0, 1) := dk_42 (dk_at dksX6_grow_4 19 rfl rfl)
theorem dX6_grow_114 : decode cX6_grow 114 = .ok (.iload 6, 2) := dk_21 6 (dk_at dksX6_grow_4 20 rfl rfl)
theorem dX6_grow_116 : decode cX6_grow 116 = .ok (.iload_n 3, 1) := dk_29 (dk_at dksX6_grow_4 22 rfl rfl)
theorem dX6_grow_117 : decode cX6_grow 117 = .ok (.invokevirtual 106, 3) := dk_182 0 106 (dk_at dksX6_grow_5 0 rfl rfl)
theorem dX6_grow_120 : decode cX6_grow 120 = .ok (.iinc 6 7, 3) := dk_132 6 7 (dk_at dksX6_grow_5 3 rfl rfl)
theorem dX6_grow_123 : decode cX6_grow 123 = .ok (.goto (-32), 3) := dk_167 255 224 (dk_at dksX6_grow_5 6 rfl rfl)
theorem dX6_grow_126 : decode cX6_grow 126 = .ok (.iinc 4 1, 3) := dk_132 4 1 (dk_at dksX6_grow_5 9 rfl rfl)
theorem dX6_grow_129 : decode cX6_grow 129 = .ok (.goto (-126), 3) := dk_167 255 130 (dk_at dksX6_grow_5 12 rfl rfl)
theorem dX6_grow_132 : decode cX6_grow 132 = .ok (.return_, 1) := dk_177 (dk_at dksX6_grow_5 15 rfl rfl)
abbrev cX6_look : ByteArray := prog_3_method_10_code
def yX6_look : MethodName := ⟨RX6, "look", "(IZ)V"⟩
def dkwX6_look_2 : List UInt8 := [42, 180, 0, 28, 3, 184, 0, 121, 177]
abbrev dktX6_look_2 : List UInt8 := dkwX6_look_2 ++ []
def dkwX6_look_1 : List UInt8 := [177, 42, 180, 0, 18, 182, 0, 79, 17, 7, 208, 160, 0, 9, 42, 4, 181, 0, 59, 177, 42, 180, 0, 18]
abbrev dktX6_look_1 : List UInt8 := dkwX6_look_1 ++ dktX6_look_2
def dkwX6_look_0 : List UInt8 := [42, 27, 182, 0, 109, 42, 28, 182, 0, 113, 153, 0, 14, 42, 42, 180, 0, 18, 182, 0, 117, 153, 0, 4]
abbrev dktX6_look_0 : List UInt8 := dkwX6_look_0 ++ dktX6_look_1
theorem dksX6_look_0 : cX6_look.data.toList.drop 0 = dktX6_look_0 := by decide +kernel
theorem dksX6_look_1 : cX6_look.data.toList.drop 24 = dktX6_look_1 := dk_seg dksX6_look_0 24 rfl rfl
theorem dksX6_look_2 : cX6_look.data.toList.drop 48 = dktX6_look_2 := dk_seg dksX6_look_1 24 rfl rfl
theorem dX6_look_0 : decode cX6_look 0 = .ok (.aload_n 0, 1) := dk_42 (dk_at dksX6_look_0 0 rfl rfl)
theorem dX6_look_1 : decode cX6_look 1 = .ok (.iload_n 1, 1) := dk_27 (dk_at dksX6_look_0 1 rfl rfl)
theorem dX6_look_2 : decode cX6_look 2 = .ok (.invokevirtual 109, 3) := dk_182 0 109 (dk_at dksX6_look_0 2 rfl rfl)
theorem dX6_look_5 : decode cX6_look 5 = .ok (.aload_n 0, 1) := dk_42 (dk_at dksX6_look_0 5 rfl rfl)
theorem dX6_look_6 : decode cX6_look 6 = .ok (.iload_n 2, 1) := dk_28 (dk_at dksX6_look_0 6 rfl rfl)
theorem dX6_look_7 : decode cX6_look 7 = .ok (.invokevirtual 113, 3) := dk_182 0 113 (dk_at dksX6_look_0 7 rfl rfl)
theorem dX6_look_10 : decode cX6_look 10 = .ok (.ifCond .eq 14, 3) := dk_153 0 14 (dk_at dksX6_look_0 10 rfl rfl)
theorem dX6_look_13 : decode cX6_look 13 = .ok (.aload_n 0, 1) := dk_42 (dk_at dksX6_look_0 13 rfl rfl)
theorem dX6_look_14 : decode cX6_look 14 = .ok (.aload_n 0, 1) := dk_42 (dk_at dksX6_look_0 14 rfl rfl)
theorem dX6_look_15 : decode cX6_look 15 = .ok (.getfield 18, 3) := dk_180 0 18 (dk_at dksX6_look_0 15 rfl rfl)
theorem dX6_look_18 : decode cX6_look 18 = .ok (.invokevirtual 117, 3) := dk_182 0 117 (dk_at dksX6_look_0 18 rfl rfl)
theorem dX6_look_21 : decode cX6_look 21 = .ok (.ifCond .eq 4, 3) := dk_153 0 4 (dk_at dksX6_look_0 21 rfl rfl)
theorem dX6_look_24 : decode cX6_look 24 = .ok (.return_, 1) := dk_177 (dk_at dksX6_look_1 0 rfl rfl)
theorem dX6_look_25 : decode cX6_look 25 = .ok (.aload_n 0, 1) := dk_42 (dk_at dksX6_look_1 1 rfl rfl)
theorem dX6_look_26 : decode cX6_look 26 = .ok (.getfield 18, 3) := dk_180 0 18 (dk_at dksX6_look_1 2 rfl rfl)
theorem dX6_look_29 : decode cX6_look 29 = .ok (.invokevirtual 79, 3) := dk_182 0 79 (dk_at dksX6_look_1 5 rfl rfl)
theorem dX6_look_32 : decode cX6_look 32 = .ok (.sipush 2000, 3) := dk_17 7 208 (dk_at dksX6_look_1 8 rfl rfl)
theorem dX6_look_35 : decode cX6_look 35 = .ok (.if_icmp .ne 9, 3) := dk_160 0 9 (dk_at dksX6_look_1 11 rfl rfl)
theorem dX6_look_38 : decode cX6_look 38 = .ok (.aload_n 0, 1) := dk_42 (dk_at dksX6_look_1 14 rfl rfl)
theorem dX6_look_39 : decode cX6_look 39 = .ok (.iconst 1, 1) := dk_4 (dk_at dksX6_look_1 15 rfl rfl)
theorem dX6_look_40 : decode cX6_look 40 = .ok (.putfield 59, 3) := dk_181 0 59 (dk_at dksX6_look_1 16 rfl rfl)
theorem dX6_look_43 : decode cX6_look 43 = .ok (.return_, 1) := dk_177 (dk_at dksX6_look_1 19 rfl rfl)
theorem dX6_look_44 : decode cX6_look 44 = .ok (.aload_n 0, 1) := dk_42 (dk_at dksX6_look_1 20 rfl rfl)
theorem dX6_look_45 : decode cX6_look 45 = .ok (.getfield 18, 3) := dk_180 0 18 (dk_at dksX6_look_1 21 rfl rfl)
theorem dX6_look_48 : decode cX6_look 48 = .ok (.aload_n 0, 1) := dk_42 (dk_at dksX6_look_2 0 rfl rfl)
theorem dX6_look_49 : decode cX6_look 49 = .ok (.getfield 28, 3) := dk_180 0 28 (dk_at dksX6_look_2 1 rfl rfl)
theorem dX6_look_52 : decode cX6_look 52 = .ok (.iconst 0, 1) := dk_3 (dk_at dksX6_look_2 4 rfl rfl)
theorem dX6_look_53 : decode cX6_look 53 = .ok (.invokestatic 121, 3) := dk_184 0 121 (dk_at dksX6_look_2 5 rfl rfl)
theorem dX6_look_56 : decode cX6_look 56 = .ok (.return_, 1) := dk_177 (dk_at dksX6_look_2 8 rfl rfl)
abbrev cX6_take : ByteArray := prog_3_method_9_code
def yX6_take : MethodName := ⟨RX6, "take", "(I)V"⟩
def dkwX6_take_1 : List UInt8 := [132, 2, 1, 167, 255, 233, 177]
abbrev dktX6_take_1 : List UInt8 := dkwX6_take_1 ++ []
def dkwX6_take_0 : List UInt8 := [3, 61, 28, 16, 6, 162, 0, 23, 42, 180, 0, 28, 28, 42, 180, 0, 22, 27, 28, 96, 46, 79]
abbrev dktX6_take_0 : List UInt8 := dkwX6_take_0 ++ dktX6_take_1
theorem dksX6_take_0 : cX6_take.data.toList.drop 0 = dktX6_take_0 := by decide +kernel
theorem dksX6_take_1 : cX6_take.data.toList.drop 22 = dktX6_take_1 := dk_seg dksX6_take_0 22 rfl rfl
theorem dX6_take_0 : decode cX6_take 0 = .ok (.iconst 0, 1) := dk_3 (dk_at dksX6_take_0 0 rfl rfl)
theorem dX6_take_1 : decode cX6_take 1 = .ok (.istore_n 2, 1) := dk_61 (dk_at dksX6_take_0 1 rfl rfl)
theorem dX6_take_2 : decode cX6_take 2 = .ok (.iload_n 2, 1) := dk_28 (dk_at dksX6_take_0 2 rfl rfl)
theorem dX6_take_3 : decode cX6_take 3 = .ok (.bipush 6, 2) := dk_16 6 (dk_at dksX6_take_0 3 rfl rfl)
theorem dX6_take_5 : decode cX6_take 5 = .ok (.if_icmp .ge 23, 3) := dk_162 0 23 (dk_at dksX6_take_0 5 rfl rfl)
theorem dX6_take_8 : decode cX6_take 8 = .ok (.aload_n 0, 1) := dk_42 (dk_at dksX6_take_0 8 rfl rfl)
theorem dX6_take_9 : decode cX6_take 9 = .ok (.getfield 28, 3) := dk_180 0 28 (dk_at dksX6_take_0 9 rfl rfl)
theorem dX6_take_12 : decode cX6_take 12 = .ok (.iload_n 2, 1) := dk_28 (dk_at dksX6_take_0 12 rfl rfl)
theorem dX6_take_13 : decode cX6_take 13 = .ok (.aload_n 0, 1) := dk_42 (dk_at dksX6_take_0 13 rfl rfl)
theorem dX6_take_14 : decode cX6_take 14 = .ok (.getfield 22, 3) := dk_180 0 22 (dk_at dksX6_take_0 14 rfl rfl)
theorem dX6_take_17 : decode cX6_take 17 = .ok (.iload_n 1, 1) := dk_27 (dk_at dksX6_take_0 17 rfl rfl)
theorem dX6_take_18 : decode cX6_take 18 = .ok (.iload_n 2, 1) := dk_28 (dk_at dksX6_take_0 18 rfl rfl)
theorem dX6_take_19 : decode cX6_take 19 = .ok (.iadd, 1) := dk_96 (dk_at dksX6_take_0 19 rfl rfl)
theorem dX6_take_20 : decode cX6_take 20 = .ok (.iaload, 1) := dk_46 (dk_at dksX6_take_0 20 rfl rfl)
theorem dX6_take_21 : decode cX6_take 21 = .ok (.iastore, 1) := dk_79 (dk_at dksX6_take_0 21 rfl rfl)
theorem dX6_take_22 : decode cX6_take 22 = .ok (.iinc 2 1, 3) := dk_132 2 1 (dk_at dksX6_take_1 0 rfl rfl)
theorem dX6_take_25 : decode cX6_take 25 = .ok (.goto (-23), 3) := dk_167 255 233 (dk_at dksX6_take_1 3 rfl rfl)
theorem dX6_take_28 : decode cX6_take 28 = .ok (.return_, 1) := dk_177 (dk_at dksX6_take_1 6 rfl rfl)
abbrev cX6_make : ByteArray := prog_3_method_5_code
def yX6_make : MethodName := ⟨RX6, "make", "(Z)Z"⟩
def dkwX6_make_4 : List UInt8 := [21, 4, 79, 28, 21, 4, 154, 0, 7, 4, 167, 0, 4, 3, 126, 61, 132, 3, 1, 167, 255, 147, 28, 172]
abbrev dktX6_make_4 : List UInt8 := dkwX6_make_4 ++ []
def dkwX6_make_3 : List UInt8 := [104, 42, 180, 0, 28, 21, 5, 46, 104, 96, 54, 4, 132, 5, 1, 167, 255, 208, 42, 180, 0, 31, 29]
abbrev dktX6_make_3 : List UInt8 := dkwX6_make_3 ++ dktX6_make_4
def dkwX6_make_2 : List UInt8 := [162, 0, 42, 21, 4, 42, 180, 0, 41, 180, 0, 75, 29, 50, 21, 5, 46, 42, 180, 0, 9, 21, 5, 46]
abbrev dktX6_make_2 : List UInt8 := dkwX6_make_2 ++ dktX6_make_3
def dkwX6_make_1 : List UInt8 := [180, 0, 72, 29, 46, 116, 167, 0, 4, 3, 54, 4, 3, 54, 5, 21, 5, 42, 180, 0, 41, 180, 0, 45]
abbrev dktX6_make_1 : List UInt8 := dkwX6_make_1 ++ dktX6_make_2
def dkwX6_make_0 : List UInt8 := [4, 61, 3, 62, 29, 42, 180, 0, 41, 180, 0, 69, 162, 0, 104, 27, 153, 0, 16, 42, 180, 0, 41]
abbrev dktX6_make_0 : List UInt8 := dkwX6_make_0 ++ dktX6_make_1
theorem dksX6_make_0 : cX6_make.data.toList.drop 0 = dktX6_make_0 := by decide +kernel
theorem dksX6_make_1 : cX6_make.data.toList.drop 23 = dktX6_make_1 := dk_seg dksX6_make_0 23 rfl rfl
theorem dksX6_make_2 : cX6_make.data.toList.drop 47 = dktX6_make_2 := dk_seg dksX6_make_1 24 rfl rfl
theorem dksX6_make_3 : cX6_make.data.toList.drop 71 = dktX6_make_3 := dk_seg dksX6_make_2 24 rfl rfl
theorem dksX6_make_4 : cX6_make.data.toList.drop 94 = dktX6_make_4 := dk_seg dksX6_make_3 23 rfl rfl
theorem dX6_make_0 : decode cX6_make 0 = .ok (.iconst 1, 1) := dk_4 (dk_at dksX6_make_0 0 rfl rfl)
theorem dX6_make_1 : decode cX6_make 1 = .ok (.istore_n 2, 1) := dk_61 (dk_at dksX6_make_0 1 rfl rfl)
theorem dX6_make_2 : decode cX6_make 2 = .ok (.iconst 0, 1) := dk_3 (dk_at dksX6_make_0 2 rfl rfl)
theorem dX6_make_3 : decode cX6_make 3 = .ok (.istore_n 3, 1) := dk_62 (dk_at dksX6_make_0 3 rfl rfl)
theorem dX6_make_4 : decode cX6_make 4 = .ok (.iload_n 3, 1) := dk_29 (dk_at dksX6_make_0 4 rfl rfl)
theorem dX6_make_5 : decode cX6_make 5 = .ok (.aload_n 0, 1) := dk_42 (dk_at dksX6_make_0 5 rfl rfl)
theorem dX6_make_6 : decode cX6_make 6 = .ok (.getfield 41, 3) := dk_180 0 41 (dk_at dksX6_make_0 6 rfl rfl)
theorem dX6_make_9 : decode cX6_make 9 = .ok (.getfield 69, 3) := dk_180 0 69 (dk_at dksX6_make_0 9 rfl rfl)
theorem dX6_make_12 : decode cX6_make 12 = .ok (.if_icmp .ge 104, 3) := dk_162 0 104 (dk_at dksX6_make_0 12 rfl rfl)
theorem dX6_make_15 : decode cX6_make 15 = .ok (.iload_n 1, 1) := dk_27 (dk_at dksX6_make_0 15 rfl rfl)
theorem dX6_make_16 : decode cX6_make 16 = .ok (.ifCond .eq 16, 3) := dk_153 0 16 (dk_at dksX6_make_0 16 rfl rfl)
theorem dX6_make_19 : decode cX6_make 19 = .ok (.aload_n 0, 1) := dk_42 (dk_at dksX6_make_0 19 rfl rfl)
theorem dX6_make_20 : decode cX6_make 20 = .ok (.getfield 41, 3) := dk_180 0 41 (dk_at dksX6_make_0 20 rfl rfl)
theorem dX6_make_23 : decode cX6_make 23 = .ok (.getfield 72, 3) := dk_180 0 72 (dk_at dksX6_make_1 0 rfl rfl)
theorem dX6_make_26 : decode cX6_make 26 = .ok (.iload_n 3, 1) := dk_29 (dk_at dksX6_make_1 3 rfl rfl)
theorem dX6_make_27 : decode cX6_make 27 = .ok (.iaload, 1) := dk_46 (dk_at dksX6_make_1 4 rfl rfl)
theorem dX6_make_28 : decode cX6_make 28 = .ok (.ineg, 1) := dk_116 (dk_at dksX6_make_1 5 rfl rfl)
theorem dX6_make_29 : decode cX6_make 29 = .ok (.goto 4, 3) := dk_167 0 4 (dk_at dksX6_make_1 6 rfl rfl)
theorem dX6_make_32 : decode cX6_make 32 = .ok (.iconst 0, 1) := dk_3 (dk_at dksX6_make_1 9 rfl rfl)
theorem dX6_make_33 : decode cX6_make 33 = .ok (.istore 4, 2) := dk_54 4 (dk_at dksX6_make_1 10 rfl rfl)
theorem dX6_make_35 : decode cX6_make 35 = .ok (.iconst 0, 1) := dk_3 (dk_at dksX6_make_1 12 rfl rfl)
theorem dX6_make_36 : decode cX6_make 36 = .ok (.istore 5, 2) := dk_54 5 (dk_at dksX6_make_1 13 rfl rfl)
theorem dX6_make_38 : decode cX6_make 38 = .ok (.iload 5, 2) := dk_21 5 (dk_at dksX6_make_1 15 rfl rfl)
theorem dX6_make_40 : decode cX6_make 40 = .ok (.aload_n 0, 1) := dk_42 (dk_at dksX6_make_1 17 rfl rfl)
theorem dX6_make_41 : decode cX6_make 41 = .ok (.getfield 41, 3) := dk_180 0 41 (dk_at dksX6_make_1 18 rfl rfl)
theorem dX6_make_44 : decode cX6_make 44 = .ok (.getfield 45, 3) := dk_180 0 45 (dk_at dksX6_make_1 21 rfl rfl)
theorem dX6_make_47 : decode cX6_make 47 = .ok (.if_icmp .ge 42, 3) := dk_162 0 42 (dk_at dksX6_make_2 0 rfl rfl)
theorem dX6_make_50 : decode cX6_make 50 = .ok (.iload 4, 2) := dk_21 4 (dk_at dksX6_make_2 3 rfl rfl)
theorem dX6_make_52 : decode cX6_make 52 = .ok (.aload_n 0, 1) := dk_42 (dk_at dksX6_make_2 5 rfl rfl)
theorem dX6_make_53 : decode cX6_make 53 = .ok (.getfield 41, 3) := dk_180 0 41 (dk_at dksX6_make_2 6 rfl rfl)
theorem dX6_make_56 : decode cX6_make 56 = .ok (.getfield 75, 3) := dk_180 0 75 (dk_at dksX6_make_2 9 rfl rfl)
theorem dX6_make_59 : decode cX6_make 59 = .ok (.iload_n 3, 1) := dk_29 (dk_at dksX6_make_2 12 rfl rfl)
theorem dX6_make_60 : decode cX6_make 60 = .ok (.aaload, 1) := dk_50 (dk_at dksX6_make_2 13 rfl rfl)
theorem dX6_make_61 : decode cX6_make 61 = .ok (.iload 5, 2) := dk_21 5 (dk_at dksX6_make_2 14 rfl rfl)
theorem dX6_make_63 : decode cX6_make 63 = .ok (.iaload, 1) := dk_46 (dk_at dksX6_make_2 16 rfl rfl)
theorem dX6_make_64 : decode cX6_make 64 = .ok (.aload_n 0, 1) := dk_42 (dk_at dksX6_make_2 17 rfl rfl)
theorem dX6_make_65 : decode cX6_make 65 = .ok (.getfield 9, 3) := dk_180 0 9 (dk_at dksX6_make_2 18 rfl rfl)
theorem dX6_make_68 : decode cX6_make 68 = .ok (.iload 5, 2) := dk_21 5 (dk_at dksX6_make_2 21 rfl rfl)
theorem dX6_make_70 : decode cX6_make 70 = .ok (.iaload, 1) := dk_46 (dk_at dksX6_make_2 23 rfl rfl)
theorem dX6_make_71 : decode cX6_make 71 = .ok (.imul, 1) := dk_104 (dk_at dksX6_make_3 0 rfl rfl)
theorem dX6_make_72 : decode cX6_make 72 = .ok (.aload_n 0, 1) := dk_42 (dk_at dksX6_make_3 1 rfl rfl)
theorem dX6_make_73 : decode cX6_make 73 = .ok (.getfield 28, 3) := dk_180 0 28 (dk_at dksX6_make_3 2 rfl rfl)
theorem dX6_make_76 : decode cX6_make 76 = .ok (.iload 5, 2) := dk_21 5 (dk_at dksX6_make_3 5 rfl rfl)
theorem dX6_make_78 : decode cX6_make 78 = .ok (.iaload, 1) := dk_46 (dk_at dksX6_make_3 7 rfl rfl)
theorem dX6_make_79 : decode cX6_make 79 = .ok (.imul, 1) := dk_104 (dk_at dksX6_make_3 8 rfl rfl)
theorem dX6_make_80 : decode cX6_make 80 = .ok (.iadd, 1) := dk_96 (dk_at dksX6_make_3 9 rfl rfl)
theorem dX6_make_81 : decode cX6_make 81 = .ok (.istore 4, 2) := dk_54 4 (dk_at dksX6_make_3 10 rfl rfl)
theorem dX6_make_83 : decode cX6_make 83 = .ok (.iinc 5 1, 3) := dk_132 5 1 (dk_at dksX6_make_3 12 rfl rfl)
theorem dX6_make_86 : decode cX6_make 86 = .ok (.goto (-48), 3) := dk_167 255 208 (dk_at dksX6_make_3 15 rfl rfl)
theorem dX6_make_89 : decode cX6_make 89 = .ok (.aload_n 0, 1) := dk_42 (dk_at dksX6_make_3 18 rfl rfl)
theorem dX6_make_90 : decode cX6_make 90 = .ok (.getfield 31, 3) := dk_180 0 31 (dk_at dksX6_make_3 19 rfl rfl)
theorem dX6_make_93 : decode cX6_make 93 = .ok (.iload_n 3, 1) := dk_29 (dk_at dksX6_make_3 22 rfl rfl)
theorem dX6_make_94 : decode cX6_make 94 = .ok (.iload 4, 2) := dk_21 4 (dk_at dksX6_make_4 0 rfl rfl)
theorem dX6_make_96 : decode cX6_make 96 = .ok (.iastore, 1) := dk_79 (dk_at dksX6_make_4 2 rfl rfl)
theorem dX6_make_97 : decode cX6_make 97 = .ok (.iload_n 2, 1) := dk_28 (dk_at dksX6_make_4 3 rfl rfl)
theorem dX6_make_98 : decode cX6_make 98 = .ok (.iload 4, 2) := dk_21 4 (dk_at dksX6_make_4 4 rfl rfl)
theorem dX6_make_100 : decode cX6_make 100 = .ok (.ifCond .ne 7, 3) := dk_154 0 7 (dk_at dksX6_make_4 6 rfl rfl)
theorem dX6_make_103 : decode cX6_make 103 = .ok (.iconst 1, 1) := dk_4 (dk_at dksX6_make_4 9 rfl rfl)
theorem dX6_make_104 : decode cX6_make 104 = .ok (.goto 4, 3) := dk_167 0 4 (dk_at dksX6_make_4 10 rfl rfl)
theorem dX6_make_107 : decode cX6_make 107 = .ok (.iconst 0, 1) := dk_3 (dk_at dksX6_make_4 13 rfl rfl)
theorem dX6_make_108 : decode cX6_make 108 = .ok (.iand, 1) := dk_126 (dk_at dksX6_make_4 14 rfl rfl)
theorem dX6_make_109 : decode cX6_make 109 = .ok (.istore_n 2, 1) := dk_61 (dk_at dksX6_make_4 15 rfl rfl)
theorem dX6_make_110 : decode cX6_make 110 = .ok (.iinc 3 1, 3) := dk_132 3 1 (dk_at dksX6_make_4 16 rfl rfl)
theorem dX6_make_113 : decode cX6_make 113 = .ok (.goto (-109), 3) := dk_167 255 147 (dk_at dksX6_make_4 19 rfl rfl)
theorem dX6_make_116 : decode cX6_make 116 = .ok (.iload_n 2, 1) := dk_28 (dk_at dksX6_make_4 22 rfl rfl)
theorem dX6_make_117 : decode cX6_make 117 = .ok (.ireturn, 1) := dk_172 (dk_at dksX6_make_4 23 rfl rfl)
abbrev cX6_hasBelow : ByteArray := prog_3_method_6_code
def yX6_hasBelow : MethodName := ⟨RX6, "hasBelow", "(LLeastSolutions$Shelf;)Z"⟩
def dkwX6_hasBelow_1 : List UInt8 := [42, 180, 0, 28, 182, 0, 89, 61, 132, 3, 1, 167, 255, 225, 28, 172]
abbrev dktX6_hasBelow_1 : List UInt8 := dkwX6_hasBelow_1 ++ []
def dkwX6_hasBelow_0 : List UInt8 := [3, 61, 3, 62, 29, 43, 182, 0, 79, 162, 0, 29, 28, 154, 0, 25, 43, 29, 182, 0, 83, 192, 0, 87]
abbrev dktX6_hasBelow_0 : List UInt8 := dkwX6_hasBelow_0 ++ dktX6_hasBelow_1
theorem dksX6_hasBelow_0 : cX6_hasBelow.data.toList.drop 0 = dktX6_hasBelow_0 := by decide +kernel
theorem dksX6_hasBelow_1 : cX6_hasBelow.data.toList.drop 24 = dktX6_hasBelow_1 := dk_seg dksX6_hasBelow_0 24 rfl rfl
theorem dX6_hasBelow_0 : decode cX6_hasBelow 0 = .ok (.iconst 0, 1) := dk_3 (dk_at dksX6_hasBelow_0 0 rfl rfl)
theorem dX6_hasBelow_1 : decode cX6_hasBelow 1 = .ok (.istore_n 2, 1) := dk_61 (dk_at dksX6_hasBelow_0 1 rfl rfl)
theorem dX6_hasBelow_2 : decode cX6_hasBelow 2 = .ok (.iconst 0, 1) := dk_3 (dk_at dksX6_hasBelow_0 2 rfl rfl)
theorem dX6_hasBelow_3 : decode cX6_hasBelow 3 = .ok (.istore_n 3, 1) := dk_62 (dk_at dksX6_hasBelow_0 3 rfl rfl)
theorem dX6_hasBelow_4 : decode cX6_hasBelow 4 = .ok (.iload_n 3, 1) := dk_29 (dk_at dksX6_hasBelow_0 4 rfl rfl)
theorem dX6_hasBelow_5 : decode cX6_hasBelow 5 = .ok (.aload_n 1, 1) := dk_43 (dk_at dksX6_hasBelow_0 5 rfl rfl)
theorem dX6_hasBelow_6 : decode cX6_hasBelow 6 = .ok (.invokevirtual 79, 3) := dk_182 0 79 (dk_at dksX6_hasBelow_0 6 rfl rfl)
theorem dX6_hasBelow_9 : decode cX6_hasBelow 9 = .ok (.if_icmp .ge 29, 3) := dk_162 0 29 (dk_at dksX6_hasBelow_0 9 rfl rfl)
theorem dX6_hasBelow_12 : decode cX6_hasBelow 12 = .ok (.iload_n 2, 1) := dk_28 (dk_at dksX6_hasBelow_0 12 rfl rfl)
theorem dX6_hasBelow_13 : decode cX6_hasBelow 13 = .ok (.ifCond .ne 25, 3) := dk_154 0 25 (dk_at dksX6_hasBelow_0 13 rfl rfl)
theorem dX6_hasBelow_16 : decode cX6_hasBelow 16 = .ok (.aload_n 1, 1) := dk_43 (dk_at dksX6_hasBelow_0 16 rfl rfl)
theorem dX6_hasBelow_17 : decode cX6_hasBelow 17 = .ok (.iload_n 3, 1) := dk_29 (dk_at dksX6_hasBelow_0 17 rfl rfl)
theorem dX6_hasBelow_18 : decode cX6_hasBelow 18 = .ok (.invokevirtual 83, 3) := dk_182 0 83 (dk_at dksX6_hasBelow_0 18 rfl rfl)
theorem dX6_hasBelow_21 : decode cX6_hasBelow 21 = .ok (.checkcast 87, 3) := dk_192 0 87 (dk_at dksX6_hasBelow_0 21 rfl rfl)
theorem dX6_hasBelow_24 : decode cX6_hasBelow 24 = .ok (.aload_n 0, 1) := dk_42 (dk_at dksX6_hasBelow_1 0 rfl rfl)
theorem dX6_hasBelow_25 : decode cX6_hasBelow 25 = .ok (.getfield 28, 3) := dk_180 0 28 (dk_at dksX6_hasBelow_1 1 rfl rfl)
theorem dX6_hasBelow_28 : decode cX6_hasBelow 28 = .ok (.invokevirtual 89, 3) := dk_182 0 89 (dk_at dksX6_hasBelow_1 4 rfl rfl)
theorem dX6_hasBelow_31 : decode cX6_hasBelow 31 = .ok (.istore_n 2, 1) := dk_61 (dk_at dksX6_hasBelow_1 7 rfl rfl)
theorem dX6_hasBelow_32 : decode cX6_hasBelow 32 = .ok (.iinc 3 1, 3) := dk_132 3 1 (dk_at dksX6_hasBelow_1 8 rfl rfl)
theorem dX6_hasBelow_35 : decode cX6_hasBelow 35 = .ok (.goto (-31), 3) := dk_167 255 225 (dk_at dksX6_hasBelow_1 11 rfl rfl)
theorem dX6_hasBelow_38 : decode cX6_hasBelow 38 = .ok (.iload_n 2, 1) := dk_28 (dk_at dksX6_hasBelow_1 14 rfl rfl)
theorem dX6_hasBelow_39 : decode cX6_hasBelow 39 = .ok (.ireturn, 1) := dk_172 (dk_at dksX6_hasBelow_1 15 rfl rfl)
abbrev cX6_spread : ByteArray := prog_3_method_11_code
def yX6_spread : MethodName := ⟨RX6, "spread", "(IZ)V"⟩
def dkwX6_spread_5 : List UInt8 := [182, 0, 51, 29, 4, 21, 4, 120, 128, 62, 132, 4, 1, 167, 255, 143, 177]
abbrev dktX6_spread_5 : List UInt8 := dkwX6_spread_5 ++ []
def dkwX6_spread_4 : List UInt8 := [180, 0, 38, 198, 0, 14, 42, 42, 180, 0, 38, 182, 0, 117, 154, 0, 19, 42, 42, 180, 0, 28, 29]
abbrev dktX6_spread_4 : List UInt8 := dkwX6_spread_4 ++ dktX6_spread_5
def dkwX6_spread_3 : List UInt8 := [180, 0, 28, 21, 4, 92, 46, 4, 96, 79, 42, 42, 180, 0, 18, 182, 0, 117, 154, 0, 37, 42]
abbrev dktX6_spread_3 : List UInt8 := dkwX6_spread_3 ++ dktX6_spread_4
def dkwX6_spread_2 : List UInt8 := [182, 0, 113, 54, 5, 21, 5, 154, 0, 71, 42, 21, 4, 182, 0, 125, 155, 0, 6, 167, 0, 59, 42]
abbrev dktX6_spread_2 : List UInt8 := dkwX6_spread_2 ++ dktX6_spread_3
def dkwX6_spread_1 : List UInt8 := [162, 0, 107, 29, 21, 4, 122, 4, 126, 4, 160, 0, 6, 167, 0, 88, 42, 27, 182, 0, 109, 42, 28]
abbrev dktX6_spread_1 : List UInt8 := dkwX6_spread_1 ++ dktX6_spread_2
def dkwX6_spread_0 : List UInt8 := [42, 180, 0, 22, 27, 16, 6, 96, 46, 62, 3, 54, 4, 21, 4, 42, 180, 0, 41, 180, 0, 45]
abbrev dktX6_spread_0 : List UInt8 := dkwX6_spread_0 ++ dktX6_spread_1
theorem dksX6_spread_0 : cX6_spread.data.toList.drop 0 = dktX6_spread_0 := by decide +kernel
theorem dksX6_spread_1 : cX6_spread.data.toList.drop 22 = dktX6_spread_1 := dk_seg dksX6_spread_0 22 rfl rfl
theorem dksX6_spread_2 : cX6_spread.data.toList.drop 45 = dktX6_spread_2 := dk_seg dksX6_spread_1 23 rfl rfl
theorem dksX6_spread_3 : cX6_spread.data.toList.drop 68 = dktX6_spread_3 := dk_seg dksX6_spread_2 23 rfl rfl
theorem dksX6_spread_4 : cX6_spread.data.toList.drop 90 = dktX6_spread_4 := dk_seg dksX6_spread_3 22 rfl rfl
theorem dksX6_spread_5 : cX6_spread.data.toList.drop 113 = dktX6_spread_5 := dk_seg dksX6_spread_4 23 rfl rfl
theorem dX6_spread_0 : decode cX6_spread 0 = .ok (.aload_n 0, 1) := dk_42 (dk_at dksX6_spread_0 0 rfl rfl)
theorem dX6_spread_1 : decode cX6_spread 1 = .ok (.getfield 22, 3) := dk_180 0 22 (dk_at dksX6_spread_0 1 rfl rfl)
theorem dX6_spread_4 : decode cX6_spread 4 = .ok (.iload_n 1, 1) := dk_27 (dk_at dksX6_spread_0 4 rfl rfl)
theorem dX6_spread_5 : decode cX6_spread 5 = .ok (.bipush 6, 2) := dk_16 6 (dk_at dksX6_spread_0 5 rfl rfl)
theorem dX6_spread_7 : decode cX6_spread 7 = .ok (.iadd, 1) := dk_96 (dk_at dksX6_spread_0 7 rfl rfl)
theorem dX6_spread_8 : decode cX6_spread 8 = .ok (.iaload, 1) := dk_46 (dk_at dksX6_spread_0 8 rfl rfl)
theorem dX6_spread_9 : decode cX6_spread 9 = .ok (.istore_n 3, 1) := dk_62 (dk_at dksX6_spread_0 9 rfl rfl)
theorem dX6_spread_10 : decode cX6_spread 10 = .ok (.iconst 0, 1) := dk_3 (dk_at dksX6_spread_0 10 rfl rfl)
theorem dX6_spread_11 : decode cX6_spread 11 = .ok (.istore 4, 2) := dk_54 4 (dk_at dksX6_spread_0 11 rfl rfl)
theorem dX6_spread_13 : decode cX6_spread 13 = .ok (.iload 4, 2) := dk_21 4 (dk_at dksX6_spread_0 13 rfl rfl)
theorem dX6_spread_15 : decode cX6_spread 15 = .ok (.aload_n 0, 1) := dk_42 (dk_at dksX6_spread_0 15 rfl rfl)
theorem dX6_spread_16 : decode cX6_spread 16 = .ok (.getfield 41, 3) := dk_180 0 41 (dk_at dksX6_spread_0 16 rfl rfl)
theorem dX6_spread_19 : decode cX6_spread 19 = .ok (.getfield 45, 3) := dk_180 0 45 (dk_at dksX6_spread_0 19 rfl rfl)
theorem dX6_spread_22 : decode cX6_spread 22 = .ok (.if_icmp .ge 107, 3) := dk_162 0 107 (dk_at dksX6_spread_1 0 rfl rfl)
theorem dX6_spread_25 : decode cX6_spread 25 = .ok (.iload_n 3, 1) := dk_29 (dk_at dksX6_spread_1 3 rfl rfl)
theorem dX6_spread_26 : decode cX6_spread 26 = .ok (.iload 4, 2) := dk_21 4 (dk_at dksX6_spread_1 4 rfl rfl)
theorem dX6_spread_28 : decode cX6_spread 28 = .ok (.ishr, 1) := dk_122 (dk_at dksX6_spread_1 6 rfl rfl)
theorem dX6_spread_29 : decode cX6_spread 29 = .ok (.iconst 1, 1) := dk_4 (dk_at dksX6_spread_1 7 rfl rfl)
theorem dX6_spread_30 : decode cX6_spread 30 = .ok (.iand, 1) := dk_126 (dk_at dksX6_spread_1 8 rfl rfl)
theorem dX6_spread_31 : decode cX6_spread 31 = .ok (.iconst 1, 1) := dk_4 (dk_at dksX6_spread_1 9 rfl rfl)
theorem dX6_spread_32 : decode cX6_spread 32 = .ok (.if_icmp .ne 6, 3) := dk_160 0 6 (dk_at dksX6_spread_1 10 rfl rfl)
theorem dX6_spread_35 : decode cX6_spread 35 = .ok (.goto 88, 3) := dk_167 0 88 (dk_at dksX6_spread_1 13 rfl rfl)
theorem dX6_spread_38 : decode cX6_spread 38 = .ok (.aload_n 0, 1) := dk_42 (dk_at dksX6_spread_1 16 rfl rfl)
theorem dX6_spread_39 : decode cX6_spread 39 = .ok (.iload_n 1, 1) := dk_27 (dk_at dksX6_spread_1 17 rfl rfl)
theorem dX6_spread_40 : decode cX6_spread 40 = .ok (.invokevirtual 109, 3) := dk_182 0 109 (dk_at dksX6_spread_1 18 rfl rfl)
theorem dX6_spread_43 : decode cX6_spread 43 = .ok (.aload_n 0, 1) := dk_42 (dk_at dksX6_spread_1 21 rfl rfl)
theorem dX6_spread_44 : decode cX6_spread 44 = .ok (.iload_n 2, 1) := dk_28 (dk_at dksX6_spread_1 22 rfl rfl)
theorem dX6_spread_45 : decode cX6_spread 45 = .ok (.invokevirtual 113, 3) := dk_182 0 113 (dk_at dksX6_spread_2 0 rfl rfl)
theorem dX6_spread_48 : decode cX6_spread 48 = .ok (.istore 5, 2) := dk_54 5 (dk_at dksX6_spread_2 3 rfl rfl)
theorem dX6_spread_50 : decode cX6_spread 50 = .ok (.iload 5, 2) := dk_21 5 (dk_at dksX6_spread_2 5 rfl rfl)
theorem dX6_spread_52 : decode cX6_spread 52 = .ok (.ifCond .ne 71, 3) := dk_154 0 71 (dk_at dksX6_spread_2 7 rfl rfl)
theorem dX6_spread_55 : decode cX6_spread 55 = .ok (.aload_n 0, 1) := dk_42 (dk_at dksX6_spread_2 10 rfl rfl)
theorem dX6_spread_56 : decode cX6_spread 56 = .ok (.iload 4, 2) := dk_21 4 (dk_at dksX6_spread_2 11 rfl rfl)
theorem dX6_spread_58 : decode cX6_spread 58 = .ok (.invokevirtual 125, 3) := dk_182 0 125 (dk_at dksX6_spread_2 13 rfl rfl)
theorem dX6_spread_61 : decode cX6_spread 61 = .ok (.ifCond .lt 6, 3) := dk_155 0 6 (dk_at dksX6_spread_2 16 rfl rfl)
theorem dX6_spread_64 : decode cX6_spread 64 = .ok (.goto 59, 3) := dk_167 0 59 (dk_at dksX6_spread_2 19 rfl rfl)
theorem dX6_spread_67 : decode cX6_spread 67 = .ok (.aload_n 0, 1) := dk_42 (dk_at dksX6_spread_2 22 rfl rfl)
theorem dX6_spread_68 : decode cX6_spread 68 = .ok (.getfield 28, 3) := dk_180 0 28 (dk_at dksX6_spread_3 0 rfl rfl)
theorem dX6_spread_71 : decode cX6_spread 71 = .ok (.iload 4, 2) := dk_21 4 (dk_at dksX6_spread_3 3 rfl rfl)
theorem dX6_spread_73 : decode cX6_spread 73 = .ok (.dup2, 1) := dk_92 (dk_at dksX6_spread_3 5 rfl rfl)
theorem dX6_spread_74 : decode cX6_spread 74 = .ok (.iaload, 1) := dk_46 (dk_at dksX6_spread_3 6 rfl rfl)
theorem dX6_spread_75 : decode cX6_spread 75 = .ok (.iconst 1, 1) := dk_4 (dk_at dksX6_spread_3 7 rfl rfl)
theorem dX6_spread_76 : decode cX6_spread 76 = .ok (.iadd, 1) := dk_96 (dk_at dksX6_spread_3 8 rfl rfl)
theorem dX6_spread_77 : decode cX6_spread 77 = .ok (.iastore, 1) := dk_79 (dk_at dksX6_spread_3 9 rfl rfl)
theorem dX6_spread_78 : decode cX6_spread 78 = .ok (.aload_n 0, 1) := dk_42 (dk_at dksX6_spread_3 10 rfl rfl)
theorem dX6_spread_79 : decode cX6_spread 79 = .ok (.aload_n 0, 1) := dk_42 (dk_at dksX6_spread_3 11 rfl rfl)
theorem dX6_spread_80 : decode cX6_spread 80 = .ok (.getfield 18, 3) := dk_180 0 18 (dk_at dksX6_spread_3 12 rfl rfl)
theorem dX6_spread_83 : decode cX6_spread 83 = .ok (.invokevirtual 117, 3) := dk_182 0 117 (dk_at dksX6_spread_3 15 rfl rfl)
theorem dX6_spread_86 : decode cX6_spread 86 = .ok (.ifCond .ne 37, 3) := dk_154 0 37 (dk_at dksX6_spread_3 18 rfl rfl)
theorem dX6_spread_89 : decode cX6_spread 89 = .ok (.aload_n 0, 1) := dk_42 (dk_at dksX6_spread_3 21 rfl rfl)
theorem dX6_spread_90 : decode cX6_spread 90 = .ok (.getfield 38, 3) := dk_180 0 38 (dk_at dksX6_spread_4 0 rfl rfl)
theorem dX6_spread_93 : decode cX6_spread 93 = .ok (.ifnull 14, 3) := dk_198 0 14 (dk_at dksX6_spread_4 3 rfl rfl)
theorem dX6_spread_96 : decode cX6_spread 96 = .ok (.aload_n 0, 1) := dk_42 (dk_at dksX6_spread_4 6 rfl rfl)
theorem dX6_spread_97 : decode cX6_spread 97 = .ok (.aload_n 0, 1) := dk_42 (dk_at dksX6_spread_4 7 rfl rfl)
theorem dX6_spread_98 : decode cX6_spread 98 = .ok (.getfield 38, 3) := dk_180 0 38 (dk_at dksX6_spread_4 8 rfl rfl)
theorem dX6_spread_101 : decode cX6_spread 101 = .ok (.invokevirtual 117, 3) := dk_182 0 117 (dk_at dksX6_spread_4 11 rfl rfl)
theorem dX6_spread_104 : decode cX6_spread 104 = .ok (.ifCond .ne 19, 3) := dk_154 0 19 (dk_at dksX6_spread_4 14 rfl rfl)
theorem dX6_spread_107 : decode cX6_spread 107 = .ok (.aload_n 0, 1) := dk_42 (dk_at dksX6_spread_4 17 rfl rfl)
theorem dX6_spread_108 : decode cX6_spread 108 = .ok (.aload_n 0, 1) := dk_42 (dk_at dksX6_spread_4 18 rfl rfl)
theorem dX6_spread_109 : decode cX6_spread 109 = .ok (.getfield 28, 3) := dk_180 0 28 (dk_at dksX6_spread_4 19 rfl rfl)
theorem dX6_spread_112 : decode cX6_spread 112 = .ok (.iload_n 3, 1) := dk_29 (dk_at dksX6_spread_4 22 rfl rfl)
theorem dX6_spread_113 : decode cX6_spread 113 = .ok (.invokevirtual 51, 3) := dk_182 0 51 (dk_at dksX6_spread_5 0 rfl rfl)
theorem dX6_spread_116 : decode cX6_spread 116 = .ok (.iload_n 3, 1) := dk_29 (dk_at dksX6_spread_5 3 rfl rfl)
theorem dX6_spread_117 : decode cX6_spread 117 = .ok (.iconst 1, 1) := dk_4 (dk_at dksX6_spread_5 4 rfl rfl)
theorem dX6_spread_118 : decode cX6_spread 118 = .ok (.iload 4, 2) := dk_21 4 (dk_at dksX6_spread_5 5 rfl rfl)
theorem dX6_spread_120 : decode cX6_spread 120 = .ok (.ishl, 1) := dk_120 (dk_at dksX6_spread_5 7 rfl rfl)
theorem dX6_spread_121 : decode cX6_spread 121 = .ok (.ior, 1) := dk_128 (dk_at dksX6_spread_5 8 rfl rfl)
theorem dX6_spread_122 : decode cX6_spread 122 = .ok (.istore_n 3, 1) := dk_62 (dk_at dksX6_spread_5 9 rfl rfl)
theorem dX6_spread_123 : decode cX6_spread 123 = .ok (.iinc 4 1, 3) := dk_132 4 1 (dk_at dksX6_spread_5 10 rfl rfl)
theorem dX6_spread_126 : decode cX6_spread 126 = .ok (.goto (-113), 3) := dk_167 255 143 (dk_at dksX6_spread_5 13 rfl rfl)
theorem dX6_spread_129 : decode cX6_spread 129 = .ok (.return_, 1) := dk_177 (dk_at dksX6_spread_5 16 rfl rfl)
abbrev cX6_turns : ByteArray := prog_3_method_12_code
def yX6_turns : MethodName := ⟨RX6, "turns", "(I)I"⟩
def dkwX6_turns_2 : List UInt8 := [167, 255, 214, 28, 172]
abbrev dktX6_turns_2 : List UInt8 := dkwX6_turns_2 ++ []
def dkwX6_turns_1 : List UInt8 := [180, 0, 41, 180, 0, 75, 29, 50, 27, 46, 104, 42, 180, 0, 9, 27, 46, 104, 96, 61, 132, 3, 1]
abbrev dktX6_turns_1 : List UInt8 := dkwX6_turns_1 ++ dktX6_turns_2
def dkwX6_turns_0 : List UInt8 := [3, 61, 3, 62, 29, 42, 180, 0, 41, 180, 0, 69, 162, 0, 37, 28, 42, 180, 0, 31, 29, 46, 42]
abbrev dktX6_turns_0 : List UInt8 := dkwX6_turns_0 ++ dktX6_turns_1
theorem dksX6_turns_0 : cX6_turns.data.toList.drop 0 = dktX6_turns_0 := by decide +kernel
theorem dksX6_turns_1 : cX6_turns.data.toList.drop 23 = dktX6_turns_1 := dk_seg dksX6_turns_0 23 rfl rfl
theorem dksX6_turns_2 : cX6_turns.data.toList.drop 46 = dktX6_turns_2 := dk_seg dksX6_turns_1 23 rfl rfl
theorem dX6_turns_0 : decode cX6_turns 0 = .ok (.iconst 0, 1) := dk_3 (dk_at dksX6_turns_0 0 rfl rfl)
theorem dX6_turns_1 : decode cX6_turns 1 = .ok (.istore_n 2, 1) := dk_61 (dk_at dksX6_turns_0 1 rfl rfl)
theorem dX6_turns_2 : decode cX6_turns 2 = .ok (.iconst 0, 1) := dk_3 (dk_at dksX6_turns_0 2 rfl rfl)
theorem dX6_turns_3 : decode cX6_turns 3 = .ok (.istore_n 3, 1) := dk_62 (dk_at dksX6_turns_0 3 rfl rfl)
theorem dX6_turns_4 : decode cX6_turns 4 = .ok (.iload_n 3, 1) := dk_29 (dk_at dksX6_turns_0 4 rfl rfl)
theorem dX6_turns_5 : decode cX6_turns 5 = .ok (.aload_n 0, 1) := dk_42 (dk_at dksX6_turns_0 5 rfl rfl)
theorem dX6_turns_6 : decode cX6_turns 6 = .ok (.getfield 41, 3) := dk_180 0 41 (dk_at dksX6_turns_0 6 rfl rfl)
theorem dX6_turns_9 : decode cX6_turns 9 = .ok (.getfield 69, 3) := dk_180 0 69 (dk_at dksX6_turns_0 9 rfl rfl)
theorem dX6_turns_12 : decode cX6_turns 12 = .ok (.if_icmp .ge 37, 3) := dk_162 0 37 (dk_at dksX6_turns_0 12 rfl rfl)
theorem dX6_turns_15 : decode cX6_turns 15 = .ok (.iload_n 2, 1) := dk_28 (dk_at dksX6_turns_0 15 rfl rfl)
theorem dX6_turns_16 : decode cX6_turns 16 = .ok (.aload_n 0, 1) := dk_42 (dk_at dksX6_turns_0 16 rfl rfl)
theorem dX6_turns_17 : decode cX6_turns 17 = .ok (.getfield 31, 3) := dk_180 0 31 (dk_at dksX6_turns_0 17 rfl rfl)
theorem dX6_turns_20 : decode cX6_turns 20 = .ok (.iload_n 3, 1) := dk_29 (dk_at dksX6_turns_0 20 rfl rfl)
theorem dX6_turns_21 : decode cX6_turns 21 = .ok (.iaload, 1) := dk_46 (dk_at dksX6_turns_0 21 rfl rfl)
theorem dX6_turns_22 : decode cX6_turns 22 = .ok (.aload_n 0, 1) := dk_42 (dk_at dksX6_turns_0 22 rfl rfl)
theorem dX6_turns_23 : decode cX6_turns 23 = .ok (.getfield 41, 3) := dk_180 0 41 (dk_at dksX6_turns_1 0 rfl rfl)
theorem dX6_turns_26 : decode cX6_turns 26 = .ok (.getfield 75, 3) := dk_180 0 75 (dk_at dksX6_turns_1 3 rfl rfl)
theorem dX6_turns_29 : decode cX6_turns 29 = .ok (.iload_n 3, 1) := dk_29 (dk_at dksX6_turns_1 6 rfl rfl)
theorem dX6_turns_30 : decode cX6_turns 30 = .ok (.aaload, 1) := dk_50 (dk_at dksX6_turns_1 7 rfl rfl)
theorem dX6_turns_31 : decode cX6_turns 31 = .ok (.iload_n 1, 1) := dk_27 (dk_at dksX6_turns_1 8 rfl rfl)
theorem dX6_turns_32 : decode cX6_turns 32 = .ok (.iaload, 1) := dk_46 (dk_at dksX6_turns_1 9 rfl rfl)
theorem dX6_turns_33 : decode cX6_turns 33 = .ok (.imul, 1) := dk_104 (dk_at dksX6_turns_1 10 rfl rfl)
theorem dX6_turns_34 : decode cX6_turns 34 = .ok (.aload_n 0, 1) := dk_42 (dk_at dksX6_turns_1 11 rfl rfl)
theorem dX6_turns_35 : decode cX6_turns 35 = .ok (.getfield 9, 3) := dk_180 0 9 (dk_at dksX6_turns_1 12 rfl rfl)
theorem dX6_turns_38 : decode cX6_turns 38 = .ok (.iload_n 1, 1) := dk_27 (dk_at dksX6_turns_1 15 rfl rfl)
theorem dX6_turns_39 : decode cX6_turns 39 = .ok (.iaload, 1) := dk_46 (dk_at dksX6_turns_1 16 rfl rfl)
theorem dX6_turns_40 : decode cX6_turns 40 = .ok (.imul, 1) := dk_104 (dk_at dksX6_turns_1 17 rfl rfl)
theorem dX6_turns_41 : decode cX6_turns 41 = .ok (.iadd, 1) := dk_96 (dk_at dksX6_turns_1 18 rfl rfl)
theorem dX6_turns_42 : decode cX6_turns 42 = .ok (.istore_n 2, 1) := dk_61 (dk_at dksX6_turns_1 19 rfl rfl)
theorem dX6_turns_43 : decode cX6_turns 43 = .ok (.iinc 3 1, 3) := dk_132 3 1 (dk_at dksX6_turns_1 20 rfl rfl)
theorem dX6_turns_46 : decode cX6_turns 46 = .ok (.goto (-42), 3) := dk_167 255 214 (dk_at dksX6_turns_2 0 rfl rfl)
theorem dX6_turns_49 : decode cX6_turns 49 = .ok (.iload_n 2, 1) := dk_28 (dk_at dksX6_turns_2 3 rfl rfl)
theorem dX6_turns_50 : decode cX6_turns 50 = .ok (.ireturn, 1) := dk_172 (dk_at dksX6_turns_2 4 rfl rfl)
abbrev cX6_solutions : ByteArray := prog_3_method_3_code
def yX6_solutions : MethodName := ⟨RX6, "solutions", "(LLeastSolutions$Model;LLeastSolutions$Shelf;I)Z"⟩
def dkwX6_solutions_2 : List UInt8 := [29, 4, 182, 0, 55, 42, 180, 0, 59, 154, 0, 7, 4, 167, 0, 4, 3, 172]
abbrev dktX6_solutions_2 : List UInt8 := dkwX6_solutions_2 ++ []
def dkwX6_solutions_1 : List UInt8 := [180, 0, 28, 21, 4, 3, 79, 132, 4, 1, 167, 255, 238, 42, 42, 180, 0, 28, 3, 182, 0, 51, 42, 3]
abbrev dktX6_solutions_1 : List UInt8 := dkwX6_solutions_1 ++ dktX6_solutions_2
def dkwX6_solutions_0 : List UInt8 := [42, 43, 3, 182, 0, 34, 42, 44, 181, 0, 38, 3, 54, 4, 21, 4, 16, 6, 162, 0, 17, 42]
abbrev dktX6_solutions_0 : List UInt8 := dkwX6_solutions_0 ++ dktX6_solutions_1
theorem dksX6_solutions_0 : cX6_solutions.data.toList.drop 0 = dktX6_solutions_0 := by decide +kernel
theorem dksX6_solutions_1 : cX6_solutions.data.toList.drop 22 = dktX6_solutions_1 := dk_seg dksX6_solutions_0 22 rfl rfl
theorem dksX6_solutions_2 : cX6_solutions.data.toList.drop 46 = dktX6_solutions_2 := dk_seg dksX6_solutions_1 24 rfl rfl
theorem dX6_solutions_0 : decode cX6_solutions 0 = .ok (.aload_n 0, 1) := dk_42 (dk_at dksX6_solutions_0 0 rfl rfl)
theorem dX6_solutions_1 : decode cX6_solutions 1 = .ok (.aload_n 1, 1) := dk_43 (dk_at dksX6_solutions_0 1 rfl rfl)
theorem dX6_solutions_2 : decode cX6_solutions 2 = .ok (.iconst 0, 1) := dk_3 (dk_at dksX6_solutions_0 2 rfl rfl)
theorem dX6_solutions_3 : decode cX6_solutions 3 = .ok (.invokevirtual 34, 3) := dk_182 0 34 (dk_at dksX6_solutions_0 3 rfl rfl)
theorem dX6_solutions_6 : decode cX6_solutions 6 = .ok (.aload_n 0, 1) := dk_42 (dk_at dksX6_solutions_0 6 rfl rfl)
theorem dX6_solutions_7 : decode cX6_solutions 7 = .ok (.aload_n 2, 1) := dk_44 (dk_at dksX6_solutions_0 7 rfl rfl)
theorem dX6_solutions_8 : decode cX6_solutions 8 = .ok (.putfield 38, 3) := dk_181 0 38 (dk_at dksX6_solutions_0 8 rfl rfl)
theorem dX6_solutions_11 : decode cX6_solutions 11 = .ok (.iconst 0, 1) := dk_3 (dk_at dksX6_solutions_0 11 rfl rfl)
theorem dX6_solutions_12 : decode cX6_solutions 12 = .ok (.istore 4, 2) := dk_54 4 (dk_at dksX6_solutions_0 12 rfl rfl)
theorem dX6_solutions_14 : decode cX6_solutions 14 = .ok (.iload 4, 2) := dk_21 4 (dk_at dksX6_solutions_0 14 rfl rfl)
theorem dX6_solutions_16 : decode cX6_solutions 16 = .ok (.bipush 6, 2) := dk_16 6 (dk_at dksX6_solutions_0 16 rfl rfl)
theorem dX6_solutions_18 : decode cX6_solutions 18 = .ok (.if_icmp .ge 17, 3) := dk_162 0 17 (dk_at dksX6_solutions_0 18 rfl rfl)
theorem dX6_solutions_21 : decode cX6_solutions 21 = .ok (.aload_n 0, 1) := dk_42 (dk_at dksX6_solutions_0 21 rfl rfl)
theorem dX6_solutions_22 : decode cX6_solutions 22 = .ok (.getfield 28, 3) := dk_180 0 28 (dk_at dksX6_solutions_1 0 rfl rfl)
theorem dX6_solutions_25 : decode cX6_solutions 25 = .ok (.iload 4, 2) := dk_21 4 (dk_at dksX6_solutions_1 3 rfl rfl)
theorem dX6_solutions_27 : decode cX6_solutions 27 = .ok (.iconst 0, 1) := dk_3 (dk_at dksX6_solutions_1 5 rfl rfl)
theorem dX6_solutions_28 : decode cX6_solutions 28 = .ok (.iastore, 1) := dk_79 (dk_at dksX6_solutions_1 6 rfl rfl)
theorem dX6_solutions_29 : decode cX6_solutions 29 = .ok (.iinc 4 1, 3) := dk_132 4 1 (dk_at dksX6_solutions_1 7 rfl rfl)
theorem dX6_solutions_32 : decode cX6_solutions 32 = .ok (.goto (-18), 3) := dk_167 255 238 (dk_at dksX6_solutions_1 10 rfl rfl)
theorem dX6_solutions_35 : decode cX6_solutions 35 = .ok (.aload_n 0, 1) := dk_42 (dk_at dksX6_solutions_1 13 rfl rfl)
theorem dX6_solutions_36 : decode cX6_solutions 36 = .ok (.aload_n 0, 1) := dk_42 (dk_at dksX6_solutions_1 14 rfl rfl)
theorem dX6_solutions_37 : decode cX6_solutions 37 = .ok (.getfield 28, 3) := dk_180 0 28 (dk_at dksX6_solutions_1 15 rfl rfl)
theorem dX6_solutions_40 : decode cX6_solutions 40 = .ok (.iconst 0, 1) := dk_3 (dk_at dksX6_solutions_1 18 rfl rfl)
theorem dX6_solutions_41 : decode cX6_solutions 41 = .ok (.invokevirtual 51, 3) := dk_182 0 51 (dk_at dksX6_solutions_1 19 rfl rfl)
theorem dX6_solutions_44 : decode cX6_solutions 44 = .ok (.aload_n 0, 1) := dk_42 (dk_at dksX6_solutions_1 22 rfl rfl)
theorem dX6_solutions_45 : decode cX6_solutions 45 = .ok (.iconst 0, 1) := dk_3 (dk_at dksX6_solutions_1 23 rfl rfl)
theorem dX6_solutions_46 : decode cX6_solutions 46 = .ok (.iload_n 3, 1) := dk_29 (dk_at dksX6_solutions_2 0 rfl rfl)
theorem dX6_solutions_47 : decode cX6_solutions 47 = .ok (.iconst 1, 1) := dk_4 (dk_at dksX6_solutions_2 1 rfl rfl)
theorem dX6_solutions_48 : decode cX6_solutions 48 = .ok (.invokevirtual 55, 3) := dk_182 0 55 (dk_at dksX6_solutions_2 2 rfl rfl)
theorem dX6_solutions_51 : decode cX6_solutions 51 = .ok (.aload_n 0, 1) := dk_42 (dk_at dksX6_solutions_2 5 rfl rfl)
theorem dX6_solutions_52 : decode cX6_solutions 52 = .ok (.getfield 59, 3) := dk_180 0 59 (dk_at dksX6_solutions_2 6 rfl rfl)
theorem dX6_solutions_55 : decode cX6_solutions 55 = .ok (.ifCond .ne 7, 3) := dk_154 0 7 (dk_at dksX6_solutions_2 9 rfl rfl)
theorem dX6_solutions_58 : decode cX6_solutions 58 = .ok (.iconst 1, 1) := dk_4 (dk_at dksX6_solutions_2 12 rfl rfl)
theorem dX6_solutions_59 : decode cX6_solutions 59 = .ok (.goto 4, 3) := dk_167 0 4 (dk_at dksX6_solutions_2 13 rfl rfl)
theorem dX6_solutions_62 : decode cX6_solutions 62 = .ok (.iconst 0, 1) := dk_3 (dk_at dksX6_solutions_2 16 rfl rfl)
theorem dX6_solutions_63 : decode cX6_solutions 63 = .ok (.ireturn, 1) := dk_172 (dk_at dksX6_solutions_2 17 rfl rfl)
theorem q86 : (Jvm.Cond.initialized "LeastSolutions$Grower") ∈ lw_all := lw_g (lw_at lw_m1 12 rfl) rfl
theorem q269 : (Jvm.Cond.fieldLinkNest "LeastSolutions$Grower" (69 : Nat) "LeastSolutions$Model" "rows" "I" "LeastSolutions") ∈ lw_tbl := lw_at lw_m1 195 rfl
theorem q274 : (Jvm.Cond.fieldLinkNest "LeastSolutions$Grower" (45 : Nat) "LeastSolutions$Model" "columns" "I" "LeastSolutions") ∈ lw_tbl := lw_at lw_m1 200 rfl
theorem q287 : (Jvm.Cond.fieldLinkNest "LeastSolutions$Grower" (75 : Nat) "LeastSolutions$Model" "a" "[[I" "LeastSolutions") ∈ lw_tbl := lw_at lw_m1 213 rfl
theorem q293 : (Jvm.Cond.fieldLinkNest "LeastSolutions$Grower" (72 : Nat) "LeastSolutions$Model" "b" "[I" "LeastSolutions") ∈ lw_tbl := lw_at lw_m1 219 rfl
theorem q336 : (Jvm.Cond.instantiable "LeastSolutions$Grower" (11 : Nat)) ∈ lw_all := lw_g (lw_at lw_m2 22 rfl) rfl
theorem q338 : (Jvm.Cond.instanceMethod ({ cls := "LeastSolutions$Grower", name := "<init>", desc := "()V" } : Jvm.MethodName)) ∈ lw_all := lw_g (lw_at lw_m2 24 rfl) rfl
theorem q339 : (Jvm.Cond.code ({ cls := "LeastSolutions$Grower", name := "<init>", desc := "()V" } : Jvm.MethodName) prog_3_method_1_code (1 : Nat) (Option.none : Option Jvm.ClassFile.FieldType)) ∈ lw_all := lw_g (lw_at lw_m2 25 rfl) rfl
theorem q340 : (Jvm.Cond.methodLink "LeastSolutions$Grower" (3 : Nat) ({ cls := "java/lang/Object", name := "<init>", desc := "()V" } : Jvm.MethodName)) ∈ lw_all := lw_g (lw_at lw_m2 26 rfl) rfl
theorem q341 : (Jvm.Cond.classLink "LeastSolutions$Grower" (15 : Nat) "LeastSolutions$Shelf") ∈ lw_all := lw_g (lw_at lw_m2 27 rfl) rfl
theorem q343 : (Jvm.Cond.methodLinkNest "LeastSolutions$Grower" (17 : Nat) ({ cls := "LeastSolutions$Shelf", name := "<init>", desc := "()V" } : Jvm.MethodName) "LeastSolutions") ∈ lw_tbl := lw_at lw_m2 29 rfl
theorem q380 : (Jvm.Cond.fieldLink "LeastSolutions$Grower" (41 : Nat) "LeastSolutions$Grower" "m" "LLeastSolutions$Model;") ∈ lw_all := lw_g (lw_at lw_m2 66 rfl) rfl
theorem q381 : (Jvm.Cond.fieldLink "LeastSolutions$Grower" (9 : Nat) "LeastSolutions$Grower" "signs" "[I") ∈ lw_all := lw_g (lw_at lw_m2 67 rfl) rfl
theorem q382 : (Jvm.Cond.fieldLink "LeastSolutions$Grower" (18 : Nat) "LeastSolutions$Grower" "found" "LLeastSolutions$Shelf;") ∈ lw_all := lw_g (lw_at lw_m2 68 rfl) rfl
theorem q384 : (Jvm.Cond.fieldLink "LeastSolutions$Grower" (22 : Nat) "LeastSolutions$Grower" "here" "[I") ∈ lw_all := lw_g (lw_at lw_m2 70 rfl) rfl
theorem q385 : (Jvm.Cond.fieldLink "LeastSolutions$Grower" (25 : Nat) "LeastSolutions$Grower" "next" "[I") ∈ lw_all := lw_g (lw_at lw_m2 71 rfl) rfl
theorem q386 : (Jvm.Cond.fieldLink "LeastSolutions$Grower" (99 : Nat) "LeastSolutions$Grower" "hereSize" "I") ∈ lw_all := lw_g (lw_at lw_m2 72 rfl) rfl
theorem q387 : (Jvm.Cond.fieldLink "LeastSolutions$Grower" (66 : Nat) "LeastSolutions$Grower" "nextSize" "I") ∈ lw_all := lw_g (lw_at lw_m2 73 rfl) rfl
theorem q388 : (Jvm.Cond.fieldLink "LeastSolutions$Grower" (28 : Nat) "LeastSolutions$Grower" "x" "[I") ∈ lw_all := lw_g (lw_at lw_m2 74 rfl) rfl
theorem q389 : (Jvm.Cond.fieldLink "LeastSolutions$Grower" (31 : Nat) "LeastSolutions$Grower" "made" "[I") ∈ lw_all := lw_g (lw_at lw_m2 75 rfl) rfl
theorem q390 : (Jvm.Cond.fieldLink "LeastSolutions$Grower" (38 : Nat) "LeastSolutions$Grower" "others" "LLeastSolutions$Shelf;") ∈ lw_all := lw_g (lw_at lw_m2 76 rfl) rfl
theorem q391 : (Jvm.Cond.fieldLink "LeastSolutions$Grower" (59 : Nat) "LeastSolutions$Grower" "full" "Z") ∈ lw_all := lw_g (lw_at lw_m2 77 rfl) rfl
theorem q392 : (Jvm.Cond.lays "LeastSolutions$Grower" "LeastSolutions$Grower" "m" "LLeastSolutions$Model;") ∈ lw_all := lw_g (lw_at lw_m2 78 rfl) rfl
theorem q393 : (Jvm.Cond.soleField "LeastSolutions$Grower" "m") ∈ lw_all := lw_g (lw_at lw_m2 79 rfl) rfl
theorem q394 : (Jvm.Cond.laysFinal "LeastSolutions$Grower" "LeastSolutions$Grower" "signs" "[I") ∈ lw_all := lw_g (lw_at lw_m2 80 rfl) rfl
theorem q395 : (Jvm.Cond.soleField "LeastSolutions$Grower" "signs") ∈ lw_all := lw_g (lw_at lw_m2 81 rfl) rfl
theorem q396 : (Jvm.Cond.laysFinal "LeastSolutions$Grower" "LeastSolutions$Grower" "found" "LLeastSolutions$Shelf;") ∈ lw_all := lw_g (lw_at lw_m2 82 rfl) rfl
theorem q397 : (Jvm.Cond.soleField "LeastSolutions$Grower" "found") ∈ lw_all := lw_g (lw_at lw_m2 83 rfl) rfl
theorem q398 : (Jvm.Cond.lays "LeastSolutions$Grower" "LeastSolutions$Grower" "here" "[I") ∈ lw_all := lw_g (lw_at lw_m2 84 rfl) rfl
theorem q399 : (Jvm.Cond.soleField "LeastSolutions$Grower" "here") ∈ lw_all := lw_g (lw_at lw_m2 85 rfl) rfl
theorem q400 : (Jvm.Cond.lays "LeastSolutions$Grower" "LeastSolutions$Grower" "next" "[I") ∈ lw_all := lw_g (lw_at lw_m2 86 rfl) rfl
theorem q401 : (Jvm.Cond.soleField "LeastSolutions$Grower" "next") ∈ lw_all := lw_g (lw_at lw_m2 87 rfl) rfl
theorem q402 : (Jvm.Cond.lays "LeastSolutions$Grower" "LeastSolutions$Grower" "hereSize" "I") ∈ lw_all := lw_g (lw_at lw_m2 88 rfl) rfl
theorem q403 : (Jvm.Cond.soleField "LeastSolutions$Grower" "hereSize") ∈ lw_all := lw_g (lw_at lw_m2 89 rfl) rfl
theorem q404 : (Jvm.Cond.lays "LeastSolutions$Grower" "LeastSolutions$Grower" "nextSize" "I") ∈ lw_all := lw_g (lw_at lw_m2 90 rfl) rfl
theorem q405 : (Jvm.Cond.soleField "LeastSolutions$Grower" "nextSize") ∈ lw_all := lw_g (lw_at lw_m2 91 rfl) rfl
theorem q406 : (Jvm.Cond.laysFinal "LeastSolutions$Grower" "LeastSolutions$Grower" "x" "[I") ∈ lw_all := lw_g (lw_at lw_m2 92 rfl) rfl
theorem q407 : (Jvm.Cond.soleField "LeastSolutions$Grower" "x") ∈ lw_all := lw_g (lw_at lw_m2 93 rfl) rfl
theorem q408 : (Jvm.Cond.laysFinal "LeastSolutions$Grower" "LeastSolutions$Grower" "made" "[I") ∈ lw_all := lw_g (lw_at lw_m2 94 rfl) rfl
theorem q409 : (Jvm.Cond.soleField "LeastSolutions$Grower" "made") ∈ lw_all := lw_g (lw_at lw_m2 95 rfl) rfl
theorem q410 : (Jvm.Cond.lays "LeastSolutions$Grower" "LeastSolutions$Grower" "others" "LLeastSolutions$Shelf;") ∈ lw_all := lw_g (lw_at lw_m2 96 rfl) rfl
theorem q411 : (Jvm.Cond.soleField "LeastSolutions$Grower" "others") ∈ lw_all := lw_g (lw_at lw_m2 97 rfl) rfl
theorem q412 : (Jvm.Cond.lays "LeastSolutions$Grower" "LeastSolutions$Grower" "full" "Z") ∈ lw_all := lw_g (lw_at lw_m2 98 rfl) rfl
theorem q413 : (Jvm.Cond.soleField "LeastSolutions$Grower" "full") ∈ lw_all := lw_g (lw_at lw_m2 99 rfl) rfl
theorem q414 : (Jvm.Cond.superclass "LeastSolutions$Grower" "java/lang/Object") ∈ lw_all := lw_g (lw_at lw_m2 100 rfl) rfl
theorem q728 : (Jvm.Cond.selects "LeastSolutions$Grower" ({ cls := "java/lang/Object", name := "getClass", desc := "()Ljava/lang/Class;" } : Jvm.MethodName) ({ cls := "java/lang/Object", name := "getClass", desc := "()Ljava/lang/Class;" } : Jvm.MethodName)) ∈ lw_all := lw_g (lw_at lw_m3 174 rfl) rfl
theorem q936 : (Jvm.Cond.instanceMethod ({ cls := "LeastSolutions$Grower", name := "kernel", desc := "(LLeastSolutions$Model;II)Z" } : Jvm.MethodName)) ∈ lw_all := lw_g (lw_at lw_m4 142 rfl) rfl
theorem q937 : (Jvm.Cond.selects "LeastSolutions$Grower" ({ cls := "LeastSolutions$Grower", name := "kernel", desc := "(LLeastSolutions$Model;II)Z" } : Jvm.MethodName) ({ cls := "LeastSolutions$Grower", name := "kernel", desc := "(LLeastSolutions$Model;II)Z" } : Jvm.MethodName)) ∈ lw_all := lw_g (lw_at lw_m4 143 rfl) rfl
theorem q938 : (Jvm.Cond.code ({ cls := "LeastSolutions$Grower", name := "kernel", desc := "(LLeastSolutions$Model;II)Z" } : Jvm.MethodName) prog_3_method_2_code (6 : Nat) (Option.some Jvm.ClassFile.FieldType.boolean)) ∈ lw_all := lw_g (lw_at lw_m4 144 rfl) rfl
theorem q939 : (Jvm.Cond.methodLink "LeastSolutions$Grower" (34 : Nat) ({ cls := "LeastSolutions$Grower", name := "begin", desc := "(LLeastSolutions$Model;I)V" } : Jvm.MethodName)) ∈ lw_all := lw_g (lw_at lw_m4 145 rfl) rfl
theorem q940 : (Jvm.Cond.privateMethod ({ cls := "LeastSolutions$Grower", name := "begin", desc := "(LLeastSolutions$Model;I)V" } : Jvm.MethodName)) ∈ lw_tbl := lw_at lw_m4 146 rfl
theorem q941 : (Jvm.Cond.instanceMethod ({ cls := "LeastSolutions$Grower", name := "begin", desc := "(LLeastSolutions$Model;I)V" } : Jvm.MethodName)) ∈ lw_all := lw_g (lw_at lw_m4 147 rfl) rfl
theorem q942 : (Jvm.Cond.code ({ cls := "LeastSolutions$Grower", name := "begin", desc := "(LLeastSolutions$Model;I)V" } : Jvm.MethodName) prog_3_method_4_code (4 : Nat) (Option.none : Option Jvm.ClassFile.FieldType)) ∈ lw_all := lw_g (lw_at lw_m4 148 rfl) rfl
theorem q943 : (Jvm.Cond.methodLink "LeastSolutions$Grower" (63 : Nat) ({ cls := "LeastSolutions$Shelf", name := "clear", desc := "()V" } : Jvm.MethodName)) ∈ lw_all := lw_g (lw_at lw_m4 149 rfl) rfl
theorem q944 : (Jvm.Cond.methodLink "LeastSolutions$Grower" (51 : Nat) ({ cls := "LeastSolutions$Grower", name := "come", desc := "([II)V" } : Jvm.MethodName)) ∈ lw_all := lw_g (lw_at lw_m4 150 rfl) rfl
theorem q945 : (Jvm.Cond.privateMethod ({ cls := "LeastSolutions$Grower", name := "come", desc := "([II)V" } : Jvm.MethodName)) ∈ lw_tbl := lw_at lw_m4 151 rfl
theorem q946 : (Jvm.Cond.instanceMethod ({ cls := "LeastSolutions$Grower", name := "come", desc := "([II)V" } : Jvm.MethodName)) ∈ lw_all := lw_g (lw_at lw_m4 152 rfl) rfl
theorem q947 : (Jvm.Cond.code ({ cls := "LeastSolutions$Grower", name := "come", desc := "([II)V" } : Jvm.MethodName) prog_3_method_7_code (4 : Nat) (Option.none : Option Jvm.ClassFile.FieldType)) ∈ lw_all := lw_g (lw_at lw_m4 153 rfl) rfl
theorem q948 : (Jvm.Cond.methodLink "LeastSolutions$Grower" (93 : Nat) ({ cls := "java/lang/System", name := "arraycopy", desc := "(Ljava/lang/Object;ILjava/lang/Object;II)V" } : Jvm.MethodName)) ∈ lw_all := lw_g (lw_at lw_m4 154 rfl) rfl
theorem q949 : (Jvm.Cond.methodLink "LeastSolutions$Grower" (55 : Nat) ({ cls := "LeastSolutions$Grower", name := "grow", desc := "(IIZ)V" } : Jvm.MethodName)) ∈ lw_all := lw_g (lw_at lw_m4 155 rfl) rfl
theorem q950 : (Jvm.Cond.privateMethod ({ cls := "LeastSolutions$Grower", name := "grow", desc := "(IIZ)V" } : Jvm.MethodName)) ∈ lw_tbl := lw_at lw_m4 156 rfl
theorem q951 : (Jvm.Cond.instanceMethod ({ cls := "LeastSolutions$Grower", name := "grow", desc := "(IIZ)V" } : Jvm.MethodName)) ∈ lw_all := lw_g (lw_at lw_m4 157 rfl) rfl
theorem q952 : (Jvm.Cond.code ({ cls := "LeastSolutions$Grower", name := "grow", desc := "(IIZ)V" } : Jvm.MethodName) prog_3_method_8_code (7 : Nat) (Option.none : Option Jvm.ClassFile.FieldType)) ∈ lw_all := lw_g (lw_at lw_m4 158 rfl) rfl
theorem q953 : (Jvm.Cond.methodLink "LeastSolutions$Grower" (102 : Nat) ({ cls := "LeastSolutions$Grower", name := "look", desc := "(IZ)V" } : Jvm.MethodName)) ∈ lw_all := lw_g (lw_at lw_m4 159 rfl) rfl
theorem q954 : (Jvm.Cond.privateMethod ({ cls := "LeastSolutions$Grower", name := "look", desc := "(IZ)V" } : Jvm.MethodName)) ∈ lw_tbl := lw_at lw_m4 160 rfl
theorem q955 : (Jvm.Cond.instanceMethod ({ cls := "LeastSolutions$Grower", name := "look", desc := "(IZ)V" } : Jvm.MethodName)) ∈ lw_all := lw_g (lw_at lw_m4 161 rfl) rfl
theorem q956 : (Jvm.Cond.code ({ cls := "LeastSolutions$Grower", name := "look", desc := "(IZ)V" } : Jvm.MethodName) prog_3_method_10_code (3 : Nat) (Option.none : Option Jvm.ClassFile.FieldType)) ∈ lw_all := lw_g (lw_at lw_m4 162 rfl) rfl
theorem q957 : (Jvm.Cond.methodLink "LeastSolutions$Grower" (109 : Nat) ({ cls := "LeastSolutions$Grower", name := "take", desc := "(I)V" } : Jvm.MethodName)) ∈ lw_all := lw_g (lw_at lw_m4 163 rfl) rfl
theorem q958 : (Jvm.Cond.privateMethod ({ cls := "LeastSolutions$Grower", name := "take", desc := "(I)V" } : Jvm.MethodName)) ∈ lw_tbl := lw_at lw_m4 164 rfl
theorem q959 : (Jvm.Cond.instanceMethod ({ cls := "LeastSolutions$Grower", name := "take", desc := "(I)V" } : Jvm.MethodName)) ∈ lw_all := lw_g (lw_at lw_m4 165 rfl) rfl
theorem q960 : (Jvm.Cond.code ({ cls := "LeastSolutions$Grower", name := "take", desc := "(I)V" } : Jvm.MethodName) prog_3_method_9_code (3 : Nat) (Option.none : Option Jvm.ClassFile.FieldType)) ∈ lw_all := lw_g (lw_at lw_m4 166 rfl) rfl
theorem q961 : (Jvm.Cond.methodLink "LeastSolutions$Grower" (113 : Nat) ({ cls := "LeastSolutions$Grower", name := "make", desc := "(Z)Z" } : Jvm.MethodName)) ∈ lw_all := lw_g (lw_at lw_m4 167 rfl) rfl
theorem q962 : (Jvm.Cond.privateMethod ({ cls := "LeastSolutions$Grower", name := "make", desc := "(Z)Z" } : Jvm.MethodName)) ∈ lw_tbl := lw_at lw_m4 168 rfl
theorem q963 : (Jvm.Cond.instanceMethod ({ cls := "LeastSolutions$Grower", name := "make", desc := "(Z)Z" } : Jvm.MethodName)) ∈ lw_all := lw_g (lw_at lw_m4 169 rfl) rfl
theorem q964 : (Jvm.Cond.code ({ cls := "LeastSolutions$Grower", name := "make", desc := "(Z)Z" } : Jvm.MethodName) prog_3_method_5_code (6 : Nat) (Option.some Jvm.ClassFile.FieldType.boolean)) ∈ lw_all := lw_g (lw_at lw_m4 170 rfl) rfl
theorem q965 : (Jvm.Cond.methodLink "LeastSolutions$Grower" (117 : Nat) ({ cls := "LeastSolutions$Grower", name := "hasBelow", desc := "(LLeastSolutions$Shelf;)Z" } : Jvm.MethodName)) ∈ lw_all := lw_g (lw_at lw_m4 171 rfl) rfl
theorem q966 : (Jvm.Cond.privateMethod ({ cls := "LeastSolutions$Grower", name := "hasBelow", desc := "(LLeastSolutions$Shelf;)Z" } : Jvm.MethodName)) ∈ lw_tbl := lw_at lw_m4 172 rfl
theorem q967 : (Jvm.Cond.instanceMethod ({ cls := "LeastSolutions$Grower", name := "hasBelow", desc := "(LLeastSolutions$Shelf;)Z" } : Jvm.MethodName)) ∈ lw_all := lw_g (lw_at lw_m4 173 rfl) rfl
theorem q968 : (Jvm.Cond.code ({ cls := "LeastSolutions$Grower", name := "hasBelow", desc := "(LLeastSolutions$Shelf;)Z" } : Jvm.MethodName) prog_3_method_6_code (4 : Nat) (Option.some Jvm.ClassFile.FieldType.boolean)) ∈ lw_all := lw_g (lw_at lw_m4 174 rfl) rfl
theorem q969 : (Jvm.Cond.methodLink "LeastSolutions$Grower" (79 : Nat) ({ cls := "LeastSolutions$Shelf", name := "size", desc := "()I" } : Jvm.MethodName)) ∈ lw_all := lw_g (lw_at lw_m4 175 rfl) rfl
theorem q970 : (Jvm.Cond.methodLink "LeastSolutions$Grower" (83 : Nat) ({ cls := "LeastSolutions$Shelf", name := "get", desc := "(I)LLeastSolutions$Ranked;" } : Jvm.MethodName)) ∈ lw_all := lw_g (lw_at lw_m4 176 rfl) rfl
theorem q971 : (Jvm.Cond.classLink "LeastSolutions$Grower" (87 : Nat) "LeastSolutions$Vector") ∈ lw_all := lw_g (lw_at lw_m4 177 rfl) rfl
theorem q972 : (Jvm.Cond.methodLink "LeastSolutions$Grower" (89 : Nat) ({ cls := "LeastSolutions$Vector", name := "isIn", desc := "([I)Z" } : Jvm.MethodName)) ∈ lw_all := lw_g (lw_at lw_m4 178 rfl) rfl
theorem q973 : (Jvm.Cond.methodLinkNest "LeastSolutions$Grower" (121 : Nat) ({ cls := "LeastSolutions", name := "keep", desc := "(LLeastSolutions$Shelf;[II)V" } : Jvm.MethodName) "LeastSolutions") ∈ lw_tbl := lw_at lw_m4 179 rfl
theorem q1280 : (Jvm.Cond.methodLink "LeastSolutions$Grower" (106 : Nat) ({ cls := "LeastSolutions$Grower", name := "spread", desc := "(IZ)V" } : Jvm.MethodName)) ∈ lw_all := lw_g (lw_at lw_m6 6 rfl) rfl
theorem q1281 : (Jvm.Cond.privateMethod ({ cls := "LeastSolutions$Grower", name := "spread", desc := "(IZ)V" } : Jvm.MethodName)) ∈ lw_tbl := lw_at lw_m6 7 rfl
theorem q1282 : (Jvm.Cond.instanceMethod ({ cls := "LeastSolutions$Grower", name := "spread", desc := "(IZ)V" } : Jvm.MethodName)) ∈ lw_all := lw_g (lw_at lw_m6 8 rfl) rfl
theorem q1283 : (Jvm.Cond.code ({ cls := "LeastSolutions$Grower", name := "spread", desc := "(IZ)V" } : Jvm.MethodName) prog_3_method_11_code (6 : Nat) (Option.none : Option Jvm.ClassFile.FieldType)) ∈ lw_all := lw_g (lw_at lw_m6 9 rfl) rfl
theorem q1284 : (Jvm.Cond.methodLink "LeastSolutions$Grower" (125 : Nat) ({ cls := "LeastSolutions$Grower", name := "turns", desc := "(I)I" } : Jvm.MethodName)) ∈ lw_all := lw_g (lw_at lw_m6 10 rfl) rfl
theorem q1285 : (Jvm.Cond.privateMethod ({ cls := "LeastSolutions$Grower", name := "turns", desc := "(I)I" } : Jvm.MethodName)) ∈ lw_tbl := lw_at lw_m6 11 rfl
theorem q1286 : (Jvm.Cond.instanceMethod ({ cls := "LeastSolutions$Grower", name := "turns", desc := "(I)I" } : Jvm.MethodName)) ∈ lw_all := lw_g (lw_at lw_m6 12 rfl) rfl
theorem q1287 : (Jvm.Cond.code ({ cls := "LeastSolutions$Grower", name := "turns", desc := "(I)I" } : Jvm.MethodName) prog_3_method_12_code (4 : Nat) (Option.some Jvm.ClassFile.FieldType.int)) ∈ lw_all := lw_g (lw_at lw_m6 13 rfl) rfl
theorem q1303 : (Jvm.Cond.instanceMethod ({ cls := "LeastSolutions$Grower", name := "solutions", desc := "(LLeastSolutions$Model;LLeastSolutions$Shelf;I)Z" } : Jvm.MethodName)) ∈ lw_all := lw_g (lw_at lw_m6 29 rfl) rfl
theorem q1304 : (Jvm.Cond.selects "LeastSolutions$Grower" ({ cls := "LeastSolutions$Grower", name := "solutions", desc := "(LLeastSolutions$Model;LLeastSolutions$Shelf;I)Z" } : Jvm.MethodName) ({ cls := "LeastSolutions$Grower", name := "solutions", desc := "(LLeastSolutions$Model;LLeastSolutions$Shelf;I)Z" } : Jvm.MethodName)) ∈ lw_all := lw_g (lw_at lw_m6 30 rfl) rfl
theorem q1305 : (Jvm.Cond.code ({ cls := "LeastSolutions$Grower", name := "solutions", desc := "(LLeastSolutions$Model;LLeastSolutions$Shelf;I)Z" } : Jvm.MethodName) prog_3_method_3_code (5 : Nat) (Option.some Jvm.ClassFile.FieldType.boolean)) ∈ lw_all := lw_g (lw_at lw_m6 31 rfl) rfl
theorem q1715 : (Jvm.Cond.castable "LeastSolutions$Grower" "java/lang/Object") ∈ lw_tbl := lw_at lw_m7 201 rfl
theorem in_X6 : ∀ w ∈ wsX60, w ∈ lw_all := lw_in wsX60 [392, 394, 396, 398, 400, 402, 404, 406, 408, 410, 412] (by decide +kernel) (by decide +kernel)
/-! LeastSolutions$Shelf -/
set_option maxRecDepth 100000
def RX7 : String := "LeastSolutions$Shelf"
def TX7 : u_T := fun k => match k with
  | 0 => ("LeastSolutions$Shelf", "things", "Ljava/util/ArrayList;", true)
  | _ => ("LeastSolutions$Shelf", "spares", "Ljava/util/ArrayList;", true)
def tyX7 : Nat → FieldType := fun k => match k with
  | 0 => .object "java/util/ArrayList"
  | _ => .object "java/util/ArrayList"
abbrev wsX70 : List Cond := u_ws RX7 TX7 2
theorem nmX7 : ∀ a, a < 2 → ∀ b, b < 2 → a ≠ b → (TX7 a).2.1 ≠ (TX7 b).2.1 := by decide +kernel
theorem tyX7_ok : ∀ k, k < 2 → parseFieldDescriptor (TX7 k).2.2.1 = some (tyX7 k) := by decide +kernel
abbrev cX7_init : ByteArray := prog_10_method_1_code
def yX7_init : MethodName := ⟨RX7, "<init>", "()V"⟩
def dkwX7_init_1 : List UInt8 := [181, 0, 16, 177]
abbrev dktX7_init_1 : List UInt8 := dkwX7_init_1 ++ []
def dkwX7_init_0 : List UInt8 := [42, 183, 0, 1, 42, 187, 0, 7, 89, 183, 0, 9, 181, 0, 10, 42, 187, 0, 7, 89, 183, 0, 9]
abbrev dktX7_init_0 : List UInt8 := dkwX7_init_0 ++ dktX7_init_1
theorem dksX7_init_0 : cX7_init.data.toList.drop 0 = dktX7_init_0 := by decide +kernel
theorem dksX7_init_1 : cX7_init.data.toList.drop 23 = dktX7_init_1 := dk_seg dksX7_init_0 23 rfl rfl
theorem dX7_init_0 : decode cX7_init 0 = .ok (.aload_n 0, 1) := dk_42 (dk_at dksX7_init_0 0 rfl rfl)
theorem dX7_init_1 : decode cX7_init 1 = .ok (.invokespecial 1, 3) := dk_183 0 1 (dk_at dksX7_init_0 1 rfl rfl)
theorem dX7_init_4 : decode cX7_init 4 = .ok (.aload_n 0, 1) := dk_42 (dk_at dksX7_init_0 4 rfl rfl)
theorem dX7_init_5 : decode cX7_init 5 = .ok (.new 7, 3) := dk_187 0 7 (dk_at dksX7_init_0 5 rfl rfl)
theorem dX7_init_8 : decode cX7_init 8 = .ok (.dup, 1) := dk_89 (dk_at dksX7_init_0 8 rfl rfl)
theorem dX7_init_9 : decode cX7_init 9 = .ok (.invokespecial 9, 3) := dk_183 0 9 (dk_at dksX7_init_0 9 rfl rfl)
theorem dX7_init_12 : decode cX7_init 12 = .ok (.putfield 10, 3) := dk_181 0 10 (dk_at dksX7_init_0 12 rfl rfl)
theorem dX7_init_15 : decode cX7_init 15 = .ok (.aload_n 0, 1) := dk_42 (dk_at dksX7_init_0 15 rfl rfl)
theorem dX7_init_16 : decode cX7_init 16 = .ok (.new 7, 3) := dk_187 0 7 (dk_at dksX7_init_0 16 rfl rfl)
theorem dX7_init_19 : decode cX7_init 19 = .ok (.dup, 1) := dk_89 (dk_at dksX7_init_0 19 rfl rfl)
theorem dX7_init_20 : decode cX7_init 20 = .ok (.invokespecial 9, 3) := dk_183 0 9 (dk_at dksX7_init_0 20 rfl rfl)
theorem dX7_init_23 : decode cX7_init 23 = .ok (.putfield 16, 3) := dk_181 0 16 (dk_at dksX7_init_1 0 rfl rfl)
theorem dX7_init_26 : decode cX7_init 26 = .ok (.return_, 1) := dk_177 (dk_at dksX7_init_1 3 rfl rfl)
abbrev cX7_clear : ByteArray := prog_10_method_4_code
def yX7_clear : MethodName := ⟨RX7, "clear", "()V"⟩
def dkwX7_clear_1 : List UInt8 := [182, 0, 23, 192, 0, 27, 182, 0, 29, 87, 132, 1, 1, 167, 255, 223, 42, 180, 0, 10, 182, 0, 33, 177]
abbrev dktX7_clear_1 : List UInt8 := dkwX7_clear_1 ++ []
def dkwX7_clear_0 : List UInt8 := [3, 60, 27, 42, 180, 0, 10, 182, 0, 19, 162, 0, 28, 42, 180, 0, 16, 42, 180, 0, 10, 27]
abbrev dktX7_clear_0 : List UInt8 := dkwX7_clear_0 ++ dktX7_clear_1
theorem dksX7_clear_0 : cX7_clear.data.toList.drop 0 = dktX7_clear_0 := by decide +kernel
theorem dksX7_clear_1 : cX7_clear.data.toList.drop 22 = dktX7_clear_1 := dk_seg dksX7_clear_0 22 rfl rfl
theorem dX7_clear_0 : decode cX7_clear 0 = .ok (.iconst 0, 1) := dk_3 (dk_at dksX7_clear_0 0 rfl rfl)
theorem dX7_clear_1 : decode cX7_clear 1 = .ok (.istore_n 1, 1) := dk_60 (dk_at dksX7_clear_0 1 rfl rfl)
theorem dX7_clear_2 : decode cX7_clear 2 = .ok (.iload_n 1, 1) := dk_27 (dk_at dksX7_clear_0 2 rfl rfl)
theorem dX7_clear_3 : decode cX7_clear 3 = .ok (.aload_n 0, 1) := dk_42 (dk_at dksX7_clear_0 3 rfl rfl)
theorem dX7_clear_4 : decode cX7_clear 4 = .ok (.getfield 10, 3) := dk_180 0 10 (dk_at dksX7_clear_0 4 rfl rfl)
theorem dX7_clear_7 : decode cX7_clear 7 = .ok (.invokevirtual 19, 3) := dk_182 0 19 (dk_at dksX7_clear_0 7 rfl rfl)
theorem dX7_clear_10 : decode cX7_clear 10 = .ok (.if_icmp .ge 28, 3) := dk_162 0 28 (dk_at dksX7_clear_0 10 rfl rfl)
theorem dX7_clear_13 : decode cX7_clear 13 = .ok (.aload_n 0, 1) := dk_42 (dk_at dksX7_clear_0 13 rfl rfl)
theorem dX7_clear_14 : decode cX7_clear 14 = .ok (.getfield 16, 3) := dk_180 0 16 (dk_at dksX7_clear_0 14 rfl rfl)
theorem dX7_clear_17 : decode cX7_clear 17 = .ok (.aload_n 0, 1) := dk_42 (dk_at dksX7_clear_0 17 rfl rfl)
theorem dX7_clear_18 : decode cX7_clear 18 = .ok (.getfield 10, 3) := dk_180 0 10 (dk_at dksX7_clear_0 18 rfl rfl)
theorem dX7_clear_21 : decode cX7_clear 21 = .ok (.iload_n 1, 1) := dk_27 (dk_at dksX7_clear_0 21 rfl rfl)
theorem dX7_clear_22 : decode cX7_clear 22 = .ok (.invokevirtual 23, 3) := dk_182 0 23 (dk_at dksX7_clear_1 0 rfl rfl)
theorem dX7_clear_25 : decode cX7_clear 25 = .ok (.checkcast 27, 3) := dk_192 0 27 (dk_at dksX7_clear_1 3 rfl rfl)
theorem dX7_clear_28 : decode cX7_clear 28 = .ok (.invokevirtual 29, 3) := dk_182 0 29 (dk_at dksX7_clear_1 6 rfl rfl)
theorem dX7_clear_31 : decode cX7_clear 31 = .ok (.pop, 1) := dk_87 (dk_at dksX7_clear_1 9 rfl rfl)
theorem dX7_clear_32 : decode cX7_clear 32 = .ok (.iinc 1 1, 3) := dk_132 1 1 (dk_at dksX7_clear_1 10 rfl rfl)
theorem dX7_clear_35 : decode cX7_clear 35 = .ok (.goto (-33), 3) := dk_167 255 223 (dk_at dksX7_clear_1 13 rfl rfl)
theorem dX7_clear_38 : decode cX7_clear 38 = .ok (.aload_n 0, 1) := dk_42 (dk_at dksX7_clear_1 16 rfl rfl)
theorem dX7_clear_39 : decode cX7_clear 39 = .ok (.getfield 10, 3) := dk_180 0 10 (dk_at dksX7_clear_1 17 rfl rfl)
theorem dX7_clear_42 : decode cX7_clear 42 = .ok (.invokevirtual 33, 3) := dk_182 0 33 (dk_at dksX7_clear_1 20 rfl rfl)
theorem dX7_clear_45 : decode cX7_clear 45 = .ok (.return_, 1) := dk_177 (dk_at dksX7_clear_1 23 rfl rfl)
abbrev cX7_get : ByteArray := prog_10_method_3_code
def yX7_get : MethodName := ⟨RX7, "get", "(I)LLeastSolutions$Ranked;"⟩
def dkwX7_get_0 : List UInt8 := [42, 180, 0, 10, 27, 182, 0, 23, 192, 0, 27, 176]
abbrev dktX7_get_0 : List UInt8 := dkwX7_get_0 ++ []
theorem dksX7_get_0 : cX7_get.data.toList.drop 0 = dktX7_get_0 := by decide +kernel
theorem dX7_get_0 : decode cX7_get 0 = .ok (.aload_n 0, 1) := dk_42 (dk_at dksX7_get_0 0 rfl rfl)
theorem dX7_get_1 : decode cX7_get 1 = .ok (.getfield 10, 3) := dk_180 0 10 (dk_at dksX7_get_0 1 rfl rfl)
theorem dX7_get_4 : decode cX7_get 4 = .ok (.iload_n 1, 1) := dk_27 (dk_at dksX7_get_0 4 rfl rfl)
theorem dX7_get_5 : decode cX7_get 5 = .ok (.invokevirtual 23, 3) := dk_182 0 23 (dk_at dksX7_get_0 5 rfl rfl)
theorem dX7_get_8 : decode cX7_get 8 = .ok (.checkcast 27, 3) := dk_192 0 27 (dk_at dksX7_get_0 8 rfl rfl)
theorem dX7_get_11 : decode cX7_get 11 = .ok (.areturn, 1) := dk_176 (dk_at dksX7_get_0 11 rfl rfl)
abbrev cX7_size : ByteArray := prog_10_method_2_code
def yX7_size : MethodName := ⟨RX7, "size", "()I"⟩
def dkwX7_size_0 : List UInt8 := [42, 180, 0, 10, 182, 0, 19, 172]
abbrev dktX7_size_0 : List UInt8 := dkwX7_size_0 ++ []
theorem dksX7_size_0 : cX7_size.data.toList.drop 0 = dktX7_size_0 := by decide +kernel
theorem dX7_size_0 : decode cX7_size 0 = .ok (.aload_n 0, 1) := dk_42 (dk_at dksX7_size_0 0 rfl rfl)
theorem dX7_size_1 : decode cX7_size 1 = .ok (.getfield 10, 3) := dk_180 0 10 (dk_at dksX7_size_0 1 rfl rfl)
theorem dX7_size_4 : decode cX7_size 4 = .ok (.invokevirtual 19, 3) := dk_182 0 19 (dk_at dksX7_size_0 4 rfl rfl)
theorem dX7_size_7 : decode cX7_size 7 = .ok (.ireturn, 1) := dk_172 (dk_at dksX7_size_0 7 rfl rfl)
abbrev cX7_spare : ByteArray := prog_10_method_5_code
def yX7_spare : MethodName := ⟨RX7, "spare", "()LLeastSolutions$Ranked;"⟩
def dkwX7_spare_1 : List UInt8 := [182, 0, 19, 4, 100, 182, 0, 40, 192, 0, 27, 176]
abbrev dktX7_spare_1 : List UInt8 := dkwX7_spare_1 ++ []
def dkwX7_spare_0 : List UInt8 := [42, 180, 0, 16, 182, 0, 36, 153, 0, 7, 1, 167, 0, 22, 42, 180, 0, 16, 42, 180, 0, 16]
abbrev dktX7_spare_0 : List UInt8 := dkwX7_spare_0 ++ dktX7_spare_1
theorem dksX7_spare_0 : cX7_spare.data.toList.drop 0 = dktX7_spare_0 := by decide +kernel
theorem dksX7_spare_1 : cX7_spare.data.toList.drop 22 = dktX7_spare_1 := dk_seg dksX7_spare_0 22 rfl rfl
theorem dX7_spare_0 : decode cX7_spare 0 = .ok (.aload_n 0, 1) := dk_42 (dk_at dksX7_spare_0 0 rfl rfl)
theorem dX7_spare_1 : decode cX7_spare 1 = .ok (.getfield 16, 3) := dk_180 0 16 (dk_at dksX7_spare_0 1 rfl rfl)
theorem dX7_spare_4 : decode cX7_spare 4 = .ok (.invokevirtual 36, 3) := dk_182 0 36 (dk_at dksX7_spare_0 4 rfl rfl)
theorem dX7_spare_7 : decode cX7_spare 7 = .ok (.ifCond .eq 7, 3) := dk_153 0 7 (dk_at dksX7_spare_0 7 rfl rfl)
theorem dX7_spare_10 : decode cX7_spare 10 = .ok (.aconst_null, 1) := dk_1 (dk_at dksX7_spare_0 10 rfl rfl)
theorem dX7_spare_11 : decode cX7_spare 11 = .ok (.goto 22, 3) := dk_167 0 22 (dk_at dksX7_spare_0 11 rfl rfl)
theorem dX7_spare_14 : decode cX7_spare 14 = .ok (.aload_n 0, 1) := dk_42 (dk_at dksX7_spare_0 14 rfl rfl)
theorem dX7_spare_15 : decode cX7_spare 15 = .ok (.getfield 16, 3) := dk_180 0 16 (dk_at dksX7_spare_0 15 rfl rfl)
theorem dX7_spare_18 : decode cX7_spare 18 = .ok (.aload_n 0, 1) := dk_42 (dk_at dksX7_spare_0 18 rfl rfl)
theorem dX7_spare_19 : decode cX7_spare 19 = .ok (.getfield 16, 3) := dk_180 0 16 (dk_at dksX7_spare_0 19 rfl rfl)
theorem dX7_spare_22 : decode cX7_spare 22 = .ok (.invokevirtual 19, 3) := dk_182 0 19 (dk_at dksX7_spare_1 0 rfl rfl)
theorem dX7_spare_25 : decode cX7_spare 25 = .ok (.iconst 1, 1) := dk_4 (dk_at dksX7_spare_1 3 rfl rfl)
theorem dX7_spare_26 : decode cX7_spare 26 = .ok (.isub, 1) := dk_100 (dk_at dksX7_spare_1 4 rfl rfl)
theorem dX7_spare_27 : decode cX7_spare 27 = .ok (.invokevirtual 40, 3) := dk_182 0 40 (dk_at dksX7_spare_1 5 rfl rfl)
theorem dX7_spare_30 : decode cX7_spare 30 = .ok (.checkcast 27, 3) := dk_192 0 27 (dk_at dksX7_spare_1 8 rfl rfl)
theorem dX7_spare_33 : decode cX7_spare 33 = .ok (.areturn, 1) := dk_176 (dk_at dksX7_spare_1 11 rfl rfl)
abbrev cX7_put : ByteArray := prog_10_method_6_code
def yX7_put : MethodName := ⟨RX7, "put", "(LLeastSolutions$Ranked;)V"⟩
def dkwX7_put_2 : List UInt8 := [167, 0, 8, 21, 4, 4, 96, 61, 167, 255, 212, 42, 180, 0, 10, 28, 43, 182, 0, 46, 177]
abbrev dktX7_put_2 : List UInt8 := dkwX7_put_2 ++ []
def dkwX7_put_1 : List UInt8 := [180, 0, 10, 21, 4, 182, 0, 23, 192, 0, 27, 185, 0, 43, 2, 0, 153, 0, 9, 21, 4, 62]
abbrev dktX7_put_1 : List UInt8 := dkwX7_put_1 ++ dktX7_put_2
def dkwX7_put_0 : List UInt8 := [3, 61, 42, 180, 0, 10, 182, 0, 19, 62, 28, 29, 162, 0, 45, 28, 29, 96, 5, 108, 54, 4, 43, 42]
abbrev dktX7_put_0 : List UInt8 := dkwX7_put_0 ++ dktX7_put_1
theorem dksX7_put_0 : cX7_put.data.toList.drop 0 = dktX7_put_0 := by decide +kernel
theorem dksX7_put_1 : cX7_put.data.toList.drop 24 = dktX7_put_1 := dk_seg dksX7_put_0 24 rfl rfl
theorem dksX7_put_2 : cX7_put.data.toList.drop 46 = dktX7_put_2 := dk_seg dksX7_put_1 22 rfl rfl
theorem dX7_put_0 : decode cX7_put 0 = .ok (.iconst 0, 1) := dk_3 (dk_at dksX7_put_0 0 rfl rfl)
theorem dX7_put_1 : decode cX7_put 1 = .ok (.istore_n 2, 1) := dk_61 (dk_at dksX7_put_0 1 rfl rfl)
theorem dX7_put_2 : decode cX7_put 2 = .ok (.aload_n 0, 1) := dk_42 (dk_at dksX7_put_0 2 rfl rfl)
theorem dX7_put_3 : decode cX7_put 3 = .ok (.getfield 10, 3) := dk_180 0 10 (dk_at dksX7_put_0 3 rfl rfl)
theorem dX7_put_6 : decode cX7_put 6 = .ok (.invokevirtual 19, 3) := dk_182 0 19 (dk_at dksX7_put_0 6 rfl rfl)
theorem dX7_put_9 : decode cX7_put 9 = .ok (.istore_n 3, 1) := dk_62 (dk_at dksX7_put_0 9 rfl rfl)
theorem dX7_put_10 : decode cX7_put 10 = .ok (.iload_n 2, 1) := dk_28 (dk_at dksX7_put_0 10 rfl rfl)
theorem dX7_put_11 : decode cX7_put 11 = .ok (.iload_n 3, 1) := dk_29 (dk_at dksX7_put_0 11 rfl rfl)
theorem dX7_put_12 : decode cX7_put 12 = .ok (.if_icmp .ge 45, 3) := dk_162 0 45 (dk_at dksX7_put_0 12 rfl rfl)
theorem dX7_put_15 : decode cX7_put 15 = .ok (.iload_n 2, 1) := dk_28 (dk_at dksX7_put_0 15 rfl rfl)
theorem dX7_put_16 : decode cX7_put 16 = .ok (.iload_n 3, 1) := dk_29 (dk_at dksX7_put_0 16 rfl rfl)
theorem dX7_put_17 : decode cX7_put 17 = .ok (.iadd, 1) := dk_96 (dk_at dksX7_put_0 17 rfl rfl)
theorem dX7_put_18 : decode cX7_put 18 = .ok (.iconst 2, 1) := dk_5 (dk_at dksX7_put_0 18 rfl rfl)
theorem dX7_put_19 : decode cX7_put 19 = .ok (.idiv, 1) := dk_108 (dk_at dksX7_put_0 19 rfl rfl)
theorem dX7_put_20 : decode cX7_put 20 = .ok (.istore 4, 2) := dk_54 4 (dk_at dksX7_put_0 20 rfl rfl)
theorem dX7_put_22 : decode cX7_put 22 = .ok (.aload_n 1, 1) := dk_43 (dk_at dksX7_put_0 22 rfl rfl)
theorem dX7_put_23 : decode cX7_put 23 = .ok (.aload_n 0, 1) := dk_42 (dk_at dksX7_put_0 23 rfl rfl)
theorem dX7_put_24 : decode cX7_put 24 = .ok (.getfield 10, 3) := dk_180 0 10 (dk_at dksX7_put_1 0 rfl rfl)
theorem dX7_put_27 : decode cX7_put 27 = .ok (.iload 4, 2) := dk_21 4 (dk_at dksX7_put_1 3 rfl rfl)
theorem dX7_put_29 : decode cX7_put 29 = .ok (.invokevirtual 23, 3) := dk_182 0 23 (dk_at dksX7_put_1 5 rfl rfl)
theorem dX7_put_32 : decode cX7_put 32 = .ok (.checkcast 27, 3) := dk_192 0 27 (dk_at dksX7_put_1 8 rfl rfl)
theorem dX7_put_35 : decode cX7_put 35 = .ok (.invokeinterface 43 2, 5) := by decide +kernel
theorem dX7_put_40 : decode cX7_put 40 = .ok (.ifCond .eq 9, 3) := dk_153 0 9 (dk_at dksX7_put_1 16 rfl rfl)
theorem dX7_put_43 : decode cX7_put 43 = .ok (.iload 4, 2) := dk_21 4 (dk_at dksX7_put_1 19 rfl rfl)
theorem dX7_put_45 : decode cX7_put 45 = .ok (.istore_n 3, 1) := dk_62 (dk_at dksX7_put_1 21 rfl rfl)
theorem dX7_put_46 : decode cX7_put 46 = .ok (.goto 8, 3) := dk_167 0 8 (dk_at dksX7_put_2 0 rfl rfl)
theorem dX7_put_49 : decode cX7_put 49 = .ok (.iload 4, 2) := dk_21 4 (dk_at dksX7_put_2 3 rfl rfl)
theorem dX7_put_51 : decode cX7_put 51 = .ok (.iconst 1, 1) := dk_4 (dk_at dksX7_put_2 5 rfl rfl)
theorem dX7_put_52 : decode cX7_put 52 = .ok (.iadd, 1) := dk_96 (dk_at dksX7_put_2 6 rfl rfl)
theorem dX7_put_53 : decode cX7_put 53 = .ok (.istore_n 2, 1) := dk_61 (dk_at dksX7_put_2 7 rfl rfl)
theorem dX7_put_54 : decode cX7_put 54 = .ok (.goto (-44), 3) := dk_167 255 212 (dk_at dksX7_put_2 8 rfl rfl)
theorem dX7_put_57 : decode cX7_put 57 = .ok (.aload_n 0, 1) := dk_42 (dk_at dksX7_put_2 11 rfl rfl)
theorem dX7_put_58 : decode cX7_put 58 = .ok (.getfield 10, 3) := dk_180 0 10 (dk_at dksX7_put_2 12 rfl rfl)
theorem dX7_put_61 : decode cX7_put 61 = .ok (.iload_n 2, 1) := dk_28 (dk_at dksX7_put_2 15 rfl rfl)
theorem dX7_put_62 : decode cX7_put 62 = .ok (.aload_n 1, 1) := dk_43 (dk_at dksX7_put_2 16 rfl rfl)
theorem dX7_put_63 : decode cX7_put 63 = .ok (.invokevirtual 46, 3) := dk_182 0 46 (dk_at dksX7_put_2 17 rfl rfl)
theorem dX7_put_66 : decode cX7_put 66 = .ok (.return_, 1) := dk_177 (dk_at dksX7_put_2 20 rfl rfl)
theorem q87 : (Jvm.Cond.initialized "LeastSolutions$Shelf") ∈ lw_all := lw_g (lw_at lw_m1 13 rfl) rfl
theorem q342 : (Jvm.Cond.instantiable "LeastSolutions$Shelf" (2 : Nat)) ∈ lw_all := lw_g (lw_at lw_m2 28 rfl) rfl
theorem q344 : (Jvm.Cond.instanceMethod ({ cls := "LeastSolutions$Shelf", name := "<init>", desc := "()V" } : Jvm.MethodName)) ∈ lw_all := lw_g (lw_at lw_m2 30 rfl) rfl
theorem q345 : (Jvm.Cond.code ({ cls := "LeastSolutions$Shelf", name := "<init>", desc := "()V" } : Jvm.MethodName) prog_10_method_1_code (1 : Nat) (Option.none : Option Jvm.ClassFile.FieldType)) ∈ lw_all := lw_g (lw_at lw_m2 31 rfl) rfl
theorem q346 : (Jvm.Cond.methodLink "LeastSolutions$Shelf" (1 : Nat) ({ cls := "java/lang/Object", name := "<init>", desc := "()V" } : Jvm.MethodName)) ∈ lw_all := lw_g (lw_at lw_m2 32 rfl) rfl
theorem q347 : (Jvm.Cond.classLink "LeastSolutions$Shelf" (7 : Nat) "java/util/ArrayList") ∈ lw_all := lw_g (lw_at lw_m2 33 rfl) rfl
theorem q349 : (Jvm.Cond.methodLink "LeastSolutions$Shelf" (9 : Nat) ({ cls := "java/util/ArrayList", name := "<init>", desc := "()V" } : Jvm.MethodName)) ∈ lw_all := lw_g (lw_at lw_m2 35 rfl) rfl
theorem q373 : (Jvm.Cond.fieldLink "LeastSolutions$Shelf" (10 : Nat) "LeastSolutions$Shelf" "things" "Ljava/util/ArrayList;") ∈ lw_all := lw_g (lw_at lw_m2 59 rfl) rfl
theorem q374 : (Jvm.Cond.fieldLink "LeastSolutions$Shelf" (16 : Nat) "LeastSolutions$Shelf" "spares" "Ljava/util/ArrayList;") ∈ lw_all := lw_g (lw_at lw_m2 60 rfl) rfl
theorem q375 : (Jvm.Cond.laysFinal "LeastSolutions$Shelf" "LeastSolutions$Shelf" "things" "Ljava/util/ArrayList;") ∈ lw_all := lw_g (lw_at lw_m2 61 rfl) rfl
theorem q376 : (Jvm.Cond.soleField "LeastSolutions$Shelf" "things") ∈ lw_all := lw_g (lw_at lw_m2 62 rfl) rfl
theorem q377 : (Jvm.Cond.laysFinal "LeastSolutions$Shelf" "LeastSolutions$Shelf" "spares" "Ljava/util/ArrayList;") ∈ lw_all := lw_g (lw_at lw_m2 63 rfl) rfl
theorem q378 : (Jvm.Cond.soleField "LeastSolutions$Shelf" "spares") ∈ lw_all := lw_g (lw_at lw_m2 64 rfl) rfl
theorem q379 : (Jvm.Cond.superclass "LeastSolutions$Shelf" "java/lang/Object") ∈ lw_all := lw_g (lw_at lw_m2 65 rfl) rfl
theorem q672 : (Jvm.Cond.instanceMethod ({ cls := "LeastSolutions$Shelf", name := "clear", desc := "()V" } : Jvm.MethodName)) ∈ lw_all := lw_g (lw_at lw_m3 118 rfl) rfl
theorem q673 : (Jvm.Cond.selects "LeastSolutions$Shelf" ({ cls := "LeastSolutions$Shelf", name := "clear", desc := "()V" } : Jvm.MethodName) ({ cls := "LeastSolutions$Shelf", name := "clear", desc := "()V" } : Jvm.MethodName)) ∈ lw_all := lw_g (lw_at lw_m3 119 rfl) rfl
theorem q674 : (Jvm.Cond.code ({ cls := "LeastSolutions$Shelf", name := "clear", desc := "()V" } : Jvm.MethodName) prog_10_method_4_code (2 : Nat) (Option.none : Option Jvm.ClassFile.FieldType)) ∈ lw_all := lw_g (lw_at lw_m3 120 rfl) rfl
theorem q675 : (Jvm.Cond.methodLink "LeastSolutions$Shelf" (19 : Nat) ({ cls := "java/util/ArrayList", name := "size", desc := "()I" } : Jvm.MethodName)) ∈ lw_all := lw_g (lw_at lw_m3 121 rfl) rfl
theorem q679 : (Jvm.Cond.methodLink "LeastSolutions$Shelf" (23 : Nat) ({ cls := "java/util/ArrayList", name := "get", desc := "(I)Ljava/lang/Object;" } : Jvm.MethodName)) ∈ lw_all := lw_g (lw_at lw_m3 125 rfl) rfl
theorem q693 : (Jvm.Cond.classLink "LeastSolutions$Shelf" (27 : Nat) "LeastSolutions$Ranked") ∈ lw_all := lw_g (lw_at lw_m3 139 rfl) rfl
theorem q694 : (Jvm.Cond.methodLink "LeastSolutions$Shelf" (29 : Nat) ({ cls := "java/util/ArrayList", name := "add", desc := "(Ljava/lang/Object;)Z" } : Jvm.MethodName)) ∈ lw_all := lw_g (lw_at lw_m3 140 rfl) rfl
theorem q734 : (Jvm.Cond.selects "LeastSolutions$Shelf" ({ cls := "java/lang/Object", name := "getClass", desc := "()Ljava/lang/Class;" } : Jvm.MethodName) ({ cls := "java/lang/Object", name := "getClass", desc := "()Ljava/lang/Class;" } : Jvm.MethodName)) ∈ lw_all := lw_g (lw_at lw_m3 180 rfl) rfl
theorem q761 : (Jvm.Cond.methodLink "LeastSolutions$Shelf" (33 : Nat) ({ cls := "java/util/ArrayList", name := "clear", desc := "()V" } : Jvm.MethodName)) ∈ lw_all := lw_g (lw_at lw_m3 207 rfl) rfl
theorem q810 : (Jvm.Cond.instanceMethod ({ cls := "LeastSolutions$Shelf", name := "get", desc := "(I)LLeastSolutions$Ranked;" } : Jvm.MethodName)) ∈ lw_all := lw_g (lw_at lw_m4 16 rfl) rfl
theorem q811 : (Jvm.Cond.selects "LeastSolutions$Shelf" ({ cls := "LeastSolutions$Shelf", name := "get", desc := "(I)LLeastSolutions$Ranked;" } : Jvm.MethodName) ({ cls := "LeastSolutions$Shelf", name := "get", desc := "(I)LLeastSolutions$Ranked;" } : Jvm.MethodName)) ∈ lw_all := lw_g (lw_at lw_m4 17 rfl) rfl
theorem q812 : (Jvm.Cond.code ({ cls := "LeastSolutions$Shelf", name := "get", desc := "(I)LLeastSolutions$Ranked;" } : Jvm.MethodName) prog_10_method_3_code (2 : Nat) (Option.some (Jvm.ClassFile.FieldType.object "LeastSolutions$Ranked"))) ∈ lw_all := lw_g (lw_at lw_m4 18 rfl) rfl
theorem q822 : (Jvm.Cond.instanceMethod ({ cls := "LeastSolutions$Shelf", name := "size", desc := "()I" } : Jvm.MethodName)) ∈ lw_all := lw_g (lw_at lw_m4 28 rfl) rfl
theorem q823 : (Jvm.Cond.selects "LeastSolutions$Shelf" ({ cls := "LeastSolutions$Shelf", name := "size", desc := "()I" } : Jvm.MethodName) ({ cls := "LeastSolutions$Shelf", name := "size", desc := "()I" } : Jvm.MethodName)) ∈ lw_all := lw_g (lw_at lw_m4 29 rfl) rfl
theorem q824 : (Jvm.Cond.code ({ cls := "LeastSolutions$Shelf", name := "size", desc := "()I" } : Jvm.MethodName) prog_10_method_2_code (1 : Nat) (Option.some Jvm.ClassFile.FieldType.int)) ∈ lw_all := lw_g (lw_at lw_m4 30 rfl) rfl
theorem q977 : (Jvm.Cond.instanceMethod ({ cls := "LeastSolutions$Shelf", name := "spare", desc := "()LLeastSolutions$Ranked;" } : Jvm.MethodName)) ∈ lw_all := lw_g (lw_at lw_m4 183 rfl) rfl
theorem q978 : (Jvm.Cond.selects "LeastSolutions$Shelf" ({ cls := "LeastSolutions$Shelf", name := "spare", desc := "()LLeastSolutions$Ranked;" } : Jvm.MethodName) ({ cls := "LeastSolutions$Shelf", name := "spare", desc := "()LLeastSolutions$Ranked;" } : Jvm.MethodName)) ∈ lw_all := lw_g (lw_at lw_m4 184 rfl) rfl
theorem q979 : (Jvm.Cond.code ({ cls := "LeastSolutions$Shelf", name := "spare", desc := "()LLeastSolutions$Ranked;" } : Jvm.MethodName) prog_10_method_5_code (1 : Nat) (Option.some (Jvm.ClassFile.FieldType.object "LeastSolutions$Ranked"))) ∈ lw_all := lw_g (lw_at lw_m4 185 rfl) rfl
theorem q980 : (Jvm.Cond.methodLink "LeastSolutions$Shelf" (36 : Nat) ({ cls := "java/util/ArrayList", name := "isEmpty", desc := "()Z" } : Jvm.MethodName)) ∈ lw_all := lw_g (lw_at lw_m4 186 rfl) rfl
theorem q984 : (Jvm.Cond.methodLink "LeastSolutions$Shelf" (40 : Nat) ({ cls := "java/util/ArrayList", name := "remove", desc := "(I)Ljava/lang/Object;" } : Jvm.MethodName)) ∈ lw_all := lw_g (lw_at lw_m4 190 rfl) rfl
theorem q1011 : (Jvm.Cond.instanceMethod ({ cls := "LeastSolutions$Shelf", name := "put", desc := "(LLeastSolutions$Ranked;)V" } : Jvm.MethodName)) ∈ lw_all := lw_g (lw_at lw_m4 217 rfl) rfl
theorem q1012 : (Jvm.Cond.selects "LeastSolutions$Shelf" ({ cls := "LeastSolutions$Shelf", name := "put", desc := "(LLeastSolutions$Ranked;)V" } : Jvm.MethodName) ({ cls := "LeastSolutions$Shelf", name := "put", desc := "(LLeastSolutions$Ranked;)V" } : Jvm.MethodName)) ∈ lw_all := lw_g (lw_at lw_m4 218 rfl) rfl
theorem q1013 : (Jvm.Cond.code ({ cls := "LeastSolutions$Shelf", name := "put", desc := "(LLeastSolutions$Ranked;)V" } : Jvm.MethodName) prog_10_method_6_code (5 : Nat) (Option.none : Option Jvm.ClassFile.FieldType)) ∈ lw_all := lw_g (lw_at lw_m4 219 rfl) rfl
theorem q1014 : (Jvm.Cond.interfaceEntry "LeastSolutions$Shelf" (43 : Nat)) ∈ lw_tbl := lw_at lw_m4 220 rfl
theorem q1015 : (Jvm.Cond.methodLink "LeastSolutions$Shelf" (43 : Nat) ({ cls := "LeastSolutions$Ranked", name := "isBefore", desc := "(Ljava/lang/Object;)Z" } : Jvm.MethodName)) ∈ lw_all := lw_g (lw_at lw_m4 221 rfl) rfl
theorem q1037 : (Jvm.Cond.methodLink "LeastSolutions$Shelf" (46 : Nat) ({ cls := "java/util/ArrayList", name := "add", desc := "(ILjava/lang/Object;)V" } : Jvm.MethodName)) ∈ lw_all := lw_g (lw_at lw_m5 3 rfl) rfl
theorem q1716 : (Jvm.Cond.castable "LeastSolutions$Shelf" "java/lang/Object") ∈ lw_tbl := lw_at lw_m7 202 rfl
theorem in_X7 : ∀ w ∈ wsX70, w ∈ lw_all := lw_in wsX70 [375, 377] (by decide +kernel) (by decide +kernel)
/-! LeastSolutions$Seeker -/
set_option maxRecDepth 100000
def RX8 : String := "LeastSolutions$Seeker"
def TX8 : u_T := fun k => match k with
  | 0 => ("LeastSolutions$Seeker", "m", "LLeastSolutions$Model;", false)
  | 1 => ("LeastSolutions$Seeker", "costs", "[I", true)
  | 2 => ("LeastSolutions$Seeker", "x", "[I", true)
  | 3 => ("LeastSolutions$Seeker", "best", "[I", true)
  | 4 => ("LeastSolutions$Seeker", "cost", "I", false)
  | _ => ("LeastSolutions$Seeker", "found", "Z", false)
def tyX8 : Nat → FieldType := fun k => match k with
  | 0 => .object "LeastSolutions$Model"
  | 1 => .array .int
  | 2 => .array .int
  | 3 => .array .int
  | 4 => .int
  | _ => .boolean
abbrev wsX80 : List Cond := u_ws RX8 TX8 6
theorem nmX8 : ∀ a, a < 6 → ∀ b, b < 6 → a ≠ b → (TX8 a).2.1 ≠ (TX8 b).2.1 := by decide +kernel
theorem tyX8_ok : ∀ k, k < 6 → parseFieldDescriptor (TX8 k).2.2.1 = some (tyX8 k) := by decide +kernel
abbrev cX8_init : ByteArray := prog_9_method_1_code
def yX8_init : MethodName := ⟨RX8, "<init>", "()V"⟩
def dkwX8_init_1 : List UInt8 := [188, 10, 181, 0, 18, 177]
abbrev dktX8_init_1 : List UInt8 := dkwX8_init_1 ++ []
def dkwX8_init_0 : List UInt8 := [42, 183, 0, 3, 42, 16, 6, 188, 10, 181, 0, 9, 42, 16, 6, 188, 10, 181, 0, 15, 42, 16, 6]
abbrev dktX8_init_0 : List UInt8 := dkwX8_init_0 ++ dktX8_init_1
theorem dksX8_init_0 : cX8_init.data.toList.drop 0 = dktX8_init_0 := by decide +kernel
theorem dksX8_init_1 : cX8_init.data.toList.drop 23 = dktX8_init_1 := dk_seg dksX8_init_0 23 rfl rfl
theorem dX8_init_0 : decode cX8_init 0 = .ok (.aload_n 0, 1) := dk_42 (dk_at dksX8_init_0 0 rfl rfl)
theorem dX8_init_1 : decode cX8_init 1 = .ok (.invokespecial 3, 3) := dk_183 0 3 (dk_at dksX8_init_0 1 rfl rfl)
theorem dX8_init_4 : decode cX8_init 4 = .ok (.aload_n 0, 1) := dk_42 (dk_at dksX8_init_0 4 rfl rfl)
theorem dX8_init_5 : decode cX8_init 5 = .ok (.bipush 6, 2) := dk_16 6 (dk_at dksX8_init_0 5 rfl rfl)
theorem dX8_init_7 : decode cX8_init 7 = .ok (.newarray .int, 2) := dk_188_10 (dk_at dksX8_init_0 7 rfl rfl)
theorem dX8_init_9 : decode cX8_init 9 = .ok (.putfield 9, 3) := dk_181 0 9 (dk_at dksX8_init_0 9 rfl rfl)
theorem dX8_init_12 : decode cX8_init 12 = .ok (.aload_n 0, 1) := dk_42 (dk_at dksX8_init_0 12 rfl rfl)
theorem dX8_init_13 : decode cX8_init 13 = .ok (.bipush 6, 2) := dk_16 6 (dk_at dksX8_init_0 13 rfl rfl)
theorem dX8_init_15 : decode cX8_init 15 = .ok (.newarray .int, 2) := dk_188_10 (dk_at dksX8_init_0 15 rfl rfl)
theorem dX8_init_17 : decode cX8_init 17 = .ok (.putfield 15, 3) := dk_181 0 15 (dk_at dksX8_init_0 17 rfl rfl)
theorem dX8_init_20 : decode cX8_init 20 = .ok (.aload_n 0, 1) := dk_42 (dk_at dksX8_init_0 20 rfl rfl)
theorem dX8_init_21 : decode cX8_init 21 = .ok (.bipush 6, 2) := dk_16 6 (dk_at dksX8_init_0 21 rfl rfl)
theorem dX8_init_23 : decode cX8_init 23 = .ok (.newarray .int, 2) := dk_188_10 (dk_at dksX8_init_1 0 rfl rfl)
theorem dX8_init_25 : decode cX8_init 25 = .ok (.putfield 18, 3) := dk_181 0 18 (dk_at dksX8_init_1 2 rfl rfl)
theorem dX8_init_28 : decode cX8_init 28 = .ok (.return_, 1) := dk_177 (dk_at dksX8_init_1 5 rfl rfl)
abbrev cX8_work : ByteArray := prog_9_method_2_code
def yX8_work : MethodName := ⟨RX8, "work", "(LLeastSolutions$Model;I)Z"⟩
def dkwX8_work_0 : List UInt8 := [42, 43, 181, 0, 21, 42, 3, 181, 0, 25, 42, 3, 28, 3, 182, 0, 29, 42, 180, 0, 25, 172]
abbrev dktX8_work_0 : List UInt8 := dkwX8_work_0 ++ []
theorem dksX8_work_0 : cX8_work.data.toList.drop 0 = dktX8_work_0 := by decide +kernel
theorem dX8_work_0 : decode cX8_work 0 = .ok (.aload_n 0, 1) := dk_42 (dk_at dksX8_work_0 0 rfl rfl)
theorem dX8_work_1 : decode cX8_work 1 = .ok (.aload_n 1, 1) := dk_43 (dk_at dksX8_work_0 1 rfl rfl)
theorem dX8_work_2 : decode cX8_work 2 = .ok (.putfield 21, 3) := dk_181 0 21 (dk_at dksX8_work_0 2 rfl rfl)
theorem dX8_work_5 : decode cX8_work 5 = .ok (.aload_n 0, 1) := dk_42 (dk_at dksX8_work_0 5 rfl rfl)
theorem dX8_work_6 : decode cX8_work 6 = .ok (.iconst 0, 1) := dk_3 (dk_at dksX8_work_0 6 rfl rfl)
theorem dX8_work_7 : decode cX8_work 7 = .ok (.putfield 25, 3) := dk_181 0 25 (dk_at dksX8_work_0 7 rfl rfl)
theorem dX8_work_10 : decode cX8_work 10 = .ok (.aload_n 0, 1) := dk_42 (dk_at dksX8_work_0 10 rfl rfl)
theorem dX8_work_11 : decode cX8_work 11 = .ok (.iconst 0, 1) := dk_3 (dk_at dksX8_work_0 11 rfl rfl)
theorem dX8_work_12 : decode cX8_work 12 = .ok (.iload_n 2, 1) := dk_28 (dk_at dksX8_work_0 12 rfl rfl)
theorem dX8_work_13 : decode cX8_work 13 = .ok (.iconst 0, 1) := dk_3 (dk_at dksX8_work_0 13 rfl rfl)
theorem dX8_work_14 : decode cX8_work 14 = .ok (.invokevirtual 29, 3) := dk_182 0 29 (dk_at dksX8_work_0 14 rfl rfl)
theorem dX8_work_17 : decode cX8_work 17 = .ok (.aload_n 0, 1) := dk_42 (dk_at dksX8_work_0 17 rfl rfl)
theorem dX8_work_18 : decode cX8_work 18 = .ok (.getfield 25, 3) := dk_180 0 25 (dk_at dksX8_work_0 18 rfl rfl)
theorem dX8_work_21 : decode cX8_work 21 = .ok (.ireturn, 1) := dk_172 (dk_at dksX8_work_0 21 rfl rfl)
abbrev cX8_seek : ByteArray := prog_9_method_5_code
def yX8_seek : MethodName := ⟨RX8, "seek", "(III)V"⟩
def dkwX8_seek_4 : List UInt8 := [180, 0, 9, 27, 46, 104, 96, 182, 0, 29, 132, 4, 1, 167, 255, 217, 42, 180, 0, 15, 27, 3, 79, 177]
abbrev dktX8_seek_4 : List UInt8 := dkwX8_seek_4 ++ []
def dkwX8_seek_3 : List UInt8 := [163, 0, 39, 42, 180, 0, 15, 27, 21, 4, 79, 42, 27, 4, 96, 28, 21, 4, 100, 29, 21, 4, 42]
abbrev dktX8_seek_3 : List UInt8 := dkwX8_seek_3 ++ dktX8_seek_4
def dkwX8_seek_2 : List UInt8 := [42, 180, 0, 15, 3, 42, 180, 0, 18, 3, 16, 6, 184, 0, 68, 177, 3, 54, 4, 21, 4, 28]
abbrev dktX8_seek_2 : List UInt8 := dkwX8_seek_2 ++ dktX8_seek_3
def dkwX8_seek_1 : List UInt8 := [180, 0, 25, 153, 0, 11, 29, 42, 180, 0, 65, 162, 0, 28, 42, 4, 181, 0, 25, 42, 29, 181, 0, 65]
abbrev dktX8_seek_1 : List UInt8 := dkwX8_seek_1 ++ dktX8_seek_2
def dkwX8_seek_0 : List UInt8 := [42, 27, 28, 182, 0, 61, 154, 0, 4, 177, 27, 42, 180, 0, 21, 180, 0, 46, 160, 0, 44, 42]
abbrev dktX8_seek_0 : List UInt8 := dkwX8_seek_0 ++ dktX8_seek_1
theorem dksX8_seek_0 : cX8_seek.data.toList.drop 0 = dktX8_seek_0 := by decide +kernel
theorem dksX8_seek_1 : cX8_seek.data.toList.drop 22 = dktX8_seek_1 := dk_seg dksX8_seek_0 22 rfl rfl
theorem dksX8_seek_2 : cX8_seek.data.toList.drop 46 = dktX8_seek_2 := dk_seg dksX8_seek_1 24 rfl rfl
theorem dksX8_seek_3 : cX8_seek.data.toList.drop 68 = dktX8_seek_3 := dk_seg dksX8_seek_2 22 rfl rfl
theorem dksX8_seek_4 : cX8_seek.data.toList.drop 91 = dktX8_seek_4 := dk_seg dksX8_seek_3 23 rfl rfl
theorem dX8_seek_0 : decode cX8_seek 0 = .ok (.aload_n 0, 1) := dk_42 (dk_at dksX8_seek_0 0 rfl rfl)
theorem dX8_seek_1 : decode cX8_seek 1 = .ok (.iload_n 1, 1) := dk_27 (dk_at dksX8_seek_0 1 rfl rfl)
theorem dX8_seek_2 : decode cX8_seek 2 = .ok (.iload_n 2, 1) := dk_28 (dk_at dksX8_seek_0 2 rfl rfl)
theorem dX8_seek_3 : decode cX8_seek 3 = .ok (.invokevirtual 61, 3) := dk_182 0 61 (dk_at dksX8_seek_0 3 rfl rfl)
theorem dX8_seek_6 : decode cX8_seek 6 = .ok (.ifCond .ne 4, 3) := dk_154 0 4 (dk_at dksX8_seek_0 6 rfl rfl)
theorem dX8_seek_9 : decode cX8_seek 9 = .ok (.return_, 1) := dk_177 (dk_at dksX8_seek_0 9 rfl rfl)
theorem dX8_seek_10 : decode cX8_seek 10 = .ok (.iload_n 1, 1) := dk_27 (dk_at dksX8_seek_0 10 rfl rfl)
theorem dX8_seek_11 : decode cX8_seek 11 = .ok (.aload_n 0, 1) := dk_42 (dk_at dksX8_seek_0 11 rfl rfl)
theorem dX8_seek_12 : decode cX8_seek 12 = .ok (.getfield 21, 3) := dk_180 0 21 (dk_at dksX8_seek_0 12 rfl rfl)
theorem dX8_seek_15 : decode cX8_seek 15 = .ok (.getfield 46, 3) := dk_180 0 46 (dk_at dksX8_seek_0 15 rfl rfl)
theorem dX8_seek_18 : decode cX8_seek 18 = .ok (.if_icmp .ne 44, 3) := dk_160 0 44 (dk_at dksX8_seek_0 18 rfl rfl)
theorem dX8_seek_21 : decode cX8_seek 21 = .ok (.aload_n 0, 1) := dk_42 (dk_at dksX8_seek_0 21 rfl rfl)
theorem dX8_seek_22 : decode cX8_seek 22 = .ok (.getfield 25, 3) := dk_180 0 25 (dk_at dksX8_seek_1 0 rfl rfl)
theorem dX8_seek_25 : decode cX8_seek 25 = .ok (.ifCond .eq 11, 3) := dk_153 0 11 (dk_at dksX8_seek_1 3 rfl rfl)
theorem dX8_seek_28 : decode cX8_seek 28 = .ok (.iload_n 3, 1) := dk_29 (dk_at dksX8_seek_1 6 rfl rfl)
theorem dX8_seek_29 : decode cX8_seek 29 = .ok (.aload_n 0, 1) := dk_42 (dk_at dksX8_seek_1 7 rfl rfl)
theorem dX8_seek_30 : decode cX8_seek 30 = .ok (.getfield 65, 3) := dk_180 0 65 (dk_at dksX8_seek_1 8 rfl rfl)
theorem dX8_seek_33 : decode cX8_seek 33 = .ok (.if_icmp .ge 28, 3) := dk_162 0 28 (dk_at dksX8_seek_1 11 rfl rfl)
theorem dX8_seek_36 : decode cX8_seek 36 = .ok (.aload_n 0, 1) := dk_42 (dk_at dksX8_seek_1 14 rfl rfl)
theorem dX8_seek_37 : decode cX8_seek 37 = .ok (.iconst 1, 1) := dk_4 (dk_at dksX8_seek_1 15 rfl rfl)
theorem dX8_seek_38 : decode cX8_seek 38 = .ok (.putfield 25, 3) := dk_181 0 25 (dk_at dksX8_seek_1 16 rfl rfl)
theorem dX8_seek_41 : decode cX8_seek 41 = .ok (.aload_n 0, 1) := dk_42 (dk_at dksX8_seek_1 19 rfl rfl)
theorem dX8_seek_42 : decode cX8_seek 42 = .ok (.iload_n 3, 1) := dk_29 (dk_at dksX8_seek_1 20 rfl rfl)
theorem dX8_seek_43 : decode cX8_seek 43 = .ok (.putfield 65, 3) := dk_181 0 65 (dk_at dksX8_seek_1 21 rfl rfl)
theorem dX8_seek_46 : decode cX8_seek 46 = .ok (.aload_n 0, 1) := dk_42 (dk_at dksX8_seek_2 0 rfl rfl)
theorem dX8_seek_47 : decode cX8_seek 47 = .ok (.getfield 15, 3) := dk_180 0 15 (dk_at dksX8_seek_2 1 rfl rfl)
theorem dX8_seek_50 : decode cX8_seek 50 = .ok (.iconst 0, 1) := dk_3 (dk_at dksX8_seek_2 4 rfl rfl)
theorem dX8_seek_51 : decode cX8_seek 51 = .ok (.aload_n 0, 1) := dk_42 (dk_at dksX8_seek_2 5 rfl rfl)
theorem dX8_seek_52 : decode cX8_seek 52 = .ok (.getfield 18, 3) := dk_180 0 18 (dk_at dksX8_seek_2 6 rfl rfl)
theorem dX8_seek_55 : decode cX8_seek 55 = .ok (.iconst 0, 1) := dk_3 (dk_at dksX8_seek_2 9 rfl rfl)
theorem dX8_seek_56 : decode cX8_seek 56 = .ok (.bipush 6, 2) := dk_16 6 (dk_at dksX8_seek_2 10 rfl rfl)
theorem dX8_seek_58 : decode cX8_seek 58 = .ok (.invokestatic 68, 3) := dk_184 0 68 (dk_at dksX8_seek_2 12 rfl rfl)
theorem dX8_seek_61 : decode cX8_seek 61 = .ok (.return_, 1) := dk_177 (dk_at dksX8_seek_2 15 rfl rfl)
theorem dX8_seek_62 : decode cX8_seek 62 = .ok (.iconst 0, 1) := dk_3 (dk_at dksX8_seek_2 16 rfl rfl)
theorem dX8_seek_63 : decode cX8_seek 63 = .ok (.istore 4, 2) := dk_54 4 (dk_at dksX8_seek_2 17 rfl rfl)
theorem dX8_seek_65 : decode cX8_seek 65 = .ok (.iload 4, 2) := dk_21 4 (dk_at dksX8_seek_2 19 rfl rfl)
theorem dX8_seek_67 : decode cX8_seek 67 = .ok (.iload_n 2, 1) := dk_28 (dk_at dksX8_seek_2 21 rfl rfl)
theorem dX8_seek_68 : decode cX8_seek 68 = .ok (.if_icmp .gt 39, 3) := dk_163 0 39 (dk_at dksX8_seek_3 0 rfl rfl)
theorem dX8_seek_71 : decode cX8_seek 71 = .ok (.aload_n 0, 1) := dk_42 (dk_at dksX8_seek_3 3 rfl rfl)
theorem dX8_seek_72 : decode cX8_seek 72 = .ok (.getfield 15, 3) := dk_180 0 15 (dk_at dksX8_seek_3 4 rfl rfl)
theorem dX8_seek_75 : decode cX8_seek 75 = .ok (.iload_n 1, 1) := dk_27 (dk_at dksX8_seek_3 7 rfl rfl)
theorem dX8_seek_76 : decode cX8_seek 76 = .ok (.iload 4, 2) := dk_21 4 (dk_at dksX8_seek_3 8 rfl rfl)
theorem dX8_seek_78 : decode cX8_seek 78 = .ok (.iastore, 1) := dk_79 (dk_at dksX8_seek_3 10 rfl rfl)
theorem dX8_seek_79 : decode cX8_seek 79 = .ok (.aload_n 0, 1) := dk_42 (dk_at dksX8_seek_3 11 rfl rfl)
theorem dX8_seek_80 : decode cX8_seek 80 = .ok (.iload_n 1, 1) := dk_27 (dk_at dksX8_seek_3 12 rfl rfl)
theorem dX8_seek_81 : decode cX8_seek 81 = .ok (.iconst 1, 1) := dk_4 (dk_at dksX8_seek_3 13 rfl rfl)
theorem dX8_seek_82 : decode cX8_seek 82 = .ok (.iadd, 1) := dk_96 (dk_at dksX8_seek_3 14 rfl rfl)
theorem dX8_seek_83 : decode cX8_seek 83 = .ok (.iload_n 2, 1) := dk_28 (dk_at dksX8_seek_3 15 rfl rfl)
theorem dX8_seek_84 : decode cX8_seek 84 = .ok (.iload 4, 2) := dk_21 4 (dk_at dksX8_seek_3 16 rfl rfl)
theorem dX8_seek_86 : decode cX8_seek 86 = .ok (.isub, 1) := dk_100 (dk_at dksX8_seek_3 18 rfl rfl)
theorem dX8_seek_87 : decode cX8_seek 87 = .ok (.iload_n 3, 1) := dk_29 (dk_at dksX8_seek_3 19 rfl rfl)
theorem dX8_seek_88 : decode cX8_seek 88 = .ok (.iload 4, 2) := dk_21 4 (dk_at dksX8_seek_3 20 rfl rfl)
theorem dX8_seek_90 : decode cX8_seek 90 = .ok (.aload_n 0, 1) := dk_42 (dk_at dksX8_seek_3 22 rfl rfl)
theorem dX8_seek_91 : decode cX8_seek 91 = .ok (.getfield 9, 3) := dk_180 0 9 (dk_at dksX8_seek_4 0 rfl rfl)
theorem dX8_seek_94 : decode cX8_seek 94 = .ok (.iload_n 1, 1) := dk_27 (dk_at dksX8_seek_4 3 rfl rfl)
theorem dX8_seek_95 : decode cX8_seek 95 = .ok (.iaload, 1) := dk_46 (dk_at dksX8_seek_4 4 rfl rfl)
theorem dX8_seek_96 : decode cX8_seek 96 = .ok (.imul, 1) := dk_104 (dk_at dksX8_seek_4 5 rfl rfl)
theorem dX8_seek_97 : decode cX8_seek 97 = .ok (.iadd, 1) := dk_96 (dk_at dksX8_seek_4 6 rfl rfl)
theorem dX8_seek_98 : decode cX8_seek 98 = .ok (.invokevirtual 29, 3) := dk_182 0 29 (dk_at dksX8_seek_4 7 rfl rfl)
theorem dX8_seek_101 : decode cX8_seek 101 = .ok (.iinc 4 1, 3) := dk_132 4 1 (dk_at dksX8_seek_4 10 rfl rfl)
theorem dX8_seek_104 : decode cX8_seek 104 = .ok (.goto (-39), 3) := dk_167 255 217 (dk_at dksX8_seek_4 13 rfl rfl)
theorem dX8_seek_107 : decode cX8_seek 107 = .ok (.aload_n 0, 1) := dk_42 (dk_at dksX8_seek_4 16 rfl rfl)
theorem dX8_seek_108 : decode cX8_seek 108 = .ok (.getfield 15, 3) := dk_180 0 15 (dk_at dksX8_seek_4 17 rfl rfl)
theorem dX8_seek_111 : decode cX8_seek 111 = .ok (.iload_n 1, 1) := dk_27 (dk_at dksX8_seek_4 20 rfl rfl)
theorem dX8_seek_112 : decode cX8_seek 112 = .ok (.iconst 0, 1) := dk_3 (dk_at dksX8_seek_4 21 rfl rfl)
theorem dX8_seek_113 : decode cX8_seek 113 = .ok (.iastore, 1) := dk_79 (dk_at dksX8_seek_4 22 rfl rfl)
theorem dX8_seek_114 : decode cX8_seek 114 = .ok (.return_, 1) := dk_177 (dk_at dksX8_seek_4 23 rfl rfl)
abbrev cX8_canCome : ByteArray := prog_9_method_4_code
def yX8_canCome : MethodName := ⟨RX8, "canCome", "(II)Z"⟩
def dkwX8_canCome_5 : List UInt8 := [3, 62, 132, 4, 1, 167, 255, 137, 29, 172]
abbrev dktX8_canCome_5 : List UInt8 := dkwX8_canCome_5 ++ []
def dkwX8_canCome_4 : List UInt8 := [54, 7, 21, 7, 21, 5, 28, 104, 161, 0, 16, 21, 7, 21, 6, 28, 104, 163, 0, 7, 4, 167, 0, 4]
abbrev dktX8_canCome_4 : List UInt8 := dkwX8_canCome_4 ++ dktX8_canCome_5
def dkwX8_canCome_3 : List UInt8 := [21, 4, 50, 21, 7, 46, 184, 0, 55, 54, 6, 132, 7, 1, 167, 255, 201, 42, 21, 4, 27, 182, 0, 58]
abbrev dktX8_canCome_3 : List UInt8 := dkwX8_canCome_3 ++ dktX8_canCome_4
def dkwX8_canCome_2 : List UInt8 := [180, 0, 38, 21, 4, 50, 21, 7, 46, 184, 0, 49, 54, 5, 21, 6, 42, 180, 0, 21, 180, 0, 38]
abbrev dktX8_canCome_2 : List UInt8 := dkwX8_canCome_2 ++ dktX8_canCome_3
def dkwX8_canCome_1 : List UInt8 := [3, 54, 6, 27, 54, 7, 21, 7, 42, 180, 0, 21, 180, 0, 46, 162, 0, 49, 21, 5, 42, 180, 0, 21]
abbrev dktX8_canCome_1 : List UInt8 := dkwX8_canCome_1 ++ dktX8_canCome_2
def dkwX8_canCome_0 : List UInt8 := [4, 62, 3, 54, 4, 21, 4, 42, 180, 0, 21, 180, 0, 42, 162, 0, 113, 29, 153, 0, 109, 3, 54, 5]
abbrev dktX8_canCome_0 : List UInt8 := dkwX8_canCome_0 ++ dktX8_canCome_1
theorem dksX8_canCome_0 : cX8_canCome.data.toList.drop 0 = dktX8_canCome_0 := by decide +kernel
theorem dksX8_canCome_1 : cX8_canCome.data.toList.drop 24 = dktX8_canCome_1 := dk_seg dksX8_canCome_0 24 rfl rfl
theorem dksX8_canCome_2 : cX8_canCome.data.toList.drop 48 = dktX8_canCome_2 := dk_seg dksX8_canCome_1 24 rfl rfl
theorem dksX8_canCome_3 : cX8_canCome.data.toList.drop 71 = dktX8_canCome_3 := dk_seg dksX8_canCome_2 23 rfl rfl
theorem dksX8_canCome_4 : cX8_canCome.data.toList.drop 95 = dktX8_canCome_4 := dk_seg dksX8_canCome_3 24 rfl rfl
theorem dksX8_canCome_5 : cX8_canCome.data.toList.drop 119 = dktX8_canCome_5 := dk_seg dksX8_canCome_4 24 rfl rfl
theorem dX8_canCome_0 : decode cX8_canCome 0 = .ok (.iconst 1, 1) := dk_4 (dk_at dksX8_canCome_0 0 rfl rfl)
theorem dX8_canCome_1 : decode cX8_canCome 1 = .ok (.istore_n 3, 1) := dk_62 (dk_at dksX8_canCome_0 1 rfl rfl)
theorem dX8_canCome_2 : decode cX8_canCome 2 = .ok (.iconst 0, 1) := dk_3 (dk_at dksX8_canCome_0 2 rfl rfl)
theorem dX8_canCome_3 : decode cX8_canCome 3 = .ok (.istore 4, 2) := dk_54 4 (dk_at dksX8_canCome_0 3 rfl rfl)
theorem dX8_canCome_5 : decode cX8_canCome 5 = .ok (.iload 4, 2) := dk_21 4 (dk_at dksX8_canCome_0 5 rfl rfl)
theorem dX8_canCome_7 : decode cX8_canCome 7 = .ok (.aload_n 0, 1) := dk_42 (dk_at dksX8_canCome_0 7 rfl rfl)
theorem dX8_canCome_8 : decode cX8_canCome 8 = .ok (.getfield 21, 3) := dk_180 0 21 (dk_at dksX8_canCome_0 8 rfl rfl)
theorem dX8_canCome_11 : decode cX8_canCome 11 = .ok (.getfield 42, 3) := dk_180 0 42 (dk_at dksX8_canCome_0 11 rfl rfl)
theorem dX8_canCome_14 : decode cX8_canCome 14 = .ok (.if_icmp .ge 113, 3) := dk_162 0 113 (dk_at dksX8_canCome_0 14 rfl rfl)
theorem dX8_canCome_17 : decode cX8_canCome 17 = .ok (.iload_n 3, 1) := dk_29 (dk_at dksX8_canCome_0 17 rfl rfl)
theorem dX8_canCome_18 : decode cX8_canCome 18 = .ok (.ifCond .eq 109, 3) := dk_153 0 109 (dk_at dksX8_canCome_0 18 rfl rfl)
theorem dX8_canCome_21 : decode cX8_canCome 21 = .ok (.iconst 0, 1) := dk_3 (dk_at dksX8_canCome_0 21 rfl rfl)
theorem dX8_canCome_22 : decode cX8_canCome 22 = .ok (.istore 5, 2) := dk_54 5 (dk_at dksX8_canCome_0 22 rfl rfl)
theorem dX8_canCome_24 : decode cX8_canCome 24 = .ok (.iconst 0, 1) := dk_3 (dk_at dksX8_canCome_1 0 rfl rfl)
theorem dX8_canCome_25 : decode cX8_canCome 25 = .ok (.istore 6, 2) := dk_54 6 (dk_at dksX8_canCome_1 1 rfl rfl)
theorem dX8_canCome_27 : decode cX8_canCome 27 = .ok (.iload_n 1, 1) := dk_27 (dk_at dksX8_canCome_1 3 rfl rfl)
theorem dX8_canCome_28 : decode cX8_canCome 28 = .ok (.istore 7, 2) := dk_54 7 (dk_at dksX8_canCome_1 4 rfl rfl)
theorem dX8_canCome_30 : decode cX8_canCome 30 = .ok (.iload 7, 2) := dk_21 7 (dk_at dksX8_canCome_1 6 rfl rfl)
theorem dX8_canCome_32 : decode cX8_canCome 32 = .ok (.aload_n 0, 1) := dk_42 (dk_at dksX8_canCome_1 8 rfl rfl)
theorem dX8_canCome_33 : decode cX8_canCome 33 = .ok (.getfield 21, 3) := dk_180 0 21 (dk_at dksX8_canCome_1 9 rfl rfl)
theorem dX8_canCome_36 : decode cX8_canCome 36 = .ok (.getfield 46, 3) := dk_180 0 46 (dk_at dksX8_canCome_1 12 rfl rfl)
theorem dX8_canCome_39 : decode cX8_canCome 39 = .ok (.if_icmp .ge 49, 3) := dk_162 0 49 (dk_at dksX8_canCome_1 15 rfl rfl)
theorem dX8_canCome_42 : decode cX8_canCome 42 = .ok (.iload 5, 2) := dk_21 5 (dk_at dksX8_canCome_1 18 rfl rfl)
theorem dX8_canCome_44 : decode cX8_canCome 44 = .ok (.aload_n 0, 1) := dk_42 (dk_at dksX8_canCome_1 20 rfl rfl)
theorem dX8_canCome_45 : decode cX8_canCome 45 = .ok (.getfield 21, 3) := dk_180 0 21 (dk_at dksX8_canCome_1 21 rfl rfl)
theorem dX8_canCome_48 : decode cX8_canCome 48 = .ok (.getfield 38, 3) := dk_180 0 38 (dk_at dksX8_canCome_2 0 rfl rfl)
theorem dX8_canCome_51 : decode cX8_canCome 51 = .ok (.iload 4, 2) := dk_21 4 (dk_at dksX8_canCome_2 3 rfl rfl)
theorem dX8_canCome_53 : decode cX8_canCome 53 = .ok (.aaload, 1) := dk_50 (dk_at dksX8_canCome_2 5 rfl rfl)
theorem dX8_canCome_54 : decode cX8_canCome 54 = .ok (.iload 7, 2) := dk_21 7 (dk_at dksX8_canCome_2 6 rfl rfl)
theorem dX8_canCome_56 : decode cX8_canCome 56 = .ok (.iaload, 1) := dk_46 (dk_at dksX8_canCome_2 8 rfl rfl)
theorem dX8_canCome_57 : decode cX8_canCome 57 = .ok (.invokestatic 49, 3) := dk_184 0 49 (dk_at dksX8_canCome_2 9 rfl rfl)
theorem dX8_canCome_60 : decode cX8_canCome 60 = .ok (.istore 5, 2) := dk_54 5 (dk_at dksX8_canCome_2 12 rfl rfl)
theorem dX8_canCome_62 : decode cX8_canCome 62 = .ok (.iload 6, 2) := dk_21 6 (dk_at dksX8_canCome_2 14 rfl rfl)
theorem dX8_canCome_64 : decode cX8_canCome 64 = .ok (.aload_n 0, 1) := dk_42 (dk_at dksX8_canCome_2 16 rfl rfl)
theorem dX8_canCome_65 : decode cX8_canCome 65 = .ok (.getfield 21, 3) := dk_180 0 21 (dk_at dksX8_canCome_2 17 rfl rfl)
theorem dX8_canCome_68 : decode cX8_canCome 68 = .ok (.getfield 38, 3) := dk_180 0 38 (dk_at dksX8_canCome_2 20 rfl rfl)
theorem dX8_canCome_71 : decode cX8_canCome 71 = .ok (.iload 4, 2) := dk_21 4 (dk_at dksX8_canCome_3 0 rfl rfl)
theorem dX8_canCome_73 : decode cX8_canCome 73 = .ok (.aaload, 1) := dk_50 (dk_at dksX8_canCome_3 2 rfl rfl)
theorem dX8_canCome_74 : decode cX8_canCome 74 = .ok (.iload 7, 2) := dk_21 7 (dk_at dksX8_canCome_3 3 rfl rfl)
theorem dX8_canCome_76 : decode cX8_canCome 76 = .ok (.iaload, 1) := dk_46 (dk_at dksX8_canCome_3 5 rfl rfl)
theorem dX8_canCome_77 : decode cX8_canCome 77 = .ok (.invokestatic 55, 3) := dk_184 0 55 (dk_at dksX8_canCome_3 6 rfl rfl)
theorem dX8_canCome_80 : decode cX8_canCome 80 = .ok (.istore 6, 2) := dk_54 6 (dk_at dksX8_canCome_3 9 rfl rfl)
theorem dX8_canCome_82 : decode cX8_canCome 82 = .ok (.iinc 7 1, 3) := dk_132 7 1 (dk_at dksX8_canCome_3 11 rfl rfl)
theorem dX8_canCome_85 : decode cX8_canCome 85 = .ok (.goto (-55), 3) := dk_167 255 201 (dk_at dksX8_canCome_3 14 rfl rfl)
theorem dX8_canCome_88 : decode cX8_canCome 88 = .ok (.aload_n 0, 1) := dk_42 (dk_at dksX8_canCome_3 17 rfl rfl)
theorem dX8_canCome_89 : decode cX8_canCome 89 = .ok (.iload 4, 2) := dk_21 4 (dk_at dksX8_canCome_3 18 rfl rfl)
theorem dX8_canCome_91 : decode cX8_canCome 91 = .ok (.iload_n 1, 1) := dk_27 (dk_at dksX8_canCome_3 20 rfl rfl)
theorem dX8_canCome_92 : decode cX8_canCome 92 = .ok (.invokevirtual 58, 3) := dk_182 0 58 (dk_at dksX8_canCome_3 21 rfl rfl)
theorem dX8_canCome_95 : decode cX8_canCome 95 = .ok (.istore 7, 2) := dk_54 7 (dk_at dksX8_canCome_4 0 rfl rfl)
theorem dX8_canCome_97 : decode cX8_canCome 97 = .ok (.iload 7, 2) := dk_21 7 (dk_at dksX8_canCome_4 2 rfl rfl)
theorem dX8_canCome_99 : decode cX8_canCome 99 = .ok (.iload 5, 2) := dk_21 5 (dk_at dksX8_canCome_4 4 rfl rfl)
theorem dX8_canCome_101 : decode cX8_canCome 101 = .ok (.iload_n 2, 1) := dk_28 (dk_at dksX8_canCome_4 6 rfl rfl)
theorem dX8_canCome_102 : decode cX8_canCome 102 = .ok (.imul, 1) := dk_104 (dk_at dksX8_canCome_4 7 rfl rfl)
theorem dX8_canCome_103 : decode cX8_canCome 103 = .ok (.if_icmp .lt 16, 3) := dk_161 0 16 (dk_at dksX8_canCome_4 8 rfl rfl)
theorem dX8_canCome_106 : decode cX8_canCome 106 = .ok (.iload 7, 2) := dk_21 7 (dk_at dksX8_canCome_4 11 rfl rfl)
theorem dX8_canCome_108 : decode cX8_canCome 108 = .ok (.iload 6, 2) := dk_21 6 (dk_at dksX8_canCome_4 13 rfl rfl)
theorem dX8_canCome_110 : decode cX8_canCome 110 = .ok (.iload_n 2, 1) := dk_28 (dk_at dksX8_canCome_4 15 rfl rfl)
theorem dX8_canCome_111 : decode cX8_canCome 111 = .ok (.imul, 1) := dk_104 (dk_at dksX8_canCome_4 16 rfl rfl)
theorem dX8_canCome_112 : decode cX8_canCome 112 = .ok (.if_icmp .gt 7, 3) := dk_163 0 7 (dk_at dksX8_canCome_4 17 rfl rfl)
theorem dX8_canCome_115 : decode cX8_canCome 115 = .ok (.iconst 1, 1) := dk_4 (dk_at dksX8_canCome_4 20 rfl rfl)
theorem dX8_canCome_116 : decode cX8_canCome 116 = .ok (.goto 4, 3) := dk_167 0 4 (dk_at dksX8_canCome_4 21 rfl rfl)
theorem dX8_canCome_119 : decode cX8_canCome 119 = .ok (.iconst 0, 1) := dk_3 (dk_at dksX8_canCome_5 0 rfl rfl)
theorem dX8_canCome_120 : decode cX8_canCome 120 = .ok (.istore_n 3, 1) := dk_62 (dk_at dksX8_canCome_5 1 rfl rfl)
theorem dX8_canCome_121 : decode cX8_canCome 121 = .ok (.iinc 4 1, 3) := dk_132 4 1 (dk_at dksX8_canCome_5 2 rfl rfl)
theorem dX8_canCome_124 : decode cX8_canCome 124 = .ok (.goto (-119), 3) := dk_167 255 137 (dk_at dksX8_canCome_5 5 rfl rfl)
theorem dX8_canCome_127 : decode cX8_canCome 127 = .ok (.iload_n 3, 1) := dk_29 (dk_at dksX8_canCome_5 8 rfl rfl)
theorem dX8_canCome_128 : decode cX8_canCome 128 = .ok (.ireturn, 1) := dk_172 (dk_at dksX8_canCome_5 9 rfl rfl)
abbrev cX8_left : ByteArray := prog_9_method_3_code
def yX8_left : MethodName := ⟨RX8, "left", "(II)I"⟩
def dkwX8_left_2 : List UInt8 := [29, 172]
abbrev dktX8_left_2 : List UInt8 := dkwX8_left_2 ++ []
def dkwX8_left_1 : List UInt8 := [180, 0, 38, 27, 50, 21, 4, 46, 42, 180, 0, 15, 21, 4, 46, 104, 100, 62, 132, 4, 1, 167, 255, 224]
abbrev dktX8_left_1 : List UInt8 := dkwX8_left_1 ++ dktX8_left_2
def dkwX8_left_0 : List UInt8 := [42, 180, 0, 21, 180, 0, 33, 27, 46, 62, 3, 54, 4, 21, 4, 28, 162, 0, 32, 29, 42, 180, 0, 21]
abbrev dktX8_left_0 : List UInt8 := dkwX8_left_0 ++ dktX8_left_1
theorem dksX8_left_0 : cX8_left.data.toList.drop 0 = dktX8_left_0 := by decide +kernel
theorem dksX8_left_1 : cX8_left.data.toList.drop 24 = dktX8_left_1 := dk_seg dksX8_left_0 24 rfl rfl
theorem dksX8_left_2 : cX8_left.data.toList.drop 48 = dktX8_left_2 := dk_seg dksX8_left_1 24 rfl rfl
theorem dX8_left_0 : decode cX8_left 0 = .ok (.aload_n 0, 1) := dk_42 (dk_at dksX8_left_0 0 rfl rfl)
theorem dX8_left_1 : decode cX8_left 1 = .ok (.getfield 21, 3) := dk_180 0 21 (dk_at dksX8_left_0 1 rfl rfl)
theorem dX8_left_4 : decode cX8_left 4 = .ok (.getfield 33, 3) := dk_180 0 33 (dk_at dksX8_left_0 4 rfl rfl)
theorem dX8_left_7 : decode cX8_left 7 = .ok (.iload_n 1, 1) := dk_27 (dk_at dksX8_left_0 7 rfl rfl)
theorem dX8_left_8 : decode cX8_left 8 = .ok (.iaload, 1) := dk_46 (dk_at dksX8_left_0 8 rfl rfl)
theorem dX8_left_9 : decode cX8_left 9 = .ok (.istore_n 3, 1) := dk_62 (dk_at dksX8_left_0 9 rfl rfl)
theorem dX8_left_10 : decode cX8_left 10 = .ok (.iconst 0, 1) := dk_3 (dk_at dksX8_left_0 10 rfl rfl)
theorem dX8_left_11 : decode cX8_left 11 = .ok (.istore 4, 2) := dk_54 4 (dk_at dksX8_left_0 11 rfl rfl)
theorem dX8_left_13 : decode cX8_left 13 = .ok (.iload 4, 2) := dk_21 4 (dk_at dksX8_left_0 13 rfl rfl)
theorem dX8_left_15 : decode cX8_left 15 = .ok (.iload_n 2, 1) := dk_28 (dk_at dksX8_left_0 15 rfl rfl)
theorem dX8_left_16 : decode cX8_left 16 = .ok (.if_icmp .ge 32, 3) := dk_162 0 32 (dk_at dksX8_left_0 16 rfl rfl)
theorem dX8_left_19 : decode cX8_left 19 = .ok (.iload_n 3, 1) := dk_29 (dk_at dksX8_left_0 19 rfl rfl)
theorem dX8_left_20 : decode cX8_left 20 = .ok (.aload_n 0, 1) := dk_42 (dk_at dksX8_left_0 20 rfl rfl)
theorem dX8_left_21 : decode cX8_left 21 = .ok (.getfield 21, 3) := dk_180 0 21 (dk_at dksX8_left_0 21 rfl rfl)
theorem dX8_left_24 : decode cX8_left 24 = .ok (.getfield 38, 3) := dk_180 0 38 (dk_at dksX8_left_1 0 rfl rfl)
theorem dX8_left_27 : decode cX8_left 27 = .ok (.iload_n 1, 1) := dk_27 (dk_at dksX8_left_1 3 rfl rfl)
theorem dX8_left_28 : decode cX8_left 28 = .ok (.aaload, 1) := dk_50 (dk_at dksX8_left_1 4 rfl rfl)
theorem dX8_left_29 : decode cX8_left 29 = .ok (.iload 4, 2) := dk_21 4 (dk_at dksX8_left_1 5 rfl rfl)
theorem dX8_left_31 : decode cX8_left 31 = .ok (.iaload, 1) := dk_46 (dk_at dksX8_left_1 7 rfl rfl)
theorem dX8_left_32 : decode cX8_left 32 = .ok (.aload_n 0, 1) := dk_42 (dk_at dksX8_left_1 8 rfl rfl)
theorem dX8_left_33 : decode cX8_left 33 = .ok (.getfield 15, 3) := dk_180 0 15 (dk_at dksX8_left_1 9 rfl rfl)
theorem dX8_left_36 : decode cX8_left 36 = .ok (.iload 4, 2) := dk_21 4 (dk_at dksX8_left_1 12 rfl rfl)
theorem dX8_left_38 : decode cX8_left 38 = .ok (.iaload, 1) := dk_46 (dk_at dksX8_left_1 14 rfl rfl)
theorem dX8_left_39 : decode cX8_left 39 = .ok (.imul, 1) := dk_104 (dk_at dksX8_left_1 15 rfl rfl)
theorem dX8_left_40 : decode cX8_left 40 = .ok (.isub, 1) := dk_100 (dk_at dksX8_left_1 16 rfl rfl)
theorem dX8_left_41 : decode cX8_left 41 = .ok (.istore_n 3, 1) := dk_62 (dk_at dksX8_left_1 17 rfl rfl)
theorem dX8_left_42 : decode cX8_left 42 = .ok (.iinc 4 1, 3) := dk_132 4 1 (dk_at dksX8_left_1 18 rfl rfl)
theorem dX8_left_45 : decode cX8_left 45 = .ok (.goto (-32), 3) := dk_167 255 224 (dk_at dksX8_left_1 21 rfl rfl)
theorem dX8_left_48 : decode cX8_left 48 = .ok (.iload_n 3, 1) := dk_29 (dk_at dksX8_left_2 0 rfl rfl)
theorem dX8_left_49 : decode cX8_left 49 = .ok (.ireturn, 1) := dk_172 (dk_at dksX8_left_2 1 rfl rfl)
theorem q91 : (Jvm.Cond.initialized "LeastSolutions$Seeker") ∈ lw_all := lw_g (lw_at lw_m1 17 rfl) rfl
theorem q268 : (Jvm.Cond.fieldLinkNest "LeastSolutions$Seeker" (42 : Nat) "LeastSolutions$Model" "rows" "I" "LeastSolutions") ∈ lw_tbl := lw_at lw_m1 194 rfl
theorem q275 : (Jvm.Cond.fieldLinkNest "LeastSolutions$Seeker" (46 : Nat) "LeastSolutions$Model" "columns" "I" "LeastSolutions") ∈ lw_tbl := lw_at lw_m1 201 rfl
theorem q286 : (Jvm.Cond.fieldLinkNest "LeastSolutions$Seeker" (38 : Nat) "LeastSolutions$Model" "a" "[[I" "LeastSolutions") ∈ lw_tbl := lw_at lw_m1 212 rfl
theorem q292 : (Jvm.Cond.fieldLinkNest "LeastSolutions$Seeker" (33 : Nat) "LeastSolutions$Model" "b" "[I" "LeastSolutions") ∈ lw_tbl := lw_at lw_m1 218 rfl
theorem q416 : (Jvm.Cond.instantiable "LeastSolutions$Seeker" (6 : Nat)) ∈ lw_all := lw_g (lw_at lw_m2 102 rfl) rfl
theorem q418 : (Jvm.Cond.instanceMethod ({ cls := "LeastSolutions$Seeker", name := "<init>", desc := "()V" } : Jvm.MethodName)) ∈ lw_all := lw_g (lw_at lw_m2 104 rfl) rfl
theorem q419 : (Jvm.Cond.code ({ cls := "LeastSolutions$Seeker", name := "<init>", desc := "()V" } : Jvm.MethodName) prog_9_method_1_code (1 : Nat) (Option.none : Option Jvm.ClassFile.FieldType)) ∈ lw_all := lw_g (lw_at lw_m2 105 rfl) rfl
theorem q420 : (Jvm.Cond.methodLink "LeastSolutions$Seeker" (3 : Nat) ({ cls := "java/lang/Object", name := "<init>", desc := "()V" } : Jvm.MethodName)) ∈ lw_all := lw_g (lw_at lw_m2 106 rfl) rfl
theorem q421 : (Jvm.Cond.fieldLink "LeastSolutions$Seeker" (21 : Nat) "LeastSolutions$Seeker" "m" "LLeastSolutions$Model;") ∈ lw_all := lw_g (lw_at lw_m2 107 rfl) rfl
theorem q422 : (Jvm.Cond.fieldLink "LeastSolutions$Seeker" (9 : Nat) "LeastSolutions$Seeker" "costs" "[I") ∈ lw_all := lw_g (lw_at lw_m2 108 rfl) rfl
theorem q424 : (Jvm.Cond.fieldLink "LeastSolutions$Seeker" (15 : Nat) "LeastSolutions$Seeker" "x" "[I") ∈ lw_all := lw_g (lw_at lw_m2 110 rfl) rfl
theorem q425 : (Jvm.Cond.fieldLink "LeastSolutions$Seeker" (18 : Nat) "LeastSolutions$Seeker" "best" "[I") ∈ lw_all := lw_g (lw_at lw_m2 111 rfl) rfl
theorem q427 : (Jvm.Cond.fieldLink "LeastSolutions$Seeker" (65 : Nat) "LeastSolutions$Seeker" "cost" "I") ∈ lw_all := lw_g (lw_at lw_m2 113 rfl) rfl
theorem q429 : (Jvm.Cond.fieldLink "LeastSolutions$Seeker" (25 : Nat) "LeastSolutions$Seeker" "found" "Z") ∈ lw_all := lw_g (lw_at lw_m2 115 rfl) rfl
theorem q430 : (Jvm.Cond.lays "LeastSolutions$Seeker" "LeastSolutions$Seeker" "m" "LLeastSolutions$Model;") ∈ lw_all := lw_g (lw_at lw_m2 116 rfl) rfl
theorem q431 : (Jvm.Cond.soleField "LeastSolutions$Seeker" "m") ∈ lw_all := lw_g (lw_at lw_m2 117 rfl) rfl
theorem q432 : (Jvm.Cond.laysFinal "LeastSolutions$Seeker" "LeastSolutions$Seeker" "costs" "[I") ∈ lw_all := lw_g (lw_at lw_m2 118 rfl) rfl
theorem q433 : (Jvm.Cond.soleField "LeastSolutions$Seeker" "costs") ∈ lw_all := lw_g (lw_at lw_m2 119 rfl) rfl
theorem q434 : (Jvm.Cond.laysFinal "LeastSolutions$Seeker" "LeastSolutions$Seeker" "x" "[I") ∈ lw_all := lw_g (lw_at lw_m2 120 rfl) rfl
theorem q435 : (Jvm.Cond.soleField "LeastSolutions$Seeker" "x") ∈ lw_all := lw_g (lw_at lw_m2 121 rfl) rfl
theorem q436 : (Jvm.Cond.laysFinal "LeastSolutions$Seeker" "LeastSolutions$Seeker" "best" "[I") ∈ lw_all := lw_g (lw_at lw_m2 122 rfl) rfl
theorem q437 : (Jvm.Cond.soleField "LeastSolutions$Seeker" "best") ∈ lw_all := lw_g (lw_at lw_m2 123 rfl) rfl
theorem q438 : (Jvm.Cond.lays "LeastSolutions$Seeker" "LeastSolutions$Seeker" "cost" "I") ∈ lw_all := lw_g (lw_at lw_m2 124 rfl) rfl
theorem q439 : (Jvm.Cond.soleField "LeastSolutions$Seeker" "cost") ∈ lw_all := lw_g (lw_at lw_m2 125 rfl) rfl
theorem q440 : (Jvm.Cond.lays "LeastSolutions$Seeker" "LeastSolutions$Seeker" "found" "Z") ∈ lw_all := lw_g (lw_at lw_m2 126 rfl) rfl
theorem q441 : (Jvm.Cond.soleField "LeastSolutions$Seeker" "found") ∈ lw_all := lw_g (lw_at lw_m2 127 rfl) rfl
theorem q442 : (Jvm.Cond.superclass "LeastSolutions$Seeker" "java/lang/Object") ∈ lw_all := lw_g (lw_at lw_m2 128 rfl) rfl
theorem q733 : (Jvm.Cond.selects "LeastSolutions$Seeker" ({ cls := "java/lang/Object", name := "getClass", desc := "()Ljava/lang/Class;" } : Jvm.MethodName) ({ cls := "java/lang/Object", name := "getClass", desc := "()Ljava/lang/Class;" } : Jvm.MethodName)) ∈ lw_all := lw_g (lw_at lw_m3 179 rfl) rfl
theorem q1350 : (Jvm.Cond.instanceMethod ({ cls := "LeastSolutions$Seeker", name := "work", desc := "(LLeastSolutions$Model;I)Z" } : Jvm.MethodName)) ∈ lw_all := lw_g (lw_at lw_m6 76 rfl) rfl
theorem q1351 : (Jvm.Cond.selects "LeastSolutions$Seeker" ({ cls := "LeastSolutions$Seeker", name := "work", desc := "(LLeastSolutions$Model;I)Z" } : Jvm.MethodName) ({ cls := "LeastSolutions$Seeker", name := "work", desc := "(LLeastSolutions$Model;I)Z" } : Jvm.MethodName)) ∈ lw_all := lw_g (lw_at lw_m6 77 rfl) rfl
theorem q1352 : (Jvm.Cond.code ({ cls := "LeastSolutions$Seeker", name := "work", desc := "(LLeastSolutions$Model;I)Z" } : Jvm.MethodName) prog_9_method_2_code (3 : Nat) (Option.some Jvm.ClassFile.FieldType.boolean)) ∈ lw_all := lw_g (lw_at lw_m6 78 rfl) rfl
theorem q1353 : (Jvm.Cond.methodLink "LeastSolutions$Seeker" (29 : Nat) ({ cls := "LeastSolutions$Seeker", name := "seek", desc := "(III)V" } : Jvm.MethodName)) ∈ lw_all := lw_g (lw_at lw_m6 79 rfl) rfl
theorem q1354 : (Jvm.Cond.privateMethod ({ cls := "LeastSolutions$Seeker", name := "seek", desc := "(III)V" } : Jvm.MethodName)) ∈ lw_tbl := lw_at lw_m6 80 rfl
theorem q1355 : (Jvm.Cond.instanceMethod ({ cls := "LeastSolutions$Seeker", name := "seek", desc := "(III)V" } : Jvm.MethodName)) ∈ lw_all := lw_g (lw_at lw_m6 81 rfl) rfl
theorem q1356 : (Jvm.Cond.code ({ cls := "LeastSolutions$Seeker", name := "seek", desc := "(III)V" } : Jvm.MethodName) prog_9_method_5_code (5 : Nat) (Option.none : Option Jvm.ClassFile.FieldType)) ∈ lw_all := lw_g (lw_at lw_m6 82 rfl) rfl
theorem q1357 : (Jvm.Cond.methodLink "LeastSolutions$Seeker" (61 : Nat) ({ cls := "LeastSolutions$Seeker", name := "canCome", desc := "(II)Z" } : Jvm.MethodName)) ∈ lw_all := lw_g (lw_at lw_m6 83 rfl) rfl
theorem q1358 : (Jvm.Cond.privateMethod ({ cls := "LeastSolutions$Seeker", name := "canCome", desc := "(II)Z" } : Jvm.MethodName)) ∈ lw_tbl := lw_at lw_m6 84 rfl
theorem q1359 : (Jvm.Cond.instanceMethod ({ cls := "LeastSolutions$Seeker", name := "canCome", desc := "(II)Z" } : Jvm.MethodName)) ∈ lw_all := lw_g (lw_at lw_m6 85 rfl) rfl
theorem q1360 : (Jvm.Cond.code ({ cls := "LeastSolutions$Seeker", name := "canCome", desc := "(II)Z" } : Jvm.MethodName) prog_9_method_4_code (8 : Nat) (Option.some Jvm.ClassFile.FieldType.boolean)) ∈ lw_all := lw_g (lw_at lw_m6 86 rfl) rfl
theorem q1361 : (Jvm.Cond.methodLink "LeastSolutions$Seeker" (49 : Nat) ({ cls := "java/lang/Math", name := "min", desc := "(II)I" } : Jvm.MethodName)) ∈ lw_all := lw_g (lw_at lw_m6 87 rfl) rfl
theorem q1362 : (Jvm.Cond.methodLink "LeastSolutions$Seeker" (55 : Nat) ({ cls := "java/lang/Math", name := "max", desc := "(II)I" } : Jvm.MethodName)) ∈ lw_all := lw_g (lw_at lw_m6 88 rfl) rfl
theorem q1363 : (Jvm.Cond.methodLink "LeastSolutions$Seeker" (58 : Nat) ({ cls := "LeastSolutions$Seeker", name := "left", desc := "(II)I" } : Jvm.MethodName)) ∈ lw_all := lw_g (lw_at lw_m6 89 rfl) rfl
theorem q1364 : (Jvm.Cond.privateMethod ({ cls := "LeastSolutions$Seeker", name := "left", desc := "(II)I" } : Jvm.MethodName)) ∈ lw_tbl := lw_at lw_m6 90 rfl
theorem q1365 : (Jvm.Cond.instanceMethod ({ cls := "LeastSolutions$Seeker", name := "left", desc := "(II)I" } : Jvm.MethodName)) ∈ lw_all := lw_g (lw_at lw_m6 91 rfl) rfl
theorem q1366 : (Jvm.Cond.code ({ cls := "LeastSolutions$Seeker", name := "left", desc := "(II)I" } : Jvm.MethodName) prog_9_method_3_code (5 : Nat) (Option.some Jvm.ClassFile.FieldType.int)) ∈ lw_all := lw_g (lw_at lw_m6 92 rfl) rfl
theorem q1367 : (Jvm.Cond.methodLink "LeastSolutions$Seeker" (68 : Nat) ({ cls := "java/lang/System", name := "arraycopy", desc := "(Ljava/lang/Object;ILjava/lang/Object;II)V" } : Jvm.MethodName)) ∈ lw_all := lw_g (lw_at lw_m6 93 rfl) rfl
theorem q1718 : (Jvm.Cond.castable "LeastSolutions$Seeker" "java/lang/Object") ∈ lw_tbl := lw_at lw_m7 204 rfl
theorem in_X8 : ∀ w ∈ wsX80, w ∈ lw_all := lw_in wsX80 [430, 432, 434, 436, 438, 440] (by decide +kernel) (by decide +kernel)
/-! LeastSolutions$Found -/
set_option maxRecDepth 100000
def RX9 : String := "LeastSolutions$Found"
def TX9 : u_T := fun k => match k with
  | 0 => ("LeastSolutions$Found", "vectors", "LLeastSolutions$Shelf;", true)
  | _ => ("LeastSolutions$Found", "bound", "I", false)
def tyX9 : Nat → FieldType := fun k => match k with
  | 0 => .object "LeastSolutions$Shelf"
  | _ => .int
abbrev wsX90 : List Cond := u_ws RX9 TX9 2
theorem nmX9 : ∀ a, a < 2 → ∀ b, b < 2 → a ≠ b → (TX9 a).2.1 ≠ (TX9 b).2.1 := by decide +kernel
theorem tyX9_ok : ∀ k, k < 2 → parseFieldDescriptor (TX9 k).2.2.1 = some (tyX9 k) := by decide +kernel
abbrev cX9_init : ByteArray := prog_2_method_1_code
def yX9_init : MethodName := ⟨RX9, "<init>", "()V"⟩
def dkwX9_init_0 : List UInt8 := [42, 183, 0, 3, 42, 187, 0, 9, 89, 183, 0, 11, 181, 0, 12, 42, 2, 181, 0, 18, 177]
abbrev dktX9_init_0 : List UInt8 := dkwX9_init_0 ++ []
theorem dksX9_init_0 : cX9_init.data.toList.drop 0 = dktX9_init_0 := by decide +kernel
theorem dX9_init_0 : decode cX9_init 0 = .ok (.aload_n 0, 1) := dk_42 (dk_at dksX9_init_0 0 rfl rfl)
theorem dX9_init_1 : decode cX9_init 1 = .ok (.invokespecial 3, 3) := dk_183 0 3 (dk_at dksX9_init_0 1 rfl rfl)
theorem dX9_init_4 : decode cX9_init 4 = .ok (.aload_n 0, 1) := dk_42 (dk_at dksX9_init_0 4 rfl rfl)
theorem dX9_init_5 : decode cX9_init 5 = .ok (.new 9, 3) := dk_187 0 9 (dk_at dksX9_init_0 5 rfl rfl)
theorem dX9_init_8 : decode cX9_init 8 = .ok (.dup, 1) := dk_89 (dk_at dksX9_init_0 8 rfl rfl)
theorem dX9_init_9 : decode cX9_init 9 = .ok (.invokespecial 11, 3) := dk_183 0 11 (dk_at dksX9_init_0 9 rfl rfl)
theorem dX9_init_12 : decode cX9_init 12 = .ok (.putfield 12, 3) := dk_181 0 12 (dk_at dksX9_init_0 12 rfl rfl)
theorem dX9_init_15 : decode cX9_init 15 = .ok (.aload_n 0, 1) := dk_42 (dk_at dksX9_init_0 15 rfl rfl)
theorem dX9_init_16 : decode cX9_init 16 = .ok (.iconst (-1), 1) := dk_2 (dk_at dksX9_init_0 16 rfl rfl)
theorem dX9_init_17 : decode cX9_init 17 = .ok (.putfield 18, 3) := dk_181 0 18 (dk_at dksX9_init_0 17 rfl rfl)
theorem dX9_init_20 : decode cX9_init 20 = .ok (.return_, 1) := dk_177 (dk_at dksX9_init_0 20 rfl rfl)
abbrev cX9_clear : ByteArray := prog_2_method_3_code
def yX9_clear : MethodName := ⟨RX9, "clear", "()V"⟩
def dkwX9_clear_0 : List UInt8 := [42, 180, 0, 12, 182, 0, 22, 42, 2, 181, 0, 18, 177]
abbrev dktX9_clear_0 : List UInt8 := dkwX9_clear_0 ++ []
theorem dksX9_clear_0 : cX9_clear.data.toList.drop 0 = dktX9_clear_0 := by decide +kernel
theorem dX9_clear_0 : decode cX9_clear 0 = .ok (.aload_n 0, 1) := dk_42 (dk_at dksX9_clear_0 0 rfl rfl)
theorem dX9_clear_1 : decode cX9_clear 1 = .ok (.getfield 12, 3) := dk_180 0 12 (dk_at dksX9_clear_0 1 rfl rfl)
theorem dX9_clear_4 : decode cX9_clear 4 = .ok (.invokevirtual 22, 3) := dk_182 0 22 (dk_at dksX9_clear_0 4 rfl rfl)
theorem dX9_clear_7 : decode cX9_clear 7 = .ok (.aload_n 0, 1) := dk_42 (dk_at dksX9_clear_0 7 rfl rfl)
theorem dX9_clear_8 : decode cX9_clear 8 = .ok (.iconst (-1), 1) := dk_2 (dk_at dksX9_clear_0 8 rfl rfl)
theorem dX9_clear_9 : decode cX9_clear 9 = .ok (.putfield 18, 3) := dk_181 0 18 (dk_at dksX9_clear_0 9 rfl rfl)
theorem dX9_clear_12 : decode cX9_clear 12 = .ok (.return_, 1) := dk_177 (dk_at dksX9_clear_0 12 rfl rfl)
abbrev cX9_isThere : ByteArray := prog_2_method_2_code
def yX9_isThere : MethodName := ⟨RX9, "isThere", "()Z"⟩
def dkwX9_isThere_0 : List UInt8 := [42, 180, 0, 18, 155, 0, 7, 4, 167, 0, 4, 3, 172]
abbrev dktX9_isThere_0 : List UInt8 := dkwX9_isThere_0 ++ []
theorem dksX9_isThere_0 : cX9_isThere.data.toList.drop 0 = dktX9_isThere_0 := by decide +kernel
theorem dX9_isThere_0 : decode cX9_isThere 0 = .ok (.aload_n 0, 1) := dk_42 (dk_at dksX9_isThere_0 0 rfl rfl)
theorem dX9_isThere_1 : decode cX9_isThere 1 = .ok (.getfield 18, 3) := dk_180 0 18 (dk_at dksX9_isThere_0 1 rfl rfl)
theorem dX9_isThere_4 : decode cX9_isThere 4 = .ok (.ifCond .lt 7, 3) := dk_155 0 7 (dk_at dksX9_isThere_0 4 rfl rfl)
theorem dX9_isThere_7 : decode cX9_isThere 7 = .ok (.iconst 1, 1) := dk_4 (dk_at dksX9_isThere_0 7 rfl rfl)
theorem dX9_isThere_8 : decode cX9_isThere 8 = .ok (.goto 4, 3) := dk_167 0 4 (dk_at dksX9_isThere_0 8 rfl rfl)
theorem dX9_isThere_11 : decode cX9_isThere 11 = .ok (.iconst 0, 1) := dk_3 (dk_at dksX9_isThere_0 11 rfl rfl)
theorem dX9_isThere_12 : decode cX9_isThere 12 = .ok (.ireturn, 1) := dk_172 (dk_at dksX9_isThere_0 12 rfl rfl)
theorem q92 : (Jvm.Cond.initialized "LeastSolutions$Found") ∈ lw_all := lw_g (lw_at lw_m1 18 rfl) rfl
theorem q445 : (Jvm.Cond.instantiable "LeastSolutions$Found" (2 : Nat)) ∈ lw_all := lw_g (lw_at lw_m2 131 rfl) rfl
theorem q447 : (Jvm.Cond.instanceMethod ({ cls := "LeastSolutions$Found", name := "<init>", desc := "()V" } : Jvm.MethodName)) ∈ lw_all := lw_g (lw_at lw_m2 133 rfl) rfl
theorem q448 : (Jvm.Cond.code ({ cls := "LeastSolutions$Found", name := "<init>", desc := "()V" } : Jvm.MethodName) prog_2_method_1_code (1 : Nat) (Option.none : Option Jvm.ClassFile.FieldType)) ∈ lw_all := lw_g (lw_at lw_m2 134 rfl) rfl
theorem q449 : (Jvm.Cond.methodLink "LeastSolutions$Found" (3 : Nat) ({ cls := "java/lang/Object", name := "<init>", desc := "()V" } : Jvm.MethodName)) ∈ lw_all := lw_g (lw_at lw_m2 135 rfl) rfl
theorem q450 : (Jvm.Cond.classLink "LeastSolutions$Found" (9 : Nat) "LeastSolutions$Shelf") ∈ lw_all := lw_g (lw_at lw_m2 136 rfl) rfl
theorem q451 : (Jvm.Cond.methodLinkNest "LeastSolutions$Found" (11 : Nat) ({ cls := "LeastSolutions$Shelf", name := "<init>", desc := "()V" } : Jvm.MethodName) "LeastSolutions") ∈ lw_tbl := lw_at lw_m2 137 rfl
theorem q452 : (Jvm.Cond.fieldLink "LeastSolutions$Found" (12 : Nat) "LeastSolutions$Found" "vectors" "LLeastSolutions$Shelf;") ∈ lw_all := lw_g (lw_at lw_m2 138 rfl) rfl
theorem q454 : (Jvm.Cond.fieldLink "LeastSolutions$Found" (18 : Nat) "LeastSolutions$Found" "bound" "I") ∈ lw_all := lw_g (lw_at lw_m2 140 rfl) rfl
theorem q456 : (Jvm.Cond.laysFinal "LeastSolutions$Found" "LeastSolutions$Found" "vectors" "LLeastSolutions$Shelf;") ∈ lw_all := lw_g (lw_at lw_m2 142 rfl) rfl
theorem q457 : (Jvm.Cond.soleField "LeastSolutions$Found" "vectors") ∈ lw_all := lw_g (lw_at lw_m2 143 rfl) rfl
theorem q458 : (Jvm.Cond.lays "LeastSolutions$Found" "LeastSolutions$Found" "bound" "I") ∈ lw_all := lw_g (lw_at lw_m2 144 rfl) rfl
theorem q459 : (Jvm.Cond.soleField "LeastSolutions$Found" "bound") ∈ lw_all := lw_g (lw_at lw_m2 145 rfl) rfl
theorem q460 : (Jvm.Cond.superclass "LeastSolutions$Found" "java/lang/Object") ∈ lw_all := lw_g (lw_at lw_m2 146 rfl) rfl
theorem q668 : (Jvm.Cond.instanceMethod ({ cls := "LeastSolutions$Found", name := "clear", desc := "()V" } : Jvm.MethodName)) ∈ lw_all := lw_g (lw_at lw_m3 114 rfl) rfl
theorem q669 : (Jvm.Cond.selects "LeastSolutions$Found" ({ cls := "LeastSolutions$Found", name := "clear", desc := "()V" } : Jvm.MethodName) ({ cls := "LeastSolutions$Found", name := "clear", desc := "()V" } : Jvm.MethodName)) ∈ lw_all := lw_g (lw_at lw_m3 115 rfl) rfl
theorem q670 : (Jvm.Cond.code ({ cls := "LeastSolutions$Found", name := "clear", desc := "()V" } : Jvm.MethodName) prog_2_method_3_code (1 : Nat) (Option.none : Option Jvm.ClassFile.FieldType)) ∈ lw_all := lw_g (lw_at lw_m3 116 rfl) rfl
theorem q671 : (Jvm.Cond.methodLink "LeastSolutions$Found" (22 : Nat) ({ cls := "LeastSolutions$Shelf", name := "clear", desc := "()V" } : Jvm.MethodName)) ∈ lw_all := lw_g (lw_at lw_m3 117 rfl) rfl
theorem q727 : (Jvm.Cond.selects "LeastSolutions$Found" ({ cls := "java/lang/Object", name := "getClass", desc := "()Ljava/lang/Class;" } : Jvm.MethodName) ({ cls := "java/lang/Object", name := "getClass", desc := "()Ljava/lang/Class;" } : Jvm.MethodName)) ∈ lw_all := lw_g (lw_at lw_m3 173 rfl) rfl
theorem q782 : (Jvm.Cond.instanceMethod ({ cls := "LeastSolutions$Found", name := "isThere", desc := "()Z" } : Jvm.MethodName)) ∈ lw_all := lw_g (lw_at lw_m3 228 rfl) rfl
theorem q783 : (Jvm.Cond.selects "LeastSolutions$Found" ({ cls := "LeastSolutions$Found", name := "isThere", desc := "()Z" } : Jvm.MethodName) ({ cls := "LeastSolutions$Found", name := "isThere", desc := "()Z" } : Jvm.MethodName)) ∈ lw_all := lw_g (lw_at lw_m3 229 rfl) rfl
theorem q784 : (Jvm.Cond.code ({ cls := "LeastSolutions$Found", name := "isThere", desc := "()Z" } : Jvm.MethodName) prog_2_method_2_code (1 : Nat) (Option.some Jvm.ClassFile.FieldType.boolean)) ∈ lw_all := lw_g (lw_at lw_m3 230 rfl) rfl
theorem q1707 : (Jvm.Cond.castable "LeastSolutions$Found" "java/lang/Object") ∈ lw_tbl := lw_at lw_m7 193 rfl
theorem in_X9 : ∀ w ∈ wsX90, w ∈ lw_all := lw_in wsX90 [456, 458] (by decide +kernel) (by decide +kernel)
/-! LeastSolutions$Vector -/
set_option maxRecDepth 100000
def RX11 : String := "LeastSolutions$Vector"
def TX11 : u_T := fun k => match k with
  | 0 => ("LeastSolutions$Vector", "numbers", "[B", true)
  | _ => ("LeastSolutions$Vector", "size", "I", false)
def tyX11 : Nat → FieldType := fun k => match k with
  | 0 => .array .byte
  | _ => .int
abbrev wsX110 : List Cond := u_ws RX11 TX11 2
theorem nmX11 : ∀ a, a < 2 → ∀ b, b < 2 → a ≠ b → (TX11 a).2.1 ≠ (TX11 b).2.1 := by decide +kernel
theorem tyX11_ok : ∀ k, k < 2 → parseFieldDescriptor (TX11 k).2.2.1 = some (tyX11 k) := by decide +kernel
abbrev cX11_isIn : ByteArray := prog_11_method_5_code
def yX11_isIn : MethodName := ⟨RX11, "isIn", "([I)Z"⟩
def dkwX11_isIn_1 : List UInt8 := [163, 0, 7, 4, 167, 0, 4, 3, 61, 132, 3, 1, 167, 255, 225, 28, 172]
abbrev dktX11_isIn_1 : List UInt8 := dkwX11_isIn_1 ++ []
def dkwX11_isIn_0 : List UInt8 := [4, 61, 3, 62, 29, 16, 6, 162, 0, 31, 28, 153, 0, 27, 42, 180, 0, 9, 29, 51, 43, 29, 46]
abbrev dktX11_isIn_0 : List UInt8 := dkwX11_isIn_0 ++ dktX11_isIn_1
theorem dksX11_isIn_0 : cX11_isIn.data.toList.drop 0 = dktX11_isIn_0 := by decide +kernel
theorem dksX11_isIn_1 : cX11_isIn.data.toList.drop 23 = dktX11_isIn_1 := dk_seg dksX11_isIn_0 23 rfl rfl
theorem dX11_isIn_0 : decode cX11_isIn 0 = .ok (.iconst 1, 1) := dk_4 (dk_at dksX11_isIn_0 0 rfl rfl)
theorem dX11_isIn_1 : decode cX11_isIn 1 = .ok (.istore_n 2, 1) := dk_61 (dk_at dksX11_isIn_0 1 rfl rfl)
theorem dX11_isIn_2 : decode cX11_isIn 2 = .ok (.iconst 0, 1) := dk_3 (dk_at dksX11_isIn_0 2 rfl rfl)
theorem dX11_isIn_3 : decode cX11_isIn 3 = .ok (.istore_n 3, 1) := dk_62 (dk_at dksX11_isIn_0 3 rfl rfl)
theorem dX11_isIn_4 : decode cX11_isIn 4 = .ok (.iload_n 3, 1) := dk_29 (dk_at dksX11_isIn_0 4 rfl rfl)
theorem dX11_isIn_5 : decode cX11_isIn 5 = .ok (.bipush 6, 2) := dk_16 6 (dk_at dksX11_isIn_0 5 rfl rfl)
theorem dX11_isIn_7 : decode cX11_isIn 7 = .ok (.if_icmp .ge 31, 3) := dk_162 0 31 (dk_at dksX11_isIn_0 7 rfl rfl)
theorem dX11_isIn_10 : decode cX11_isIn 10 = .ok (.iload_n 2, 1) := dk_28 (dk_at dksX11_isIn_0 10 rfl rfl)
theorem dX11_isIn_11 : decode cX11_isIn 11 = .ok (.ifCond .eq 27, 3) := dk_153 0 27 (dk_at dksX11_isIn_0 11 rfl rfl)
theorem dX11_isIn_14 : decode cX11_isIn 14 = .ok (.aload_n 0, 1) := dk_42 (dk_at dksX11_isIn_0 14 rfl rfl)
theorem dX11_isIn_15 : decode cX11_isIn 15 = .ok (.getfield 9, 3) := dk_180 0 9 (dk_at dksX11_isIn_0 15 rfl rfl)
theorem dX11_isIn_18 : decode cX11_isIn 18 = .ok (.iload_n 3, 1) := dk_29 (dk_at dksX11_isIn_0 18 rfl rfl)
theorem dX11_isIn_19 : decode cX11_isIn 19 = .ok (.baload, 1) := dk_51 (dk_at dksX11_isIn_0 19 rfl rfl)
theorem dX11_isIn_20 : decode cX11_isIn 20 = .ok (.aload_n 1, 1) := dk_43 (dk_at dksX11_isIn_0 20 rfl rfl)
theorem dX11_isIn_21 : decode cX11_isIn 21 = .ok (.iload_n 3, 1) := dk_29 (dk_at dksX11_isIn_0 21 rfl rfl)
theorem dX11_isIn_22 : decode cX11_isIn 22 = .ok (.iaload, 1) := dk_46 (dk_at dksX11_isIn_0 22 rfl rfl)
theorem dX11_isIn_23 : decode cX11_isIn 23 = .ok (.if_icmp .gt 7, 3) := dk_163 0 7 (dk_at dksX11_isIn_1 0 rfl rfl)
theorem dX11_isIn_26 : decode cX11_isIn 26 = .ok (.iconst 1, 1) := dk_4 (dk_at dksX11_isIn_1 3 rfl rfl)
theorem dX11_isIn_27 : decode cX11_isIn 27 = .ok (.goto 4, 3) := dk_167 0 4 (dk_at dksX11_isIn_1 4 rfl rfl)
theorem dX11_isIn_30 : decode cX11_isIn 30 = .ok (.iconst 0, 1) := dk_3 (dk_at dksX11_isIn_1 7 rfl rfl)
theorem dX11_isIn_31 : decode cX11_isIn 31 = .ok (.istore_n 2, 1) := dk_61 (dk_at dksX11_isIn_1 8 rfl rfl)
theorem dX11_isIn_32 : decode cX11_isIn 32 = .ok (.iinc 3 1, 3) := dk_132 3 1 (dk_at dksX11_isIn_1 9 rfl rfl)
theorem dX11_isIn_35 : decode cX11_isIn 35 = .ok (.goto (-31), 3) := dk_167 255 225 (dk_at dksX11_isIn_1 12 rfl rfl)
theorem dX11_isIn_38 : decode cX11_isIn 38 = .ok (.iload_n 2, 1) := dk_28 (dk_at dksX11_isIn_1 15 rfl rfl)
theorem dX11_isIn_39 : decode cX11_isIn 39 = .ok (.ireturn, 1) := dk_172 (dk_at dksX11_isIn_1 16 rfl rfl)
abbrev cX11_init : ByteArray := prog_11_method_1_code
def yX11_init : MethodName := ⟨RX11, "<init>", "()V"⟩
def dkwX11_init_0 : List UInt8 := [42, 183, 0, 3, 42, 16, 6, 188, 8, 181, 0, 9, 177]
abbrev dktX11_init_0 : List UInt8 := dkwX11_init_0 ++ []
theorem dksX11_init_0 : cX11_init.data.toList.drop 0 = dktX11_init_0 := by decide +kernel
theorem dX11_init_0 : decode cX11_init 0 = .ok (.aload_n 0, 1) := dk_42 (dk_at dksX11_init_0 0 rfl rfl)
theorem dX11_init_1 : decode cX11_init 1 = .ok (.invokespecial 3, 3) := dk_183 0 3 (dk_at dksX11_init_0 1 rfl rfl)
theorem dX11_init_4 : decode cX11_init 4 = .ok (.aload_n 0, 1) := dk_42 (dk_at dksX11_init_0 4 rfl rfl)
theorem dX11_init_5 : decode cX11_init 5 = .ok (.bipush 6, 2) := dk_16 6 (dk_at dksX11_init_0 5 rfl rfl)
theorem dX11_init_7 : decode cX11_init 7 = .ok (.newarray .byte, 2) := dk_188_8 (dk_at dksX11_init_0 7 rfl rfl)
theorem dX11_init_9 : decode cX11_init 9 = .ok (.putfield 9, 3) := dk_181 0 9 (dk_at dksX11_init_0 9 rfl rfl)
theorem dX11_init_12 : decode cX11_init 12 = .ok (.return_, 1) := dk_177 (dk_at dksX11_init_0 12 rfl rfl)
abbrev cX11_be : ByteArray := prog_11_method_2_code
def yX11_be : MethodName := ⟨RX11, "be", "([II)V"⟩
def dkwX11_be_2 : List UInt8 := [181, 0, 15, 132, 3, 1, 167, 255, 209, 177]
abbrev dktX11_be_2 : List UInt8 := dkwX11_be_2 ++ []
def dkwX11_be_1 : List UInt8 := [160, 0, 10, 43, 29, 46, 116, 167, 0, 6, 43, 29, 46, 145, 84, 42, 89, 180, 0, 15, 43, 29, 46, 96]
abbrev dktX11_be_1 : List UInt8 := dkwX11_be_1 ++ dktX11_be_2
def dkwX11_be_0 : List UInt8 := [42, 3, 181, 0, 15, 3, 62, 29, 16, 6, 162, 0, 47, 42, 180, 0, 9, 29, 28, 29, 122, 4, 126, 4]
abbrev dktX11_be_0 : List UInt8 := dkwX11_be_0 ++ dktX11_be_1
theorem dksX11_be_0 : cX11_be.data.toList.drop 0 = dktX11_be_0 := by decide +kernel
theorem dksX11_be_1 : cX11_be.data.toList.drop 24 = dktX11_be_1 := dk_seg dksX11_be_0 24 rfl rfl
theorem dksX11_be_2 : cX11_be.data.toList.drop 48 = dktX11_be_2 := dk_seg dksX11_be_1 24 rfl rfl
theorem dX11_be_0 : decode cX11_be 0 = .ok (.aload_n 0, 1) := dk_42 (dk_at dksX11_be_0 0 rfl rfl)
theorem dX11_be_1 : decode cX11_be 1 = .ok (.iconst 0, 1) := dk_3 (dk_at dksX11_be_0 1 rfl rfl)
theorem dX11_be_2 : decode cX11_be 2 = .ok (.putfield 15, 3) := dk_181 0 15 (dk_at dksX11_be_0 2 rfl rfl)
theorem dX11_be_5 : decode cX11_be 5 = .ok (.iconst 0, 1) := dk_3 (dk_at dksX11_be_0 5 rfl rfl)
theorem dX11_be_6 : decode cX11_be 6 = .ok (.istore_n 3, 1) := dk_62 (dk_at dksX11_be_0 6 rfl rfl)
theorem dX11_be_7 : decode cX11_be 7 = .ok (.iload_n 3, 1) := dk_29 (dk_at dksX11_be_0 7 rfl rfl)
theorem dX11_be_8 : decode cX11_be 8 = .ok (.bipush 6, 2) := dk_16 6 (dk_at dksX11_be_0 8 rfl rfl)
theorem dX11_be_10 : decode cX11_be 10 = .ok (.if_icmp .ge 47, 3) := dk_162 0 47 (dk_at dksX11_be_0 10 rfl rfl)
theorem dX11_be_13 : decode cX11_be 13 = .ok (.aload_n 0, 1) := dk_42 (dk_at dksX11_be_0 13 rfl rfl)
theorem dX11_be_14 : decode cX11_be 14 = .ok (.getfield 9, 3) := dk_180 0 9 (dk_at dksX11_be_0 14 rfl rfl)
theorem dX11_be_17 : decode cX11_be 17 = .ok (.iload_n 3, 1) := dk_29 (dk_at dksX11_be_0 17 rfl rfl)
theorem dX11_be_18 : decode cX11_be 18 = .ok (.iload_n 2, 1) := dk_28 (dk_at dksX11_be_0 18 rfl rfl)
theorem dX11_be_19 : decode cX11_be 19 = .ok (.iload_n 3, 1) := dk_29 (dk_at dksX11_be_0 19 rfl rfl)
theorem dX11_be_20 : decode cX11_be 20 = .ok (.ishr, 1) := dk_122 (dk_at dksX11_be_0 20 rfl rfl)
theorem dX11_be_21 : decode cX11_be 21 = .ok (.iconst 1, 1) := dk_4 (dk_at dksX11_be_0 21 rfl rfl)
theorem dX11_be_22 : decode cX11_be 22 = .ok (.iand, 1) := dk_126 (dk_at dksX11_be_0 22 rfl rfl)
theorem dX11_be_23 : decode cX11_be 23 = .ok (.iconst 1, 1) := dk_4 (dk_at dksX11_be_0 23 rfl rfl)
theorem dX11_be_24 : decode cX11_be 24 = .ok (.if_icmp .ne 10, 3) := dk_160 0 10 (dk_at dksX11_be_1 0 rfl rfl)
theorem dX11_be_27 : decode cX11_be 27 = .ok (.aload_n 1, 1) := dk_43 (dk_at dksX11_be_1 3 rfl rfl)
theorem dX11_be_28 : decode cX11_be 28 = .ok (.iload_n 3, 1) := dk_29 (dk_at dksX11_be_1 4 rfl rfl)
theorem dX11_be_29 : decode cX11_be 29 = .ok (.iaload, 1) := dk_46 (dk_at dksX11_be_1 5 rfl rfl)
theorem dX11_be_30 : decode cX11_be 30 = .ok (.ineg, 1) := dk_116 (dk_at dksX11_be_1 6 rfl rfl)
theorem dX11_be_31 : decode cX11_be 31 = .ok (.goto 6, 3) := dk_167 0 6 (dk_at dksX11_be_1 7 rfl rfl)
theorem dX11_be_34 : decode cX11_be 34 = .ok (.aload_n 1, 1) := dk_43 (dk_at dksX11_be_1 10 rfl rfl)
theorem dX11_be_35 : decode cX11_be 35 = .ok (.iload_n 3, 1) := dk_29 (dk_at dksX11_be_1 11 rfl rfl)
theorem dX11_be_36 : decode cX11_be 36 = .ok (.iaload, 1) := dk_46 (dk_at dksX11_be_1 12 rfl rfl)
theorem dX11_be_37 : decode cX11_be 37 = .ok (.i2b, 1) := dk_145 (dk_at dksX11_be_1 13 rfl rfl)
theorem dX11_be_38 : decode cX11_be 38 = .ok (.bastore, 1) := dk_84 (dk_at dksX11_be_1 14 rfl rfl)
theorem dX11_be_39 : decode cX11_be 39 = .ok (.aload_n 0, 1) := dk_42 (dk_at dksX11_be_1 15 rfl rfl)
theorem dX11_be_40 : decode cX11_be 40 = .ok (.dup, 1) := dk_89 (dk_at dksX11_be_1 16 rfl rfl)
theorem dX11_be_41 : decode cX11_be 41 = .ok (.getfield 15, 3) := dk_180 0 15 (dk_at dksX11_be_1 17 rfl rfl)
theorem dX11_be_44 : decode cX11_be 44 = .ok (.aload_n 1, 1) := dk_43 (dk_at dksX11_be_1 20 rfl rfl)
theorem dX11_be_45 : decode cX11_be 45 = .ok (.iload_n 3, 1) := dk_29 (dk_at dksX11_be_1 21 rfl rfl)
theorem dX11_be_46 : decode cX11_be 46 = .ok (.iaload, 1) := dk_46 (dk_at dksX11_be_1 22 rfl rfl)
theorem dX11_be_47 : decode cX11_be 47 = .ok (.iadd, 1) := dk_96 (dk_at dksX11_be_1 23 rfl rfl)
theorem dX11_be_48 : decode cX11_be 48 = .ok (.putfield 15, 3) := dk_181 0 15 (dk_at dksX11_be_2 0 rfl rfl)
theorem dX11_be_51 : decode cX11_be 51 = .ok (.iinc 3 1, 3) := dk_132 3 1 (dk_at dksX11_be_2 3 rfl rfl)
theorem dX11_be_54 : decode cX11_be 54 = .ok (.goto (-47), 3) := dk_167 255 209 (dk_at dksX11_be_2 6 rfl rfl)
theorem dX11_be_57 : decode cX11_be 57 = .ok (.return_, 1) := dk_177 (dk_at dksX11_be_2 9 rfl rfl)
abbrev cX11_against : ByteArray := prog_11_method_6_code
def yX11_against : MethodName := ⟨RX11, "against", "(Ljava/lang/Object;)I"⟩
def dkwX11_against_0 : List UInt8 := [42, 43, 192, 0, 10, 182, 0, 19, 172]
abbrev dktX11_against_0 : List UInt8 := dkwX11_against_0 ++ []
theorem dksX11_against_0 : cX11_against.data.toList.drop 0 = dktX11_against_0 := by decide +kernel
theorem dX11_against_0 : decode cX11_against 0 = .ok (.aload_n 0, 1) := dk_42 (dk_at dksX11_against_0 0 rfl rfl)
theorem dX11_against_1 : decode cX11_against 1 = .ok (.aload_n 1, 1) := dk_43 (dk_at dksX11_against_0 1 rfl rfl)
theorem dX11_against_2 : decode cX11_against 2 = .ok (.checkcast 10, 3) := dk_192 0 10 (dk_at dksX11_against_0 2 rfl rfl)
theorem dX11_against_5 : decode cX11_against 5 = .ok (.invokevirtual 19, 3) := dk_182 0 19 (dk_at dksX11_against_0 5 rfl rfl)
theorem dX11_against_8 : decode cX11_against 8 = .ok (.ireturn, 1) := dk_172 (dk_at dksX11_against_0 8 rfl rfl)
abbrev cX11_against_2 : ByteArray := prog_11_method_4_code
def yX11_against_2 : MethodName := ⟨RX11, "against", "(LLeastSolutions$Vector;)I"⟩
def dkwX11_against_2_3 : List UInt8 := [51, 100, 172]
abbrev dktX11_against_2_3 : List UInt8 := dkwX11_against_2_3 ++ []
def dkwX11_against_2_2 : List UInt8 := [167, 255, 232, 28, 16, 6, 160, 0, 7, 3, 167, 0, 16, 42, 180, 0, 9, 28, 51, 43, 180, 0, 9, 28]
abbrev dktX11_against_2_2 : List UInt8 := dkwX11_against_2_2 ++ dktX11_against_2_3
def dkwX11_against_2_1 : List UInt8 := [16, 6, 162, 0, 24, 42, 180, 0, 9, 28, 51, 43, 180, 0, 9, 28, 51, 160, 0, 9, 132, 2, 1]
abbrev dktX11_against_2_1 : List UInt8 := dkwX11_against_2_1 ++ dktX11_against_2_2
def dkwX11_against_2_0 : List UInt8 := [42, 180, 0, 15, 43, 180, 0, 15, 159, 0, 13, 42, 180, 0, 15, 43, 180, 0, 15, 100, 172, 3, 61, 28]
abbrev dktX11_against_2_0 : List UInt8 := dkwX11_against_2_0 ++ dktX11_against_2_1
theorem dksX11_against_2_0 : cX11_against_2.data.toList.drop 0 = dktX11_against_2_0 := by decide +kernel
theorem dksX11_against_2_1 : cX11_against_2.data.toList.drop 24 = dktX11_against_2_1 := dk_seg dksX11_against_2_0 24 rfl rfl
theorem dksX11_against_2_2 : cX11_against_2.data.toList.drop 47 = dktX11_against_2_2 := dk_seg dksX11_against_2_1 23 rfl rfl
theorem dksX11_against_2_3 : cX11_against_2.data.toList.drop 71 = dktX11_against_2_3 := dk_seg dksX11_against_2_2 24 rfl rfl
theorem dX11_against_2_0 : decode cX11_against_2 0 = .ok (.aload_n 0, 1) := dk_42 (dk_at dksX11_against_2_0 0 rfl rfl)
theorem dX11_against_2_1 : decode cX11_against_2 1 = .ok (.getfield 15, 3) := dk_180 0 15 (dk_at dksX11_against_2_0 1 rfl rfl)
theorem dX11_against_2_4 : decode cX11_against_2 4 = .ok (.aload_n 1, 1) := dk_43 (dk_at dksX11_against_2_0 4 rfl rfl)
theorem dX11_against_2_5 : decode cX11_against_2 5 = .ok (.getfield 15, 3) := dk_180 0 15 (dk_at dksX11_against_2_0 5 rfl rfl)
theorem dX11_against_2_8 : decode cX11_against_2 8 = .ok (.if_icmp .eq 13, 3) := dk_159 0 13 (dk_at dksX11_against_2_0 8 rfl rfl)
theorem dX11_against_2_11 : decode cX11_against_2 11 = .ok (.aload_n 0, 1) := dk_42 (dk_at dksX11_against_2_0 11 rfl rfl)
theorem dX11_against_2_12 : decode cX11_against_2 12 = .ok (.getfield 15, 3) := dk_180 0 15 (dk_at dksX11_against_2_0 12 rfl rfl)
theorem dX11_against_2_15 : decode cX11_against_2 15 = .ok (.aload_n 1, 1) := dk_43 (dk_at dksX11_against_2_0 15 rfl rfl)
theorem dX11_against_2_16 : decode cX11_against_2 16 = .ok (.getfield 15, 3) := dk_180 0 15 (dk_at dksX11_against_2_0 16 rfl rfl)
theorem dX11_against_2_19 : decode cX11_against_2 19 = .ok (.isub, 1) := dk_100 (dk_at dksX11_against_2_0 19 rfl rfl)
theorem dX11_against_2_20 : decode cX11_against_2 20 = .ok (.ireturn, 1) := dk_172 (dk_at dksX11_against_2_0 20 rfl rfl)
theorem dX11_against_2_21 : decode cX11_against_2 21 = .ok (.iconst 0, 1) := dk_3 (dk_at dksX11_against_2_0 21 rfl rfl)
theorem dX11_against_2_22 : decode cX11_against_2 22 = .ok (.istore_n 2, 1) := dk_61 (dk_at dksX11_against_2_0 22 rfl rfl)
theorem dX11_against_2_23 : decode cX11_against_2 23 = .ok (.iload_n 2, 1) := dk_28 (dk_at dksX11_against_2_0 23 rfl rfl)
theorem dX11_against_2_24 : decode cX11_against_2 24 = .ok (.bipush 6, 2) := dk_16 6 (dk_at dksX11_against_2_1 0 rfl rfl)
theorem dX11_against_2_26 : decode cX11_against_2 26 = .ok (.if_icmp .ge 24, 3) := dk_162 0 24 (dk_at dksX11_against_2_1 2 rfl rfl)
theorem dX11_against_2_29 : decode cX11_against_2 29 = .ok (.aload_n 0, 1) := dk_42 (dk_at dksX11_against_2_1 5 rfl rfl)
theorem dX11_against_2_30 : decode cX11_against_2 30 = .ok (.getfield 9, 3) := dk_180 0 9 (dk_at dksX11_against_2_1 6 rfl rfl)
theorem dX11_against_2_33 : decode cX11_against_2 33 = .ok (.iload_n 2, 1) := dk_28 (dk_at dksX11_against_2_1 9 rfl rfl)
theorem dX11_against_2_34 : decode cX11_against_2 34 = .ok (.baload, 1) := dk_51 (dk_at dksX11_against_2_1 10 rfl rfl)
theorem dX11_against_2_35 : decode cX11_against_2 35 = .ok (.aload_n 1, 1) := dk_43 (dk_at dksX11_against_2_1 11 rfl rfl)
theorem dX11_against_2_36 : decode cX11_against_2 36 = .ok (.getfield 9, 3) := dk_180 0 9 (dk_at dksX11_against_2_1 12 rfl rfl)
theorem dX11_against_2_39 : decode cX11_against_2 39 = .ok (.iload_n 2, 1) := dk_28 (dk_at dksX11_against_2_1 15 rfl rfl)
theorem dX11_against_2_40 : decode cX11_against_2 40 = .ok (.baload, 1) := dk_51 (dk_at dksX11_against_2_1 16 rfl rfl)
theorem dX11_against_2_41 : decode cX11_against_2 41 = .ok (.if_icmp .ne 9, 3) := dk_160 0 9 (dk_at dksX11_against_2_1 17 rfl rfl)
theorem dX11_against_2_44 : decode cX11_against_2 44 = .ok (.iinc 2 1, 3) := dk_132 2 1 (dk_at dksX11_against_2_1 20 rfl rfl)
theorem dX11_against_2_47 : decode cX11_against_2 47 = .ok (.goto (-24), 3) := dk_167 255 232 (dk_at dksX11_against_2_2 0 rfl rfl)
theorem dX11_against_2_50 : decode cX11_against_2 50 = .ok (.iload_n 2, 1) := dk_28 (dk_at dksX11_against_2_2 3 rfl rfl)
theorem dX11_against_2_51 : decode cX11_against_2 51 = .ok (.bipush 6, 2) := dk_16 6 (dk_at dksX11_against_2_2 4 rfl rfl)
theorem dX11_against_2_53 : decode cX11_against_2 53 = .ok (.if_icmp .ne 7, 3) := dk_160 0 7 (dk_at dksX11_against_2_2 6 rfl rfl)
theorem dX11_against_2_56 : decode cX11_against_2 56 = .ok (.iconst 0, 1) := dk_3 (dk_at dksX11_against_2_2 9 rfl rfl)
theorem dX11_against_2_57 : decode cX11_against_2 57 = .ok (.goto 16, 3) := dk_167 0 16 (dk_at dksX11_against_2_2 10 rfl rfl)
theorem dX11_against_2_60 : decode cX11_against_2 60 = .ok (.aload_n 0, 1) := dk_42 (dk_at dksX11_against_2_2 13 rfl rfl)
theorem dX11_against_2_61 : decode cX11_against_2 61 = .ok (.getfield 9, 3) := dk_180 0 9 (dk_at dksX11_against_2_2 14 rfl rfl)
theorem dX11_against_2_64 : decode cX11_against_2 64 = .ok (.iload_n 2, 1) := dk_28 (dk_at dksX11_against_2_2 17 rfl rfl)
theorem dX11_against_2_65 : decode cX11_against_2 65 = .ok (.baload, 1) := dk_51 (dk_at dksX11_against_2_2 18 rfl rfl)
theorem dX11_against_2_66 : decode cX11_against_2 66 = .ok (.aload_n 1, 1) := dk_43 (dk_at dksX11_against_2_2 19 rfl rfl)
theorem dX11_against_2_67 : decode cX11_against_2 67 = .ok (.getfield 9, 3) := dk_180 0 9 (dk_at dksX11_against_2_2 20 rfl rfl)
theorem dX11_against_2_70 : decode cX11_against_2 70 = .ok (.iload_n 2, 1) := dk_28 (dk_at dksX11_against_2_2 23 rfl rfl)
theorem dX11_against_2_71 : decode cX11_against_2 71 = .ok (.baload, 1) := dk_51 (dk_at dksX11_against_2_3 0 rfl rfl)
theorem dX11_against_2_72 : decode cX11_against_2 72 = .ok (.isub, 1) := dk_100 (dk_at dksX11_against_2_3 1 rfl rfl)
theorem dX11_against_2_73 : decode cX11_against_2 73 = .ok (.ireturn, 1) := dk_172 (dk_at dksX11_against_2_3 2 rfl rfl)
abbrev cX11_show : ByteArray := prog_11_method_3_code
def yX11_show : MethodName := ⟨RX11, "show", "([I)V"⟩
def dkwX11_show_0 : List UInt8 := [3, 61, 28, 16, 6, 162, 0, 18, 43, 28, 42, 180, 0, 9, 28, 51, 79, 132, 2, 1, 167, 255, 238, 177]
abbrev dktX11_show_0 : List UInt8 := dkwX11_show_0 ++ []
theorem dksX11_show_0 : cX11_show.data.toList.drop 0 = dktX11_show_0 := by decide +kernel
theorem dX11_show_0 : decode cX11_show 0 = .ok (.iconst 0, 1) := dk_3 (dk_at dksX11_show_0 0 rfl rfl)
theorem dX11_show_1 : decode cX11_show 1 = .ok (.istore_n 2, 1) := dk_61 (dk_at dksX11_show_0 1 rfl rfl)
theorem dX11_show_2 : decode cX11_show 2 = .ok (.iload_n 2, 1) := dk_28 (dk_at dksX11_show_0 2 rfl rfl)
theorem dX11_show_3 : decode cX11_show 3 = .ok (.bipush 6, 2) := dk_16 6 (dk_at dksX11_show_0 3 rfl rfl)
theorem dX11_show_5 : decode cX11_show 5 = .ok (.if_icmp .ge 18, 3) := dk_162 0 18 (dk_at dksX11_show_0 5 rfl rfl)
theorem dX11_show_8 : decode cX11_show 8 = .ok (.aload_n 1, 1) := dk_43 (dk_at dksX11_show_0 8 rfl rfl)
theorem dX11_show_9 : decode cX11_show 9 = .ok (.iload_n 2, 1) := dk_28 (dk_at dksX11_show_0 9 rfl rfl)
theorem dX11_show_10 : decode cX11_show 10 = .ok (.aload_n 0, 1) := dk_42 (dk_at dksX11_show_0 10 rfl rfl)
theorem dX11_show_11 : decode cX11_show 11 = .ok (.getfield 9, 3) := dk_180 0 9 (dk_at dksX11_show_0 11 rfl rfl)
theorem dX11_show_14 : decode cX11_show 14 = .ok (.iload_n 2, 1) := dk_28 (dk_at dksX11_show_0 14 rfl rfl)
theorem dX11_show_15 : decode cX11_show 15 = .ok (.baload, 1) := dk_51 (dk_at dksX11_show_0 15 rfl rfl)
theorem dX11_show_16 : decode cX11_show 16 = .ok (.iastore, 1) := dk_79 (dk_at dksX11_show_0 16 rfl rfl)
theorem dX11_show_17 : decode cX11_show 17 = .ok (.iinc 2 1, 3) := dk_132 2 1 (dk_at dksX11_show_0 17 rfl rfl)
theorem dX11_show_20 : decode cX11_show 20 = .ok (.goto (-18), 3) := dk_167 255 238 (dk_at dksX11_show_0 20 rfl rfl)
theorem dX11_show_23 : decode cX11_show 23 = .ok (.return_, 1) := dk_177 (dk_at dksX11_show_0 23 rfl rfl)
theorem q104 : (Jvm.Cond.initialized "LeastSolutions$Vector") ∈ lw_all := lw_g (lw_at lw_m1 30 rfl) rfl
theorem q735 : (Jvm.Cond.selects "LeastSolutions$Vector" ({ cls := "java/lang/Object", name := "getClass", desc := "()Ljava/lang/Class;" } : Jvm.MethodName) ({ cls := "java/lang/Object", name := "getClass", desc := "()Ljava/lang/Class;" } : Jvm.MethodName)) ∈ lw_all := lw_g (lw_at lw_m3 181 rfl) rfl
theorem q815 : (Jvm.Cond.instanceMethod ({ cls := "LeastSolutions$Vector", name := "isIn", desc := "([I)Z" } : Jvm.MethodName)) ∈ lw_all := lw_g (lw_at lw_m4 21 rfl) rfl
theorem q816 : (Jvm.Cond.selects "LeastSolutions$Vector" ({ cls := "LeastSolutions$Vector", name := "isIn", desc := "([I)Z" } : Jvm.MethodName) ({ cls := "LeastSolutions$Vector", name := "isIn", desc := "([I)Z" } : Jvm.MethodName)) ∈ lw_all := lw_g (lw_at lw_m4 22 rfl) rfl
theorem q817 : (Jvm.Cond.code ({ cls := "LeastSolutions$Vector", name := "isIn", desc := "([I)Z" } : Jvm.MethodName) prog_11_method_5_code (4 : Nat) (Option.some Jvm.ClassFile.FieldType.boolean)) ∈ lw_all := lw_g (lw_at lw_m4 23 rfl) rfl
theorem q993 : (Jvm.Cond.instantiable "LeastSolutions$Vector" (2 : Nat)) ∈ lw_all := lw_g (lw_at lw_m4 199 rfl) rfl
theorem q995 : (Jvm.Cond.instanceMethod ({ cls := "LeastSolutions$Vector", name := "<init>", desc := "()V" } : Jvm.MethodName)) ∈ lw_all := lw_g (lw_at lw_m4 201 rfl) rfl
theorem q996 : (Jvm.Cond.code ({ cls := "LeastSolutions$Vector", name := "<init>", desc := "()V" } : Jvm.MethodName) prog_11_method_1_code (1 : Nat) (Option.none : Option Jvm.ClassFile.FieldType)) ∈ lw_all := lw_g (lw_at lw_m4 202 rfl) rfl
theorem q997 : (Jvm.Cond.methodLink "LeastSolutions$Vector" (3 : Nat) ({ cls := "java/lang/Object", name := "<init>", desc := "()V" } : Jvm.MethodName)) ∈ lw_all := lw_g (lw_at lw_m4 203 rfl) rfl
theorem q998 : (Jvm.Cond.fieldLink "LeastSolutions$Vector" (9 : Nat) "LeastSolutions$Vector" "numbers" "[B") ∈ lw_all := lw_g (lw_at lw_m4 204 rfl) rfl
theorem q1000 : (Jvm.Cond.fieldLink "LeastSolutions$Vector" (15 : Nat) "LeastSolutions$Vector" "size" "I") ∈ lw_all := lw_g (lw_at lw_m4 206 rfl) rfl
theorem q1001 : (Jvm.Cond.laysFinal "LeastSolutions$Vector" "LeastSolutions$Vector" "numbers" "[B") ∈ lw_all := lw_g (lw_at lw_m4 207 rfl) rfl
theorem q1002 : (Jvm.Cond.soleField "LeastSolutions$Vector" "numbers") ∈ lw_all := lw_g (lw_at lw_m4 208 rfl) rfl
theorem q1003 : (Jvm.Cond.lays "LeastSolutions$Vector" "LeastSolutions$Vector" "size" "I") ∈ lw_all := lw_g (lw_at lw_m4 209 rfl) rfl
theorem q1004 : (Jvm.Cond.soleField "LeastSolutions$Vector" "size") ∈ lw_all := lw_g (lw_at lw_m4 210 rfl) rfl
theorem q1005 : (Jvm.Cond.superclass "LeastSolutions$Vector" "java/lang/Object") ∈ lw_all := lw_g (lw_at lw_m4 211 rfl) rfl
theorem q1007 : (Jvm.Cond.instanceMethod ({ cls := "LeastSolutions$Vector", name := "be", desc := "([II)V" } : Jvm.MethodName)) ∈ lw_all := lw_g (lw_at lw_m4 213 rfl) rfl
theorem q1008 : (Jvm.Cond.selects "LeastSolutions$Vector" ({ cls := "LeastSolutions$Vector", name := "be", desc := "([II)V" } : Jvm.MethodName) ({ cls := "LeastSolutions$Vector", name := "be", desc := "([II)V" } : Jvm.MethodName)) ∈ lw_all := lw_g (lw_at lw_m4 214 rfl) rfl
theorem q1009 : (Jvm.Cond.code ({ cls := "LeastSolutions$Vector", name := "be", desc := "([II)V" } : Jvm.MethodName) prog_11_method_2_code (4 : Nat) (Option.none : Option Jvm.ClassFile.FieldType)) ∈ lw_all := lw_g (lw_at lw_m4 215 rfl) rfl
theorem q1018 : (Jvm.Cond.castable "LeastSolutions$Vector" "LeastSolutions$Ranked") ∈ lw_tbl := lw_at lw_m4 224 rfl
theorem q1019 : (Jvm.Cond.unhidden "LeastSolutions$Vector" "isBefore" "(Ljava/lang/Object;)Z") ∈ lw_tbl := lw_at lw_m4 225 rfl
theorem q1027 : (Jvm.Cond.selects "LeastSolutions$Vector" ({ cls := "LeastSolutions$Ranked", name := "against", desc := "(Ljava/lang/Object;)I" } : Jvm.MethodName) ({ cls := "LeastSolutions$Vector", name := "against", desc := "(Ljava/lang/Object;)I" } : Jvm.MethodName)) ∈ lw_all := lw_g (lw_at lw_m4 233 rfl) rfl
theorem q1028 : (Jvm.Cond.unhidden "LeastSolutions$Vector" "against" "(Ljava/lang/Object;)I") ∈ lw_tbl := lw_at lw_m4 234 rfl
theorem q1029 : (Jvm.Cond.instanceMethod ({ cls := "LeastSolutions$Vector", name := "against", desc := "(Ljava/lang/Object;)I" } : Jvm.MethodName)) ∈ lw_all := lw_g (lw_at lw_m4 235 rfl) rfl
theorem q1030 : (Jvm.Cond.publicMethod ({ cls := "LeastSolutions$Vector", name := "against", desc := "(Ljava/lang/Object;)I" } : Jvm.MethodName)) ∈ lw_tbl := lw_at lw_m4 236 rfl
theorem q1031 : (Jvm.Cond.code ({ cls := "LeastSolutions$Vector", name := "against", desc := "(Ljava/lang/Object;)I" } : Jvm.MethodName) prog_11_method_6_code (2 : Nat) (Option.some Jvm.ClassFile.FieldType.int)) ∈ lw_all := lw_g (lw_at lw_m4 237 rfl) rfl
theorem q1032 : (Jvm.Cond.classLink "LeastSolutions$Vector" (10 : Nat) "LeastSolutions$Vector") ∈ lw_all := lw_g (lw_at lw_m4 238 rfl) rfl
theorem q1033 : (Jvm.Cond.methodLink "LeastSolutions$Vector" (19 : Nat) ({ cls := "LeastSolutions$Vector", name := "against", desc := "(LLeastSolutions$Vector;)I" } : Jvm.MethodName)) ∈ lw_all := lw_g (lw_at lw_m4 239 rfl) rfl
theorem q1034 : (Jvm.Cond.instanceMethod ({ cls := "LeastSolutions$Vector", name := "against", desc := "(LLeastSolutions$Vector;)I" } : Jvm.MethodName)) ∈ lw_all := lw_g (lw_at lw_m5 0 rfl) rfl
theorem q1035 : (Jvm.Cond.selects "LeastSolutions$Vector" ({ cls := "LeastSolutions$Vector", name := "against", desc := "(LLeastSolutions$Vector;)I" } : Jvm.MethodName) ({ cls := "LeastSolutions$Vector", name := "against", desc := "(LLeastSolutions$Vector;)I" } : Jvm.MethodName)) ∈ lw_all := lw_g (lw_at lw_m5 1 rfl) rfl
theorem q1036 : (Jvm.Cond.code ({ cls := "LeastSolutions$Vector", name := "against", desc := "(LLeastSolutions$Vector;)I" } : Jvm.MethodName) prog_11_method_4_code (3 : Nat) (Option.some Jvm.ClassFile.FieldType.int)) ∈ lw_all := lw_g (lw_at lw_m5 2 rfl) rfl
theorem q1293 : (Jvm.Cond.instanceMethod ({ cls := "LeastSolutions$Vector", name := "show", desc := "([I)V" } : Jvm.MethodName)) ∈ lw_all := lw_g (lw_at lw_m6 19 rfl) rfl
theorem q1294 : (Jvm.Cond.selects "LeastSolutions$Vector" ({ cls := "LeastSolutions$Vector", name := "show", desc := "([I)V" } : Jvm.MethodName) ({ cls := "LeastSolutions$Vector", name := "show", desc := "([I)V" } : Jvm.MethodName)) ∈ lw_all := lw_g (lw_at lw_m6 20 rfl) rfl
theorem q1295 : (Jvm.Cond.code ({ cls := "LeastSolutions$Vector", name := "show", desc := "([I)V" } : Jvm.MethodName) prog_11_method_3_code (3 : Nat) (Option.none : Option Jvm.ClassFile.FieldType)) ∈ lw_all := lw_g (lw_at lw_m6 21 rfl) rfl
theorem q1723 : (Jvm.Cond.castable "LeastSolutions$Vector" "java/lang/Object") ∈ lw_tbl := lw_at lw_m7 209 rfl
theorem in_X11 : ∀ w ∈ wsX110, w ∈ lw_all := lw_in wsX110 [1001, 1003] (by decide +kernel) (by decide +kernel)
/-! LeastSolutions$Ranked -/
set_option maxRecDepth 100000
def RX12 : String := "LeastSolutions$Ranked"
abbrev cX12_isBefore : ByteArray := prog_6_method_2_code
def yX12_isBefore : MethodName := ⟨RX12, "isBefore", "(Ljava/lang/Object;)Z"⟩
def dkwX12_isBefore_0 : List UInt8 := [42, 43, 185, 0, 1, 2, 0, 156, 0, 7, 4, 167, 0, 4, 3, 172]
abbrev dktX12_isBefore_0 : List UInt8 := dkwX12_isBefore_0 ++ []
theorem dksX12_isBefore_0 : cX12_isBefore.data.toList.drop 0 = dktX12_isBefore_0 := by decide +kernel
theorem dX12_isBefore_0 : decode cX12_isBefore 0 = .ok (.aload_n 0, 1) := dk_42 (dk_at dksX12_isBefore_0 0 rfl rfl)
theorem dX12_isBefore_1 : decode cX12_isBefore 1 = .ok (.aload_n 1, 1) := dk_43 (dk_at dksX12_isBefore_0 1 rfl rfl)
theorem dX12_isBefore_2 : decode cX12_isBefore 2 = .ok (.invokeinterface 1 2, 5) := by decide +kernel
theorem dX12_isBefore_7 : decode cX12_isBefore 7 = .ok (.ifCond .ge 7, 3) := dk_156 0 7 (dk_at dksX12_isBefore_0 7 rfl rfl)
theorem dX12_isBefore_10 : decode cX12_isBefore 10 = .ok (.iconst 1, 1) := dk_4 (dk_at dksX12_isBefore_0 10 rfl rfl)
theorem dX12_isBefore_11 : decode cX12_isBefore 11 = .ok (.goto 4, 3) := dk_167 0 4 (dk_at dksX12_isBefore_0 11 rfl rfl)
theorem dX12_isBefore_14 : decode cX12_isBefore 14 = .ok (.iconst 0, 1) := dk_3 (dk_at dksX12_isBefore_0 14 rfl rfl)
theorem dX12_isBefore_15 : decode cX12_isBefore 15 = .ok (.ireturn, 1) := dk_172 (dk_at dksX12_isBefore_0 15 rfl rfl)
theorem q1016 : (Jvm.Cond.interfaceMethod "LeastSolutions$Ranked" "LeastSolutions$Ranked" "isBefore" "(Ljava/lang/Object;)Z") ∈ lw_tbl := lw_at lw_m4 222 rfl
theorem q1017 : (Jvm.Cond.declares ({ cls := "LeastSolutions$Ranked", name := "isBefore", desc := "(Ljava/lang/Object;)Z" } : Jvm.MethodName)) ∈ lw_tbl := lw_at lw_m4 223 rfl
theorem q1020 : (Jvm.Cond.instanceMethod ({ cls := "LeastSolutions$Ranked", name := "isBefore", desc := "(Ljava/lang/Object;)Z" } : Jvm.MethodName)) ∈ lw_all := lw_g (lw_at lw_m4 226 rfl) rfl
theorem q1021 : (Jvm.Cond.publicMethod ({ cls := "LeastSolutions$Ranked", name := "isBefore", desc := "(Ljava/lang/Object;)Z" } : Jvm.MethodName)) ∈ lw_tbl := lw_at lw_m4 227 rfl
theorem q1022 : (Jvm.Cond.code ({ cls := "LeastSolutions$Ranked", name := "isBefore", desc := "(Ljava/lang/Object;)Z" } : Jvm.MethodName) prog_6_method_2_code (2 : Nat) (Option.some Jvm.ClassFile.FieldType.boolean)) ∈ lw_all := lw_g (lw_at lw_m4 228 rfl) rfl
theorem q1023 : (Jvm.Cond.interfaceEntry "LeastSolutions$Ranked" (1 : Nat)) ∈ lw_tbl := lw_at lw_m4 229 rfl
theorem q1024 : (Jvm.Cond.methodLink "LeastSolutions$Ranked" (1 : Nat) ({ cls := "LeastSolutions$Ranked", name := "against", desc := "(Ljava/lang/Object;)I" } : Jvm.MethodName)) ∈ lw_all := lw_g (lw_at lw_m4 230 rfl) rfl
theorem q1025 : (Jvm.Cond.interfaceMethod "LeastSolutions$Ranked" "LeastSolutions$Ranked" "against" "(Ljava/lang/Object;)I") ∈ lw_tbl := lw_at lw_m4 231 rfl
theorem q1026 : (Jvm.Cond.declares ({ cls := "LeastSolutions$Ranked", name := "against", desc := "(Ljava/lang/Object;)I" } : Jvm.MethodName)) ∈ lw_tbl := lw_at lw_m4 232 rfl
theorem q1705 : (Jvm.Cond.initialized "LeastSolutions$Ranked") ∈ lw_all := lw_g (lw_at lw_m7 191 rfl) rfl
