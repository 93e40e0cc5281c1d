/-! LeastSolutions -/
set_option maxRecDepth 100000
def RX1 : String := "LeastSolutions"
def TX1 : u_T := fun k => match k with
  | 0 => ("LeastSolutions", "scanner", "LLeastSolutions$Scanner;", true)
  | 1 => ("LeastSolutions", "reader", "LLeastSolutions$Reader;", true)
  | 2 => ("LeastSolutions", "model", "LLeastSolutions$Model;", false)
  | 3 => ("LeastSolutions", "draft", "LLeastSolutions$Model;", false)
  | 4 => ("LeastSolutions", "lattice", "LLeastSolutions$Lattice;", true)
  | 5 => ("LeastSolutions", "grower", "LLeastSolutions$Grower;", true)
  | 6 => ("LeastSolutions", "seeker", "LLeastSolutions$Seeker;", true)
  | 7 => ("LeastSolutions", "lists", "[LLeastSolutions$Found;", true)
  | 8 => ("LeastSolutions", "known", "Z", false)
  | 9 => ("LeastSolutions", "wrong", "I", false)
  | 10 => ("LeastSolutions", "told", "[I", true)
  | 11 => ("LeastSolutions", "times", "[I", true)
  | 12 => ("LeastSolutions", "divided", "Z", false)
  | 13 => ("LeastSolutions", "sought", "Z", false)
  | 14 => ("LeastSolutions", "below", "LLeastSolutions$Shelf;", true)
  | _ => ("LeastSolutions", "copied", "[I", true)
def tyX1 : Nat → FieldType := fun k => match k with
  | 0 => .object "LeastSolutions$Scanner"
  | 1 => .object "LeastSolutions$Reader"
  | 2 => .object "LeastSolutions$Model"
  | 3 => .object "LeastSolutions$Model"
  | 4 => .object "LeastSolutions$Lattice"
  | 5 => .object "LeastSolutions$Grower"
  | 6 => .object "LeastSolutions$Seeker"
  | 7 => .array (.object "LeastSolutions$Found")
  | 8 => .boolean
  | 9 => .int
  | 10 => .array .int
  | 11 => .array .int
  | 12 => .boolean
  | 13 => .boolean
  | 14 => .object "LeastSolutions$Shelf"
  | _ => .array .int
abbrev wsX10 : List Cond := u_ws RX1 TX1 16
set_option maxRecDepth 100000 in
theorem nmX1 : ∀ a, a < 16 → ∀ b, b < 16 → a ≠ b → (TX1 a).2.1 ≠ (TX1 b).2.1 := by decide +kernel
set_option maxRecDepth 100000 in
theorem tyX1_ok : ∀ k, k < 16 → parseFieldDescriptor (TX1 k).2.2.1 = some (tyX1 k) := by decide +kernel
abbrev cX1_init : ByteArray := prog_1_method_2_code
def yX1_init : MethodName := ⟨RX1, "<init>", "()V"⟩
def dkwX1_init_7 : List UInt8 := [177]
abbrev dktX1_init_7 : List UInt8 := dkwX1_init_7 ++ []
def dkwX1_init_6 : List UInt8 := [188, 10, 181, 0, 88, 42, 187, 0, 2, 89, 183, 0, 91, 181, 0, 92, 42, 16, 6, 188, 10, 181, 0, 96]
abbrev dktX1_init_6 : List UInt8 := dkwX1_init_6 ++ dktX1_init_7
def dkwX1_init_5 : List UInt8 := [183, 0, 75, 83, 181, 0, 76, 42, 2, 181, 0, 80, 42, 16, 6, 188, 10, 181, 0, 84, 42, 17, 7, 208]
abbrev dktX1_init_5 : List UInt8 := dkwX1_init_5 ++ dktX1_init_6
def dkwX1_init_4 : List UInt8 := [187, 0, 73, 89, 183, 0, 75, 83, 89, 4, 187, 0, 73, 89, 183, 0, 75, 83, 89, 5, 187, 0, 73, 89]
abbrev dktX1_init_4 : List UInt8 := dkwX1_init_4 ++ dktX1_init_5
def dkwX1_init_3 : List UInt8 := [183, 0, 61, 181, 0, 62, 42, 187, 0, 66, 89, 183, 0, 68, 181, 0, 69, 42, 6, 189, 0, 73, 89, 3]
abbrev dktX1_init_3 : List UInt8 := dkwX1_init_3 ++ dktX1_init_4
def dkwX1_init_2 : List UInt8 := [183, 0, 44, 181, 0, 49, 42, 187, 0, 52, 89, 183, 0, 54, 181, 0, 55, 42, 187, 0, 59, 89]
abbrev dktX1_init_2 : List UInt8 := dkwX1_init_2 ++ dktX1_init_3
def dkwX1_init_1 : List UInt8 := [183, 0, 35, 181, 0, 38, 42, 187, 0, 42, 89, 183, 0, 44, 181, 0, 45, 42, 187, 0, 42, 89]
abbrev dktX1_init_1 : List UInt8 := dkwX1_init_1 ++ dktX1_init_2
def dkwX1_init_0 : List UInt8 := [42, 183, 0, 21, 42, 187, 0, 24, 89, 183, 0, 26, 181, 0, 27, 42, 187, 0, 33, 89, 42, 180, 0, 27]
abbrev dktX1_init_0 : List UInt8 := dkwX1_init_0 ++ dktX1_init_1
theorem dksX1_init_0 : cX1_init.data.toList.drop 0 = dktX1_init_0 := by decide +kernel
theorem dksX1_init_1 : cX1_init.data.toList.drop 24 = dktX1_init_1 := dk_seg dksX1_init_0 24 rfl rfl
theorem dksX1_init_2 : cX1_init.data.toList.drop 46 = dktX1_init_2 := dk_seg dksX1_init_1 22 rfl rfl
theorem dksX1_init_3 : cX1_init.data.toList.drop 68 = dktX1_init_3 := dk_seg dksX1_init_2 22 rfl rfl
theorem dksX1_init_4 : cX1_init.data.toList.drop 92 = dktX1_init_4 := dk_seg dksX1_init_3 24 rfl rfl
theorem dksX1_init_5 : cX1_init.data.toList.drop 116 = dktX1_init_5 := dk_seg dksX1_init_4 24 rfl rfl
theorem dksX1_init_6 : cX1_init.data.toList.drop 140 = dktX1_init_6 := dk_seg dksX1_init_5 24 rfl rfl
theorem dksX1_init_7 : cX1_init.data.toList.drop 164 = dktX1_init_7 := dk_seg dksX1_init_6 24 rfl rfl
theorem dX1_init_0 : decode cX1_init 0 = .ok (.aload_n 0, 1) := dk_42 (dk_at dksX1_init_0 0 rfl rfl)
theorem dX1_init_1 : decode cX1_init 1 = .ok (.invokespecial 21, 3) := dk_183 0 21 (dk_at dksX1_init_0 1 rfl rfl)
theorem dX1_init_4 : decode cX1_init 4 = .ok (.aload_n 0, 1) := dk_42 (dk_at dksX1_init_0 4 rfl rfl)
theorem dX1_init_5 : decode cX1_init 5 = .ok (.new 24, 3) := dk_187 0 24 (dk_at dksX1_init_0 5 rfl rfl)
theorem dX1_init_8 : decode cX1_init 8 = .ok (.dup, 1) := dk_89 (dk_at dksX1_init_0 8 rfl rfl)
theorem dX1_init_9 : decode cX1_init 9 = .ok (.invokespecial 26, 3) := dk_183 0 26 (dk_at dksX1_init_0 9 rfl rfl)
theorem dX1_init_12 : decode cX1_init 12 = .ok (.putfield 27, 3) := dk_181 0 27 (dk_at dksX1_init_0 12 rfl rfl)
theorem dX1_init_15 : decode cX1_init 15 = .ok (.aload_n 0, 1) := dk_42 (dk_at dksX1_init_0 15 rfl rfl)
theorem dX1_init_16 : decode cX1_init 16 = .ok (.new 33, 3) := dk_187 0 33 (dk_at dksX1_init_0 16 rfl rfl)
theorem dX1_init_19 : decode cX1_init 19 = .ok (.dup, 1) := dk_89 (dk_at dksX1_init_0 19 rfl rfl)
theorem dX1_init_20 : decode cX1_init 20 = .ok (.aload_n 0, 1) := dk_42 (dk_at dksX1_init_0 20 rfl rfl)
theorem dX1_init_21 : decode cX1_init 21 = .ok (.getfield 27, 3) := dk_180 0 27 (dk_at dksX1_init_0 21 rfl rfl)
theorem dX1_init_24 : decode cX1_init 24 = .ok (.invokespecial 35, 3) := dk_183 0 35 (dk_at dksX1_init_1 0 rfl rfl)
theorem dX1_init_27 : decode cX1_init 27 = .ok (.putfield 38, 3) := dk_181 0 38 (dk_at dksX1_init_1 3 rfl rfl)
theorem dX1_init_30 : decode cX1_init 30 = .ok (.aload_n 0, 1) := dk_42 (dk_at dksX1_init_1 6 rfl rfl)
theorem dX1_init_31 : decode cX1_init 31 = .ok (.new 42, 3) := dk_187 0 42 (dk_at dksX1_init_1 7 rfl rfl)
theorem dX1_init_34 : decode cX1_init 34 = .ok (.dup, 1) := dk_89 (dk_at dksX1_init_1 10 rfl rfl)
theorem dX1_init_35 : decode cX1_init 35 = .ok (.invokespecial 44, 3) := dk_183 0 44 (dk_at dksX1_init_1 11 rfl rfl)
theorem dX1_init_38 : decode cX1_init 38 = .ok (.putfield 45, 3) := dk_181 0 45 (dk_at dksX1_init_1 14 rfl rfl)
theorem dX1_init_41 : decode cX1_init 41 = .ok (.aload_n 0, 1) := dk_42 (dk_at dksX1_init_1 17 rfl rfl)
theorem dX1_init_42 : decode cX1_init 42 = .ok (.new 42, 3) := dk_187 0 42 (dk_at dksX1_init_1 18 rfl rfl)
theorem dX1_init_45 : decode cX1_init 45 = .ok (.dup, 1) := dk_89 (dk_at dksX1_init_1 21 rfl rfl)
theorem dX1_init_46 : decode cX1_init 46 = .ok (.invokespecial 44, 3) := dk_183 0 44 (dk_at dksX1_init_2 0 rfl rfl)
theorem dX1_init_49 : decode cX1_init 49 = .ok (.putfield 49, 3) := dk_181 0 49 (dk_at dksX1_init_2 3 rfl rfl)
theorem dX1_init_52 : decode cX1_init 52 = .ok (.aload_n 0, 1) := dk_42 (dk_at dksX1_init_2 6 rfl rfl)
theorem dX1_init_53 : decode cX1_init 53 = .ok (.new 52, 3) := dk_187 0 52 (dk_at dksX1_init_2 7 rfl rfl)
theorem dX1_init_56 : decode cX1_init 56 = .ok (.dup, 1) := dk_89 (dk_at dksX1_init_2 10 rfl rfl)
theorem dX1_init_57 : decode cX1_init 57 = .ok (.invokespecial 54, 3) := dk_183 0 54 (dk_at dksX1_init_2 11 rfl rfl)
theorem dX1_init_60 : decode cX1_init 60 = .ok (.putfield 55, 3) := dk_181 0 55 (dk_at dksX1_init_2 14 rfl rfl)
theorem dX1_init_63 : decode cX1_init 63 = .ok (.aload_n 0, 1) := dk_42 (dk_at dksX1_init_2 17 rfl rfl)
theorem dX1_init_64 : decode cX1_init 64 = .ok (.new 59, 3) := dk_187 0 59 (dk_at dksX1_init_2 18 rfl rfl)
theorem dX1_init_67 : decode cX1_init 67 = .ok (.dup, 1) := dk_89 (dk_at dksX1_init_2 21 rfl rfl)
theorem dX1_init_68 : decode cX1_init 68 = .ok (.invokespecial 61, 3) := dk_183 0 61 (dk_at dksX1_init_3 0 rfl rfl)
theorem dX1_init_71 : decode cX1_init 71 = .ok (.putfield 62, 3) := dk_181 0 62 (dk_at dksX1_init_3 3 rfl rfl)
theorem dX1_init_74 : decode cX1_init 74 = .ok (.aload_n 0, 1) := dk_42 (dk_at dksX1_init_3 6 rfl rfl)
theorem dX1_init_75 : decode cX1_init 75 = .ok (.new 66, 3) := dk_187 0 66 (dk_at dksX1_init_3 7 rfl rfl)
theorem dX1_init_78 : decode cX1_init 78 = .ok (.dup, 1) := dk_89 (dk_at dksX1_init_3 10 rfl rfl)
theorem dX1_init_79 : decode cX1_init 79 = .ok (.invokespecial 68, 3) := dk_183 0 68 (dk_at dksX1_init_3 11 rfl rfl)
theorem dX1_init_82 : decode cX1_init 82 = .ok (.putfield 69, 3) := dk_181 0 69 (dk_at dksX1_init_3 14 rfl rfl)
theorem dX1_init_85 : decode cX1_init 85 = .ok (.aload_n 0, 1) := dk_42 (dk_at dksX1_init_3 17 rfl rfl)
theorem dX1_init_86 : decode cX1_init 86 = .ok (.iconst 3, 1) := dk_6 (dk_at dksX1_init_3 18 rfl rfl)
theorem dX1_init_87 : decode cX1_init 87 = .ok (.anewarray 73, 3) := dk_189 0 73 (dk_at dksX1_init_3 19 rfl rfl)
theorem dX1_init_90 : decode cX1_init 90 = .ok (.dup, 1) := dk_89 (dk_at dksX1_init_3 22 rfl rfl)
theorem dX1_init_91 : decode cX1_init 91 = .ok (.iconst 0, 1) := dk_3 (dk_at dksX1_init_3 23 rfl rfl)
theorem dX1_init_92 : decode cX1_init 92 = .ok (.new 73, 3) := dk_187 0 73 (dk_at dksX1_init_4 0 rfl rfl)
theorem dX1_init_95 : decode cX1_init 95 = .ok (.dup, 1) := dk_89 (dk_at dksX1_init_4 3 rfl rfl)
theorem dX1_init_96 : decode cX1_init 96 = .ok (.invokespecial 75, 3) := dk_183 0 75 (dk_at dksX1_init_4 4 rfl rfl)
theorem dX1_init_99 : decode cX1_init 99 = .ok (.aastore, 1) := dk_83 (dk_at dksX1_init_4 7 rfl rfl)
theorem dX1_init_100 : decode cX1_init 100 = .ok (.dup, 1) := dk_89 (dk_at dksX1_init_4 8 rfl rfl)
theorem dX1_init_101 : decode cX1_init 101 = .ok (.iconst 1, 1) := dk_4 (dk_at dksX1_init_4 9 rfl rfl)
theorem dX1_init_102 : decode cX1_init 102 = .ok (.new 73, 3) := dk_187 0 73 (dk_at dksX1_init_4 10 rfl rfl)
theorem dX1_init_105 : decode cX1_init 105 = .ok (.dup, 1) := dk_89 (dk_at dksX1_init_4 13 rfl rfl)
theorem dX1_init_106 : decode cX1_init 106 = .ok (.invokespecial 75, 3) := dk_183 0 75 (dk_at dksX1_init_4 14 rfl rfl)
theorem dX1_init_109 : decode cX1_init 109 = .ok (.aastore, 1) := dk_83 (dk_at dksX1_init_4 17 rfl rfl)
theorem dX1_init_110 : decode cX1_init 110 = .ok (.dup, 1) := dk_89 (dk_at dksX1_init_4 18 rfl rfl)
theorem dX1_init_111 : decode cX1_init 111 = .ok (.iconst 2, 1) := dk_5 (dk_at dksX1_init_4 19 rfl rfl)
theorem dX1_init_112 : decode cX1_init 112 = .ok (.new 73, 3) := dk_187 0 73 (dk_at dksX1_init_4 20 rfl rfl)
theorem dX1_init_115 : decode cX1_init 115 = .ok (.dup, 1) := dk_89 (dk_at dksX1_init_4 23 rfl rfl)
theorem dX1_init_116 : decode cX1_init 116 = .ok (.invokespecial 75, 3) := dk_183 0 75 (dk_at dksX1_init_5 0 rfl rfl)
theorem dX1_init_119 : decode cX1_init 119 = .ok (.aastore, 1) := dk_83 (dk_at dksX1_init_5 3 rfl rfl)
theorem dX1_init_120 : decode cX1_init 120 = .ok (.putfield 76, 3) := dk_181 0 76 (dk_at dksX1_init_5 4 rfl rfl)
theorem dX1_init_123 : decode cX1_init 123 = .ok (.aload_n 0, 1) := dk_42 (dk_at dksX1_init_5 7 rfl rfl)
theorem dX1_init_124 : decode cX1_init 124 = .ok (.iconst (-1), 1) := dk_2 (dk_at dksX1_init_5 8 rfl rfl)
theorem dX1_init_125 : decode cX1_init 125 = .ok (.putfield 80, 3) := dk_181 0 80 (dk_at dksX1_init_5 9 rfl rfl)
theorem dX1_init_128 : decode cX1_init 128 = .ok (.aload_n 0, 1) := dk_42 (dk_at dksX1_init_5 12 rfl rfl)
theorem dX1_init_129 : decode cX1_init 129 = .ok (.bipush 6, 2) := dk_16 6 (dk_at dksX1_init_5 13 rfl rfl)
theorem dX1_init_131 : decode cX1_init 131 = .ok (.newarray .int, 2) := dk_188_10 (dk_at dksX1_init_5 15 rfl rfl)
theorem dX1_init_133 : decode cX1_init 133 = .ok (.putfield 84, 3) := dk_181 0 84 (dk_at dksX1_init_5 17 rfl rfl)
theorem dX1_init_136 : decode cX1_init 136 = .ok (.aload_n 0, 1) := dk_42 (dk_at dksX1_init_5 20 rfl rfl)
theorem dX1_init_137 : decode cX1_init 137 = .ok (.sipush 2000, 3) := dk_17 7 208 (dk_at dksX1_init_5 21 rfl rfl)
theorem dX1_init_140 : decode cX1_init 140 = .ok (.newarray .int, 2) := dk_188_10 (dk_at dksX1_init_6 0 rfl rfl)
theorem dX1_init_142 : decode cX1_init 142 = .ok (.putfield 88, 3) := dk_181 0 88 (dk_at dksX1_init_6 2 rfl rfl)
theorem dX1_init_145 : decode cX1_init 145 = .ok (.aload_n 0, 1) := dk_42 (dk_at dksX1_init_6 5 rfl rfl)
theorem dX1_init_146 : decode cX1_init 146 = .ok (.new 2, 3) := dk_187 0 2 (dk_at dksX1_init_6 6 rfl rfl)
theorem dX1_init_149 : decode cX1_init 149 = .ok (.dup, 1) := dk_89 (dk_at dksX1_init_6 9 rfl rfl)
theorem dX1_init_150 : decode cX1_init 150 = .ok (.invokespecial 91, 3) := dk_183 0 91 (dk_at dksX1_init_6 10 rfl rfl)
theorem dX1_init_153 : decode cX1_init 153 = .ok (.putfield 92, 3) := dk_181 0 92 (dk_at dksX1_init_6 13 rfl rfl)
theorem dX1_init_156 : decode cX1_init 156 = .ok (.aload_n 0, 1) := dk_42 (dk_at dksX1_init_6 16 rfl rfl)
theorem dX1_init_157 : decode cX1_init 157 = .ok (.bipush 6, 2) := dk_16 6 (dk_at dksX1_init_6 17 rfl rfl)
theorem dX1_init_159 : decode cX1_init 159 = .ok (.newarray .int, 2) := dk_188_10 (dk_at dksX1_init_6 19 rfl rfl)
theorem dX1_init_161 : decode cX1_init 161 = .ok (.putfield 96, 3) := dk_181 0 96 (dk_at dksX1_init_6 21 rfl rfl)
theorem dX1_init_164 : decode cX1_init 164 = .ok (.return_, 1) := dk_177 (dk_at dksX1_init_7 0 rfl rfl)
abbrev cX1_type : ByteArray := prog_1_method_3_code
def yX1_type : MethodName := ⟨RX1, "type", "(JI)I"⟩
def dkwX1_type_6 : List UInt8 := [132, 5, 255, 167, 255, 213, 42, 180, 0, 27, 180, 0, 99, 172]
abbrev dktX1_type_6 : List UInt8 := dkwX1_type_6 ++ []
def dkwX1_type_5 : List UInt8 := [180, 0, 99, 90, 4, 96, 181, 0, 99, 31, 16, 8, 21, 5, 104, 123, 20, 0, 102, 127, 136, 145, 84]
abbrev dktX1_type_5 : List UInt8 := dkwX1_type_5 ++ dktX1_type_6
def dkwX1_type_4 : List UInt8 := [29, 4, 100, 54, 5, 21, 5, 155, 0, 44, 42, 180, 0, 27, 180, 0, 108, 42, 180, 0, 27, 89]
abbrev dktX1_type_4 : List UInt8 := dkwX1_type_4 ++ dktX1_type_5
def dkwX1_type_3 : List UInt8 := [156, 0, 7, 4, 167, 0, 4, 3, 126, 54, 4, 132, 5, 1, 167, 255, 206, 21, 4, 154, 0, 5, 2, 172]
abbrev dktX1_type_3 : List UInt8 := dkwX1_type_3 ++ dktX1_type_4
def dkwX1_type_2 : List UInt8 := [20, 0, 102, 127, 55, 6, 21, 4, 22, 6, 20, 0, 104, 148, 158, 0, 16, 22, 6, 20, 0, 106, 148]
abbrev dktX1_type_2 : List UInt8 := dkwX1_type_2 ++ dktX1_type_3
def dkwX1_type_1 : List UInt8 := [164, 0, 5, 2, 172, 4, 54, 4, 3, 54, 5, 21, 5, 29, 162, 0, 50, 31, 16, 8, 21, 5, 104, 123]
abbrev dktX1_type_1 : List UInt8 := dkwX1_type_1 ++ dktX1_type_2
def dkwX1_type_0 : List UInt8 := [29, 4, 161, 0, 24, 29, 16, 8, 163, 0, 18, 42, 180, 0, 27, 180, 0, 99, 29, 96, 17, 1, 44]
abbrev dktX1_type_0 : List UInt8 := dkwX1_type_0 ++ dktX1_type_1
theorem dksX1_type_0 : cX1_type.data.toList.drop 0 = dktX1_type_0 := by decide +kernel
theorem dksX1_type_1 : cX1_type.data.toList.drop 23 = dktX1_type_1 := dk_seg dksX1_type_0 23 rfl rfl
theorem dksX1_type_2 : cX1_type.data.toList.drop 47 = dktX1_type_2 := dk_seg dksX1_type_1 24 rfl rfl
theorem dksX1_type_3 : cX1_type.data.toList.drop 70 = dktX1_type_3 := dk_seg dksX1_type_2 23 rfl rfl
theorem dksX1_type_4 : cX1_type.data.toList.drop 94 = dktX1_type_4 := dk_seg dksX1_type_3 24 rfl rfl
theorem dksX1_type_5 : cX1_type.data.toList.drop 116 = dktX1_type_5 := dk_seg dksX1_type_4 22 rfl rfl
theorem dksX1_type_6 : cX1_type.data.toList.drop 139 = dktX1_type_6 := dk_seg dksX1_type_5 23 rfl rfl
theorem dX1_type_0 : decode cX1_type 0 = .ok (.iload_n 3, 1) := dk_29 (dk_at dksX1_type_0 0 rfl rfl)
theorem dX1_type_1 : decode cX1_type 1 = .ok (.iconst 1, 1) := dk_4 (dk_at dksX1_type_0 1 rfl rfl)
theorem dX1_type_2 : decode cX1_type 2 = .ok (.if_icmp .lt 24, 3) := dk_161 0 24 (dk_at dksX1_type_0 2 rfl rfl)
theorem dX1_type_5 : decode cX1_type 5 = .ok (.iload_n 3, 1) := dk_29 (dk_at dksX1_type_0 5 rfl rfl)
theorem dX1_type_6 : decode cX1_type 6 = .ok (.bipush 8, 2) := dk_16 8 (dk_at dksX1_type_0 6 rfl rfl)
theorem dX1_type_8 : decode cX1_type 8 = .ok (.if_icmp .gt 18, 3) := dk_163 0 18 (dk_at dksX1_type_0 8 rfl rfl)
theorem dX1_type_11 : decode cX1_type 11 = .ok (.aload_n 0, 1) := dk_42 (dk_at dksX1_type_0 11 rfl rfl)
theorem dX1_type_12 : decode cX1_type 12 = .ok (.getfield 27, 3) := dk_180 0 27 (dk_at dksX1_type_0 12 rfl rfl)
theorem dX1_type_15 : decode cX1_type 15 = .ok (.getfield 99, 3) := dk_180 0 99 (dk_at dksX1_type_0 15 rfl rfl)
theorem dX1_type_18 : decode cX1_type 18 = .ok (.iload_n 3, 1) := dk_29 (dk_at dksX1_type_0 18 rfl rfl)
theorem dX1_type_19 : decode cX1_type 19 = .ok (.iadd, 1) := dk_96 (dk_at dksX1_type_0 19 rfl rfl)
theorem dX1_type_20 : decode cX1_type 20 = .ok (.sipush 300, 3) := dk_17 1 44 (dk_at dksX1_type_0 20 rfl rfl)
theorem dX1_type_23 : decode cX1_type 23 = .ok (.if_icmp .le 5, 3) := dk_164 0 5 (dk_at dksX1_type_1 0 rfl rfl)
theorem dX1_type_26 : decode cX1_type 26 = .ok (.iconst (-1), 1) := dk_2 (dk_at dksX1_type_1 3 rfl rfl)
theorem dX1_type_27 : decode cX1_type 27 = .ok (.ireturn, 1) := dk_172 (dk_at dksX1_type_1 4 rfl rfl)
theorem dX1_type_28 : decode cX1_type 28 = .ok (.iconst 1, 1) := dk_4 (dk_at dksX1_type_1 5 rfl rfl)
theorem dX1_type_29 : decode cX1_type 29 = .ok (.istore 4, 2) := dk_54 4 (dk_at dksX1_type_1 6 rfl rfl)
theorem dX1_type_31 : decode cX1_type 31 = .ok (.iconst 0, 1) := dk_3 (dk_at dksX1_type_1 8 rfl rfl)
theorem dX1_type_32 : decode cX1_type 32 = .ok (.istore 5, 2) := dk_54 5 (dk_at dksX1_type_1 9 rfl rfl)
theorem dX1_type_34 : decode cX1_type 34 = .ok (.iload 5, 2) := dk_21 5 (dk_at dksX1_type_1 11 rfl rfl)
theorem dX1_type_36 : decode cX1_type 36 = .ok (.iload_n 3, 1) := dk_29 (dk_at dksX1_type_1 13 rfl rfl)
theorem dX1_type_37 : decode cX1_type 37 = .ok (.if_icmp .ge 50, 3) := dk_162 0 50 (dk_at dksX1_type_1 14 rfl rfl)
theorem dX1_type_40 : decode cX1_type 40 = .ok (.lload_n 1, 1) := dk_31 (dk_at dksX1_type_1 17 rfl rfl)
theorem dX1_type_41 : decode cX1_type 41 = .ok (.bipush 8, 2) := dk_16 8 (dk_at dksX1_type_1 18 rfl rfl)
theorem dX1_type_43 : decode cX1_type 43 = .ok (.iload 5, 2) := dk_21 5 (dk_at dksX1_type_1 20 rfl rfl)
theorem dX1_type_45 : decode cX1_type 45 = .ok (.imul, 1) := dk_104 (dk_at dksX1_type_1 22 rfl rfl)
theorem dX1_type_46 : decode cX1_type 46 = .ok (.lshr, 1) := dk_123 (dk_at dksX1_type_1 23 rfl rfl)
theorem dX1_type_47 : decode cX1_type 47 = .ok (.ldc2_w 102, 3) := dk_20 0 102 (dk_at dksX1_type_2 0 rfl rfl)
theorem dX1_type_50 : decode cX1_type 50 = .ok (.land, 1) := dk_127 (dk_at dksX1_type_2 3 rfl rfl)
theorem dX1_type_51 : decode cX1_type 51 = .ok (.lstore 6, 2) := dk_55 6 (dk_at dksX1_type_2 4 rfl rfl)
theorem dX1_type_53 : decode cX1_type 53 = .ok (.iload 4, 2) := dk_21 4 (dk_at dksX1_type_2 6 rfl rfl)
theorem dX1_type_55 : decode cX1_type 55 = .ok (.lload 6, 2) := dk_22 6 (dk_at dksX1_type_2 8 rfl rfl)
theorem dX1_type_57 : decode cX1_type 57 = .ok (.ldc2_w 104, 3) := dk_20 0 104 (dk_at dksX1_type_2 10 rfl rfl)
theorem dX1_type_60 : decode cX1_type 60 = .ok (.lcmp, 1) := dk_148 (dk_at dksX1_type_2 13 rfl rfl)
theorem dX1_type_61 : decode cX1_type 61 = .ok (.ifCond .le 16, 3) := dk_158 0 16 (dk_at dksX1_type_2 14 rfl rfl)
theorem dX1_type_64 : decode cX1_type 64 = .ok (.lload 6, 2) := dk_22 6 (dk_at dksX1_type_2 17 rfl rfl)
theorem dX1_type_66 : decode cX1_type 66 = .ok (.ldc2_w 106, 3) := dk_20 0 106 (dk_at dksX1_type_2 19 rfl rfl)
theorem dX1_type_69 : decode cX1_type 69 = .ok (.lcmp, 1) := dk_148 (dk_at dksX1_type_2 22 rfl rfl)
theorem dX1_type_70 : decode cX1_type 70 = .ok (.ifCond .ge 7, 3) := dk_156 0 7 (dk_at dksX1_type_3 0 rfl rfl)
theorem dX1_type_73 : decode cX1_type 73 = .ok (.iconst 1, 1) := dk_4 (dk_at dksX1_type_3 3 rfl rfl)
theorem dX1_type_74 : decode cX1_type 74 = .ok (.goto 4, 3) := dk_167 0 4 (dk_at dksX1_type_3 4 rfl rfl)
theorem dX1_type_77 : decode cX1_type 77 = .ok (.iconst 0, 1) := dk_3 (dk_at dksX1_type_3 7 rfl rfl)
theorem dX1_type_78 : decode cX1_type 78 = .ok (.iand, 1) := dk_126 (dk_at dksX1_type_3 8 rfl rfl)
theorem dX1_type_79 : decode cX1_type 79 = .ok (.istore 4, 2) := dk_54 4 (dk_at dksX1_type_3 9 rfl rfl)
theorem dX1_type_81 : decode cX1_type 81 = .ok (.iinc 5 1, 3) := dk_132 5 1 (dk_at dksX1_type_3 11 rfl rfl)
theorem dX1_type_84 : decode cX1_type 84 = .ok (.goto (-50), 3) := dk_167 255 206 (dk_at dksX1_type_3 14 rfl rfl)
theorem dX1_type_87 : decode cX1_type 87 = .ok (.iload 4, 2) := dk_21 4 (dk_at dksX1_type_3 17 rfl rfl)
theorem dX1_type_89 : decode cX1_type 89 = .ok (.ifCond .ne 5, 3) := dk_154 0 5 (dk_at dksX1_type_3 19 rfl rfl)
theorem dX1_type_92 : decode cX1_type 92 = .ok (.iconst (-1), 1) := dk_2 (dk_at dksX1_type_3 22 rfl rfl)
theorem dX1_type_93 : decode cX1_type 93 = .ok (.ireturn, 1) := dk_172 (dk_at dksX1_type_3 23 rfl rfl)
theorem dX1_type_94 : decode cX1_type 94 = .ok (.iload_n 3, 1) := dk_29 (dk_at dksX1_type_4 0 rfl rfl)
theorem dX1_type_95 : decode cX1_type 95 = .ok (.iconst 1, 1) := dk_4 (dk_at dksX1_type_4 1 rfl rfl)
theorem dX1_type_96 : decode cX1_type 96 = .ok (.isub, 1) := dk_100 (dk_at dksX1_type_4 2 rfl rfl)
theorem dX1_type_97 : decode cX1_type 97 = .ok (.istore 5, 2) := dk_54 5 (dk_at dksX1_type_4 3 rfl rfl)
theorem dX1_type_99 : decode cX1_type 99 = .ok (.iload 5, 2) := dk_21 5 (dk_at dksX1_type_4 5 rfl rfl)
theorem dX1_type_101 : decode cX1_type 101 = .ok (.ifCond .lt 44, 3) := dk_155 0 44 (dk_at dksX1_type_4 7 rfl rfl)
theorem dX1_type_104 : decode cX1_type 104 = .ok (.aload_n 0, 1) := dk_42 (dk_at dksX1_type_4 10 rfl rfl)
theorem dX1_type_105 : decode cX1_type 105 = .ok (.getfield 27, 3) := dk_180 0 27 (dk_at dksX1_type_4 11 rfl rfl)
theorem dX1_type_108 : decode cX1_type 108 = .ok (.getfield 108, 3) := dk_180 0 108 (dk_at dksX1_type_4 14 rfl rfl)
theorem dX1_type_111 : decode cX1_type 111 = .ok (.aload_n 0, 1) := dk_42 (dk_at dksX1_type_4 17 rfl rfl)
theorem dX1_type_112 : decode cX1_type 112 = .ok (.getfield 27, 3) := dk_180 0 27 (dk_at dksX1_type_4 18 rfl rfl)
theorem dX1_type_115 : decode cX1_type 115 = .ok (.dup, 1) := dk_89 (dk_at dksX1_type_4 21 rfl rfl)
theorem dX1_type_116 : decode cX1_type 116 = .ok (.getfield 99, 3) := dk_180 0 99 (dk_at dksX1_type_5 0 rfl rfl)
theorem dX1_type_119 : decode cX1_type 119 = .ok (.dup_x1, 1) := dk_90 (dk_at dksX1_type_5 3 rfl rfl)
theorem dX1_type_120 : decode cX1_type 120 = .ok (.iconst 1, 1) := dk_4 (dk_at dksX1_type_5 4 rfl rfl)
theorem dX1_type_121 : decode cX1_type 121 = .ok (.iadd, 1) := dk_96 (dk_at dksX1_type_5 5 rfl rfl)
theorem dX1_type_122 : decode cX1_type 122 = .ok (.putfield 99, 3) := dk_181 0 99 (dk_at dksX1_type_5 6 rfl rfl)
theorem dX1_type_125 : decode cX1_type 125 = .ok (.lload_n 1, 1) := dk_31 (dk_at dksX1_type_5 9 rfl rfl)
theorem dX1_type_126 : decode cX1_type 126 = .ok (.bipush 8, 2) := dk_16 8 (dk_at dksX1_type_5 10 rfl rfl)
theorem dX1_type_128 : decode cX1_type 128 = .ok (.iload 5, 2) := dk_21 5 (dk_at dksX1_type_5 12 rfl rfl)
theorem dX1_type_130 : decode cX1_type 130 = .ok (.imul, 1) := dk_104 (dk_at dksX1_type_5 14 rfl rfl)
theorem dX1_type_131 : decode cX1_type 131 = .ok (.lshr, 1) := dk_123 (dk_at dksX1_type_5 15 rfl rfl)
theorem dX1_type_132 : decode cX1_type 132 = .ok (.ldc2_w 102, 3) := dk_20 0 102 (dk_at dksX1_type_5 16 rfl rfl)
theorem dX1_type_135 : decode cX1_type 135 = .ok (.land, 1) := dk_127 (dk_at dksX1_type_5 19 rfl rfl)
theorem dX1_type_136 : decode cX1_type 136 = .ok (.l2i, 1) := dk_136 (dk_at dksX1_type_5 20 rfl rfl)
theorem dX1_type_137 : decode cX1_type 137 = .ok (.i2b, 1) := dk_145 (dk_at dksX1_type_5 21 rfl rfl)
theorem dX1_type_138 : decode cX1_type 138 = .ok (.bastore, 1) := dk_84 (dk_at dksX1_type_5 22 rfl rfl)
theorem dX1_type_139 : decode cX1_type 139 = .ok (.iinc 5 (-1), 3) := dk_132 5 255 (dk_at dksX1_type_6 0 rfl rfl)
theorem dX1_type_142 : decode cX1_type 142 = .ok (.goto (-43), 3) := dk_167 255 213 (dk_at dksX1_type_6 3 rfl rfl)
theorem dX1_type_145 : decode cX1_type 145 = .ok (.aload_n 0, 1) := dk_42 (dk_at dksX1_type_6 6 rfl rfl)
theorem dX1_type_146 : decode cX1_type 146 = .ok (.getfield 27, 3) := dk_180 0 27 (dk_at dksX1_type_6 7 rfl rfl)
theorem dX1_type_149 : decode cX1_type 149 = .ok (.getfield 99, 3) := dk_180 0 99 (dk_at dksX1_type_6 10 rfl rfl)
theorem dX1_type_152 : decode cX1_type 152 = .ok (.ireturn, 1) := dk_172 (dk_at dksX1_type_6 13 rfl rfl)
abbrev cX1_read : ByteArray := prog_1_method_4_code
def yX1_read : MethodName := ⟨RX1, "read", "()I"⟩
def dkwX1_read_6 : List UInt8 := [132, 3, 1, 167, 255, 230, 42, 3, 181, 0, 132, 42, 3, 181, 0, 135, 3, 172]
abbrev dktX1_read_6 : List UInt8 := dkwX1_read_6 ++ []
def dkwX1_read_5 : List UInt8 := [29, 16, 6, 162, 0, 26, 42, 180, 0, 84, 29, 3, 79, 42, 180, 0, 69, 180, 0, 129, 29, 3, 79]
abbrev dktX1_read_5 : List UInt8 := dkwX1_read_5 ++ dktX1_read_6
def dkwX1_read_4 : List UInt8 := [21, 4, 162, 0, 20, 45, 21, 5, 50, 58, 6, 25, 6, 182, 0, 126, 132, 5, 1, 167, 255, 235, 3, 62]
abbrev dktX1_read_4 : List UInt8 := dkwX1_read_4 ++ dktX1_read_5
def dkwX1_read_3 : List UInt8 := [180, 0, 55, 42, 180, 0, 45, 182, 0, 123, 42, 180, 0, 76, 78, 45, 190, 54, 4, 3, 54, 5, 21, 5]
abbrev dktX1_read_3 : List UInt8 := dkwX1_read_3 ++ dktX1_read_4
def dkwX1_read_2 : List UInt8 := [180, 0, 45, 77, 42, 42, 180, 0, 49, 181, 0, 45, 42, 44, 181, 0, 49, 42, 4, 181, 0, 119, 42]
abbrev dktX1_read_2 : List UInt8 := dkwX1_read_2 ++ dktX1_read_3
def dkwX1_read_1 : List UInt8 := [154, 0, 7, 2, 167, 0, 10, 42, 180, 0, 38, 180, 0, 116, 181, 0, 80, 27, 153, 0, 5, 27, 172, 42]
abbrev dktX1_read_1 : List UInt8 := dkwX1_read_1 ++ dktX1_read_2
def dkwX1_read_0 : List UInt8 := [42, 180, 0, 38, 42, 180, 0, 49, 182, 0, 112, 60, 42, 180, 0, 27, 3, 181, 0, 99, 42, 27]
abbrev dktX1_read_0 : List UInt8 := dkwX1_read_0 ++ dktX1_read_1
theorem dksX1_read_0 : cX1_read.data.toList.drop 0 = dktX1_read_0 := by decide +kernel
theorem dksX1_read_1 : cX1_read.data.toList.drop 22 = dktX1_read_1 := dk_seg dksX1_read_0 22 rfl rfl
theorem dksX1_read_2 : cX1_read.data.toList.drop 46 = dktX1_read_2 := dk_seg dksX1_read_1 24 rfl rfl
theorem dksX1_read_3 : cX1_read.data.toList.drop 69 = dktX1_read_3 := dk_seg dksX1_read_2 23 rfl rfl
theorem dksX1_read_4 : cX1_read.data.toList.drop 93 = dktX1_read_4 := dk_seg dksX1_read_3 24 rfl rfl
theorem dksX1_read_5 : cX1_read.data.toList.drop 117 = dktX1_read_5 := dk_seg dksX1_read_4 24 rfl rfl
theorem dksX1_read_6 : cX1_read.data.toList.drop 140 = dktX1_read_6 := dk_seg dksX1_read_5 23 rfl rfl
theorem dX1_read_0 : decode cX1_read 0 = .ok (.aload_n 0, 1) := dk_42 (dk_at dksX1_read_0 0 rfl rfl)
theorem dX1_read_1 : decode cX1_read 1 = .ok (.getfield 38, 3) := dk_180 0 38 (dk_at dksX1_read_0 1 rfl rfl)
theorem dX1_read_4 : decode cX1_read 4 = .ok (.aload_n 0, 1) := dk_42 (dk_at dksX1_read_0 4 rfl rfl)
theorem dX1_read_5 : decode cX1_read 5 = .ok (.getfield 49, 3) := dk_180 0 49 (dk_at dksX1_read_0 5 rfl rfl)
theorem dX1_read_8 : decode cX1_read 8 = .ok (.invokevirtual 112, 3) := dk_182 0 112 (dk_at dksX1_read_0 8 rfl rfl)
theorem dX1_read_11 : decode cX1_read 11 = .ok (.istore_n 1, 1) := dk_60 (dk_at dksX1_read_0 11 rfl rfl)
theorem dX1_read_12 : decode cX1_read 12 = .ok (.aload_n 0, 1) := dk_42 (dk_at dksX1_read_0 12 rfl rfl)
theorem dX1_read_13 : decode cX1_read 13 = .ok (.getfield 27, 3) := dk_180 0 27 (dk_at dksX1_read_0 13 rfl rfl)
theorem dX1_read_16 : decode cX1_read 16 = .ok (.iconst 0, 1) := dk_3 (dk_at dksX1_read_0 16 rfl rfl)
theorem dX1_read_17 : decode cX1_read 17 = .ok (.putfield 99, 3) := dk_181 0 99 (dk_at dksX1_read_0 17 rfl rfl)
theorem dX1_read_20 : decode cX1_read 20 = .ok (.aload_n 0, 1) := dk_42 (dk_at dksX1_read_0 20 rfl rfl)
theorem dX1_read_21 : decode cX1_read 21 = .ok (.iload_n 1, 1) := dk_27 (dk_at dksX1_read_0 21 rfl rfl)
theorem dX1_read_22 : decode cX1_read 22 = .ok (.ifCond .ne 7, 3) := dk_154 0 7 (dk_at dksX1_read_1 0 rfl rfl)
theorem dX1_read_25 : decode cX1_read 25 = .ok (.iconst (-1), 1) := dk_2 (dk_at dksX1_read_1 3 rfl rfl)
theorem dX1_read_26 : decode cX1_read 26 = .ok (.goto 10, 3) := dk_167 0 10 (dk_at dksX1_read_1 4 rfl rfl)
theorem dX1_read_29 : decode cX1_read 29 = .ok (.aload_n 0, 1) := dk_42 (dk_at dksX1_read_1 7 rfl rfl)
theorem dX1_read_30 : decode cX1_read 30 = .ok (.getfield 38, 3) := dk_180 0 38 (dk_at dksX1_read_1 8 rfl rfl)
theorem dX1_read_33 : decode cX1_read 33 = .ok (.getfield 116, 3) := dk_180 0 116 (dk_at dksX1_read_1 11 rfl rfl)
theorem dX1_read_36 : decode cX1_read 36 = .ok (.putfield 80, 3) := dk_181 0 80 (dk_at dksX1_read_1 14 rfl rfl)
theorem dX1_read_39 : decode cX1_read 39 = .ok (.iload_n 1, 1) := dk_27 (dk_at dksX1_read_1 17 rfl rfl)
theorem dX1_read_40 : decode cX1_read 40 = .ok (.ifCond .eq 5, 3) := dk_153 0 5 (dk_at dksX1_read_1 18 rfl rfl)
theorem dX1_read_43 : decode cX1_read 43 = .ok (.iload_n 1, 1) := dk_27 (dk_at dksX1_read_1 21 rfl rfl)
theorem dX1_read_44 : decode cX1_read 44 = .ok (.ireturn, 1) := dk_172 (dk_at dksX1_read_1 22 rfl rfl)
theorem dX1_read_45 : decode cX1_read 45 = .ok (.aload_n 0, 1) := dk_42 (dk_at dksX1_read_1 23 rfl rfl)
theorem dX1_read_46 : decode cX1_read 46 = .ok (.getfield 45, 3) := dk_180 0 45 (dk_at dksX1_read_2 0 rfl rfl)
theorem dX1_read_49 : decode cX1_read 49 = .ok (.astore_n 2, 1) := dk_77 (dk_at dksX1_read_2 3 rfl rfl)
theorem dX1_read_50 : decode cX1_read 50 = .ok (.aload_n 0, 1) := dk_42 (dk_at dksX1_read_2 4 rfl rfl)
theorem dX1_read_51 : decode cX1_read 51 = .ok (.aload_n 0, 1) := dk_42 (dk_at dksX1_read_2 5 rfl rfl)
theorem dX1_read_52 : decode cX1_read 52 = .ok (.getfield 49, 3) := dk_180 0 49 (dk_at dksX1_read_2 6 rfl rfl)
theorem dX1_read_55 : decode cX1_read 55 = .ok (.putfield 45, 3) := dk_181 0 45 (dk_at dksX1_read_2 9 rfl rfl)
theorem dX1_read_58 : decode cX1_read 58 = .ok (.aload_n 0, 1) := dk_42 (dk_at dksX1_read_2 12 rfl rfl)
theorem dX1_read_59 : decode cX1_read 59 = .ok (.aload_n 2, 1) := dk_44 (dk_at dksX1_read_2 13 rfl rfl)
theorem dX1_read_60 : decode cX1_read 60 = .ok (.putfield 49, 3) := dk_181 0 49 (dk_at dksX1_read_2 14 rfl rfl)
theorem dX1_read_63 : decode cX1_read 63 = .ok (.aload_n 0, 1) := dk_42 (dk_at dksX1_read_2 17 rfl rfl)
theorem dX1_read_64 : decode cX1_read 64 = .ok (.iconst 1, 1) := dk_4 (dk_at dksX1_read_2 18 rfl rfl)
theorem dX1_read_65 : decode cX1_read 65 = .ok (.putfield 119, 3) := dk_181 0 119 (dk_at dksX1_read_2 19 rfl rfl)
theorem dX1_read_68 : decode cX1_read 68 = .ok (.aload_n 0, 1) := dk_42 (dk_at dksX1_read_2 22 rfl rfl)
theorem dX1_read_69 : decode cX1_read 69 = .ok (.getfield 55, 3) := dk_180 0 55 (dk_at dksX1_read_3 0 rfl rfl)
theorem dX1_read_72 : decode cX1_read 72 = .ok (.aload_n 0, 1) := dk_42 (dk_at dksX1_read_3 3 rfl rfl)
theorem dX1_read_73 : decode cX1_read 73 = .ok (.getfield 45, 3) := dk_180 0 45 (dk_at dksX1_read_3 4 rfl rfl)
theorem dX1_read_76 : decode cX1_read 76 = .ok (.invokevirtual 123, 3) := dk_182 0 123 (dk_at dksX1_read_3 7 rfl rfl)
theorem dX1_read_79 : decode cX1_read 79 = .ok (.aload_n 0, 1) := dk_42 (dk_at dksX1_read_3 10 rfl rfl)
theorem dX1_read_80 : decode cX1_read 80 = .ok (.getfield 76, 3) := dk_180 0 76 (dk_at dksX1_read_3 11 rfl rfl)
theorem dX1_read_83 : decode cX1_read 83 = .ok (.astore_n 3, 1) := dk_78 (dk_at dksX1_read_3 14 rfl rfl)
theorem dX1_read_84 : decode cX1_read 84 = .ok (.aload_n 3, 1) := dk_45 (dk_at dksX1_read_3 15 rfl rfl)
theorem dX1_read_85 : decode cX1_read 85 = .ok (.arraylength, 1) := dk_190 (dk_at dksX1_read_3 16 rfl rfl)
theorem dX1_read_86 : decode cX1_read 86 = .ok (.istore 4, 2) := dk_54 4 (dk_at dksX1_read_3 17 rfl rfl)
theorem dX1_read_88 : decode cX1_read 88 = .ok (.iconst 0, 1) := dk_3 (dk_at dksX1_read_3 19 rfl rfl)
theorem dX1_read_89 : decode cX1_read 89 = .ok (.istore 5, 2) := dk_54 5 (dk_at dksX1_read_3 20 rfl rfl)
theorem dX1_read_91 : decode cX1_read 91 = .ok (.iload 5, 2) := dk_21 5 (dk_at dksX1_read_3 22 rfl rfl)
theorem dX1_read_93 : decode cX1_read 93 = .ok (.iload 4, 2) := dk_21 4 (dk_at dksX1_read_4 0 rfl rfl)
theorem dX1_read_95 : decode cX1_read 95 = .ok (.if_icmp .ge 20, 3) := dk_162 0 20 (dk_at dksX1_read_4 2 rfl rfl)
theorem dX1_read_98 : decode cX1_read 98 = .ok (.aload_n 3, 1) := dk_45 (dk_at dksX1_read_4 5 rfl rfl)
theorem dX1_read_99 : decode cX1_read 99 = .ok (.iload 5, 2) := dk_21 5 (dk_at dksX1_read_4 6 rfl rfl)
theorem dX1_read_101 : decode cX1_read 101 = .ok (.aaload, 1) := dk_50 (dk_at dksX1_read_4 8 rfl rfl)
theorem dX1_read_102 : decode cX1_read 102 = .ok (.astore 6, 2) := dk_58 6 (dk_at dksX1_read_4 9 rfl rfl)
theorem dX1_read_104 : decode cX1_read 104 = .ok (.aload 6, 2) := dk_25 6 (dk_at dksX1_read_4 11 rfl rfl)
theorem dX1_read_106 : decode cX1_read 106 = .ok (.invokevirtual 126, 3) := dk_182 0 126 (dk_at dksX1_read_4 13 rfl rfl)
theorem dX1_read_109 : decode cX1_read 109 = .ok (.iinc 5 1, 3) := dk_132 5 1 (dk_at dksX1_read_4 16 rfl rfl)
theorem dX1_read_112 : decode cX1_read 112 = .ok (.goto (-21), 3) := dk_167 255 235 (dk_at dksX1_read_4 19 rfl rfl)
theorem dX1_read_115 : decode cX1_read 115 = .ok (.iconst 0, 1) := dk_3 (dk_at dksX1_read_4 22 rfl rfl)
theorem dX1_read_116 : decode cX1_read 116 = .ok (.istore_n 3, 1) := dk_62 (dk_at dksX1_read_4 23 rfl rfl)
theorem dX1_read_117 : decode cX1_read 117 = .ok (.iload_n 3, 1) := dk_29 (dk_at dksX1_read_5 0 rfl rfl)
theorem dX1_read_118 : decode cX1_read 118 = .ok (.bipush 6, 2) := dk_16 6 (dk_at dksX1_read_5 1 rfl rfl)
theorem dX1_read_120 : decode cX1_read 120 = .ok (.if_icmp .ge 26, 3) := dk_162 0 26 (dk_at dksX1_read_5 3 rfl rfl)
theorem dX1_read_123 : decode cX1_read 123 = .ok (.aload_n 0, 1) := dk_42 (dk_at dksX1_read_5 6 rfl rfl)
theorem dX1_read_124 : decode cX1_read 124 = .ok (.getfield 84, 3) := dk_180 0 84 (dk_at dksX1_read_5 7 rfl rfl)
theorem dX1_read_127 : decode cX1_read 127 = .ok (.iload_n 3, 1) := dk_29 (dk_at dksX1_read_5 10 rfl rfl)
theorem dX1_read_128 : decode cX1_read 128 = .ok (.iconst 0, 1) := dk_3 (dk_at dksX1_read_5 11 rfl rfl)
theorem dX1_read_129 : decode cX1_read 129 = .ok (.iastore, 1) := dk_79 (dk_at dksX1_read_5 12 rfl rfl)
theorem dX1_read_130 : decode cX1_read 130 = .ok (.aload_n 0, 1) := dk_42 (dk_at dksX1_read_5 13 rfl rfl)
theorem dX1_read_131 : decode cX1_read 131 = .ok (.getfield 69, 3) := dk_180 0 69 (dk_at dksX1_read_5 14 rfl rfl)
theorem dX1_read_134 : decode cX1_read 134 = .ok (.getfield 129, 3) := dk_180 0 129 (dk_at dksX1_read_5 17 rfl rfl)
theorem dX1_read_137 : decode cX1_read 137 = .ok (.iload_n 3, 1) := dk_29 (dk_at dksX1_read_5 20 rfl rfl)
theorem dX1_read_138 : decode cX1_read 138 = .ok (.iconst 0, 1) := dk_3 (dk_at dksX1_read_5 21 rfl rfl)
theorem dX1_read_139 : decode cX1_read 139 = .ok (.iastore, 1) := dk_79 (dk_at dksX1_read_5 22 rfl rfl)
theorem dX1_read_140 : decode cX1_read 140 = .ok (.iinc 3 1, 3) := dk_132 3 1 (dk_at dksX1_read_6 0 rfl rfl)
theorem dX1_read_143 : decode cX1_read 143 = .ok (.goto (-26), 3) := dk_167 255 230 (dk_at dksX1_read_6 3 rfl rfl)
theorem dX1_read_146 : decode cX1_read 146 = .ok (.aload_n 0, 1) := dk_42 (dk_at dksX1_read_6 6 rfl rfl)
theorem dX1_read_147 : decode cX1_read 147 = .ok (.iconst 0, 1) := dk_3 (dk_at dksX1_read_6 7 rfl rfl)
theorem dX1_read_148 : decode cX1_read 148 = .ok (.putfield 132, 3) := dk_181 0 132 (dk_at dksX1_read_6 8 rfl rfl)
theorem dX1_read_151 : decode cX1_read 151 = .ok (.aload_n 0, 1) := dk_42 (dk_at dksX1_read_6 11 rfl rfl)
theorem dX1_read_152 : decode cX1_read 152 = .ok (.iconst 0, 1) := dk_3 (dk_at dksX1_read_6 12 rfl rfl)
theorem dX1_read_153 : decode cX1_read 153 = .ok (.putfield 135, 3) := dk_181 0 135 (dk_at dksX1_read_6 13 rfl rfl)
theorem dX1_read_156 : decode cX1_read 156 = .ok (.iconst 0, 1) := dk_3 (dk_at dksX1_read_6 16 rfl rfl)
theorem dX1_read_157 : decode cX1_read 157 = .ok (.ireturn, 1) := dk_172 (dk_at dksX1_read_6 17 rfl rfl)
abbrev cX1_place : ByteArray := prog_1_method_5_code
def yX1_place : MethodName := ⟨RX1, "place", "()I"⟩
theorem dX1_place_0 : decode cX1_place 0 = .ok (.aload_n 0, 1) := by decide +kernel
theorem dX1_place_1 : decode cX1_place 1 = .ok (.getfield 80, 3) := by decide +kernel
theorem dX1_place_4 : decode cX1_place 4 = .ok (.ireturn, 1) := by decide +kernel
abbrev cX1_count : ByteArray := prog_1_method_6_code
def yX1_count : MethodName := ⟨RX1, "count", "(I)I"⟩
def dkwX1_count_3 : List UInt8 := [2, 172]
abbrev dktX1_count_3 : List UInt8 := dkwX1_count_3 ++ []
def dkwX1_count_2 : List UInt8 := [42, 180, 0, 45, 180, 0, 138, 172, 42, 180, 0, 45, 180, 0, 141, 172, 42, 180, 0, 45, 180, 0, 144, 172]
abbrev dktX1_count_2 : List UInt8 := dkwX1_count_2 ++ dktX1_count_3
def dkwX1_count_1 : List UInt8 := [170, 0, 0, 0, 0, 50, 0, 0, 0, 0, 0, 0, 0, 2, 0, 0, 0, 26, 0, 0, 0, 34, 0, 0, 0, 42]
abbrev dktX1_count_1 : List UInt8 := dkwX1_count_1 ++ dktX1_count_2
def dkwX1_count_0 : List UInt8 := [42, 180, 0, 119, 154, 0, 5, 2, 172, 27]
abbrev dktX1_count_0 : List UInt8 := dkwX1_count_0 ++ dktX1_count_1
theorem dksX1_count_0 : cX1_count.data.toList.drop 0 = dktX1_count_0 := by decide +kernel
theorem dksX1_count_1 : cX1_count.data.toList.drop 10 = dktX1_count_1 := dk_seg dksX1_count_0 10 rfl rfl
theorem dksX1_count_2 : cX1_count.data.toList.drop 36 = dktX1_count_2 := dk_seg dksX1_count_1 26 rfl rfl
theorem dksX1_count_3 : cX1_count.data.toList.drop 60 = dktX1_count_3 := dk_seg dksX1_count_2 24 rfl rfl
theorem dX1_count_0 : decode cX1_count 0 = .ok (.aload_n 0, 1) := dk_42 (dk_at dksX1_count_0 0 rfl rfl)
theorem dX1_count_1 : decode cX1_count 1 = .ok (.getfield 119, 3) := dk_180 0 119 (dk_at dksX1_count_0 1 rfl rfl)
theorem dX1_count_4 : decode cX1_count 4 = .ok (.ifCond .ne 5, 3) := dk_154 0 5 (dk_at dksX1_count_0 4 rfl rfl)
theorem dX1_count_7 : decode cX1_count 7 = .ok (.iconst (-1), 1) := dk_2 (dk_at dksX1_count_0 7 rfl rfl)
theorem dX1_count_8 : decode cX1_count 8 = .ok (.ireturn, 1) := dk_172 (dk_at dksX1_count_0 8 rfl rfl)
theorem dX1_count_9 : decode cX1_count 9 = .ok (.iload_n 1, 1) := dk_27 (dk_at dksX1_count_0 9 rfl rfl)
theorem dX1_count_10 : decode cX1_count 10 = .ok (.tableswitch 50 0 2 #[26, 34, 42], 26) := by decide +kernel
theorem dX1_count_36 : decode cX1_count 36 = .ok (.aload_n 0, 1) := dk_42 (dk_at dksX1_count_2 0 rfl rfl)
theorem dX1_count_37 : decode cX1_count 37 = .ok (.getfield 45, 3) := dk_180 0 45 (dk_at dksX1_count_2 1 rfl rfl)
theorem dX1_count_40 : decode cX1_count 40 = .ok (.getfield 138, 3) := dk_180 0 138 (dk_at dksX1_count_2 4 rfl rfl)
theorem dX1_count_43 : decode cX1_count 43 = .ok (.ireturn, 1) := dk_172 (dk_at dksX1_count_2 7 rfl rfl)
theorem dX1_count_44 : decode cX1_count 44 = .ok (.aload_n 0, 1) := dk_42 (dk_at dksX1_count_2 8 rfl rfl)
theorem dX1_count_45 : decode cX1_count 45 = .ok (.getfield 45, 3) := dk_180 0 45 (dk_at dksX1_count_2 9 rfl rfl)
theorem dX1_count_48 : decode cX1_count 48 = .ok (.getfield 141, 3) := dk_180 0 141 (dk_at dksX1_count_2 12 rfl rfl)
theorem dX1_count_51 : decode cX1_count 51 = .ok (.ireturn, 1) := dk_172 (dk_at dksX1_count_2 15 rfl rfl)
theorem dX1_count_52 : decode cX1_count 52 = .ok (.aload_n 0, 1) := dk_42 (dk_at dksX1_count_2 16 rfl rfl)
theorem dX1_count_53 : decode cX1_count 53 = .ok (.getfield 45, 3) := dk_180 0 45 (dk_at dksX1_count_2 17 rfl rfl)
theorem dX1_count_56 : decode cX1_count 56 = .ok (.getfield 144, 3) := dk_180 0 144 (dk_at dksX1_count_2 20 rfl rfl)
theorem dX1_count_59 : decode cX1_count 59 = .ok (.ireturn, 1) := dk_172 (dk_at dksX1_count_2 23 rfl rfl)
theorem dX1_count_60 : decode cX1_count 60 = .ok (.iconst (-1), 1) := dk_2 (dk_at dksX1_count_3 0 rfl rfl)
theorem dX1_count_61 : decode cX1_count 61 = .ok (.ireturn, 1) := dk_172 (dk_at dksX1_count_3 1 rfl rfl)
abbrev cX1_letter : ByteArray := prog_1_method_7_code
def yX1_letter : MethodName := ⟨RX1, "letter", "(I)I"⟩
def dkwX1_letter_1 : List UInt8 := [180, 0, 45, 180, 0, 147, 27, 46, 167, 0, 4, 2, 172]
abbrev dktX1_letter_1 : List UInt8 := dkwX1_letter_1 ++ []
def dkwX1_letter_0 : List UInt8 := [42, 180, 0, 119, 153, 0, 30, 27, 155, 0, 26, 27, 42, 180, 0, 45, 180, 0, 144, 162, 0, 15, 42]
abbrev dktX1_letter_0 : List UInt8 := dkwX1_letter_0 ++ dktX1_letter_1
theorem dksX1_letter_0 : cX1_letter.data.toList.drop 0 = dktX1_letter_0 := by decide +kernel
theorem dksX1_letter_1 : cX1_letter.data.toList.drop 23 = dktX1_letter_1 := dk_seg dksX1_letter_0 23 rfl rfl
theorem dX1_letter_0 : decode cX1_letter 0 = .ok (.aload_n 0, 1) := dk_42 (dk_at dksX1_letter_0 0 rfl rfl)
theorem dX1_letter_1 : decode cX1_letter 1 = .ok (.getfield 119, 3) := dk_180 0 119 (dk_at dksX1_letter_0 1 rfl rfl)
theorem dX1_letter_4 : decode cX1_letter 4 = .ok (.ifCond .eq 30, 3) := dk_153 0 30 (dk_at dksX1_letter_0 4 rfl rfl)
theorem dX1_letter_7 : decode cX1_letter 7 = .ok (.iload_n 1, 1) := dk_27 (dk_at dksX1_letter_0 7 rfl rfl)
theorem dX1_letter_8 : decode cX1_letter 8 = .ok (.ifCond .lt 26, 3) := dk_155 0 26 (dk_at dksX1_letter_0 8 rfl rfl)
theorem dX1_letter_11 : decode cX1_letter 11 = .ok (.iload_n 1, 1) := dk_27 (dk_at dksX1_letter_0 11 rfl rfl)
theorem dX1_letter_12 : decode cX1_letter 12 = .ok (.aload_n 0, 1) := dk_42 (dk_at dksX1_letter_0 12 rfl rfl)
theorem dX1_letter_13 : decode cX1_letter 13 = .ok (.getfield 45, 3) := dk_180 0 45 (dk_at dksX1_letter_0 13 rfl rfl)
theorem dX1_letter_16 : decode cX1_letter 16 = .ok (.getfield 144, 3) := dk_180 0 144 (dk_at dksX1_letter_0 16 rfl rfl)
theorem dX1_letter_19 : decode cX1_letter 19 = .ok (.if_icmp .ge 15, 3) := dk_162 0 15 (dk_at dksX1_letter_0 19 rfl rfl)
theorem dX1_letter_22 : decode cX1_letter 22 = .ok (.aload_n 0, 1) := dk_42 (dk_at dksX1_letter_0 22 rfl rfl)
theorem dX1_letter_23 : decode cX1_letter 23 = .ok (.getfield 45, 3) := dk_180 0 45 (dk_at dksX1_letter_1 0 rfl rfl)
theorem dX1_letter_26 : decode cX1_letter 26 = .ok (.getfield 147, 3) := dk_180 0 147 (dk_at dksX1_letter_1 3 rfl rfl)
theorem dX1_letter_29 : decode cX1_letter 29 = .ok (.iload_n 1, 1) := dk_27 (dk_at dksX1_letter_1 6 rfl rfl)
theorem dX1_letter_30 : decode cX1_letter 30 = .ok (.iaload, 1) := dk_46 (dk_at dksX1_letter_1 7 rfl rfl)
theorem dX1_letter_31 : decode cX1_letter 31 = .ok (.goto 4, 3) := dk_167 0 4 (dk_at dksX1_letter_1 8 rfl rfl)
theorem dX1_letter_34 : decode cX1_letter 34 = .ok (.iconst (-1), 1) := dk_2 (dk_at dksX1_letter_1 11 rfl rfl)
theorem dX1_letter_35 : decode cX1_letter 35 = .ok (.ireturn, 1) := dk_172 (dk_at dksX1_letter_1 12 rfl rfl)
abbrev cX1_split : ByteArray := prog_1_method_24_code
def yX1_split : MethodName := ⟨RX1, "split", "()I"⟩
def dkwX1_split_11 : List UInt8 := [4, 181, 0, 132, 21, 4, 172]
abbrev dktX1_split_11 : List UInt8 := dkwX1_split_11 ++ []
def dkwX1_split_10 : List UInt8 := [184, 1, 3, 42, 180, 0, 88, 21, 6, 92, 46, 4, 96, 79, 167, 255, 214, 132, 6, 1, 167, 255, 190, 42]
abbrev dktX1_split_10 : List UInt8 := dkwX1_split_10 ++ dktX1_split_11
def dkwX1_split_9 : List UInt8 := [182, 0, 214, 192, 0, 7, 44, 182, 0, 255, 153, 0, 31, 25, 5, 21, 6, 182, 0, 214, 192, 0, 7, 44]
abbrev dktX1_split_9 : List UInt8 := dkwX1_split_9 ++ dktX1_split_10
def dkwX1_split_8 : List UInt8 := [21, 6, 25, 5, 182, 0, 200, 162, 0, 62, 42, 180, 0, 88, 21, 6, 3, 79, 25, 5, 21, 6]
abbrev dktX1_split_8 : List UInt8 := dkwX1_split_8 ++ dktX1_split_9
def dkwX1_split_7 : List UInt8 := [182, 0, 214, 192, 0, 7, 44, 184, 1, 3, 42, 180, 0, 76, 3, 50, 180, 0, 197, 58, 5, 3, 54, 6]
abbrev dktX1_split_7 : List UInt8 := dkwX1_split_7 ++ dktX1_split_8
def dkwX1_split_6 : List UInt8 := [182, 0, 214, 192, 0, 7, 44, 182, 0, 255, 154, 0, 9, 132, 4, 1, 167, 255, 237, 45, 21, 4]
abbrev dktX1_split_6 : List UInt8 := dkwX1_split_6 ++ dktX1_split_7
def dkwX1_split_5 : List UInt8 := [44, 3, 16, 6, 184, 0, 249, 42, 180, 0, 76, 4, 50, 180, 0, 197, 78, 3, 54, 4, 45, 21, 4]
abbrev dktX1_split_5 : List UInt8 := dkwX1_split_5 ++ dktX1_split_6
def dkwX1_split_4 : List UInt8 := [42, 180, 0, 76, 4, 50, 180, 0, 194, 164, 0, 5, 2, 172, 16, 6, 188, 10, 77, 42, 180, 0, 84, 3]
abbrev dktX1_split_4 : List UInt8 := dkwX1_split_4 ++ dktX1_split_5
def dkwX1_split_3 : List UInt8 := [21, 5, 96, 60, 132, 4, 1, 167, 255, 236, 27, 42, 180, 0, 76, 3, 50, 180, 0, 194, 163, 0, 16, 27]
abbrev dktX1_split_3 : List UInt8 := dkwX1_split_3 ++ dktX1_split_4
def dkwX1_split_2 : List UInt8 := [180, 0, 84, 77, 44, 190, 62, 3, 54, 4, 21, 4, 29, 162, 0, 20, 44, 21, 4, 46, 54, 5, 27]
abbrev dktX1_split_2 : List UInt8 := dkwX1_split_2 ++ dktX1_split_3
def dkwX1_split_1 : List UInt8 := [50, 182, 0, 238, 153, 0, 13, 42, 182, 0, 246, 8, 126, 8, 159, 0, 5, 2, 172, 3, 60, 42]
abbrev dktX1_split_1 : List UInt8 := dkwX1_split_1 ++ dktX1_split_2
def dkwX1_split_0 : List UInt8 := [42, 180, 0, 119, 153, 0, 37, 42, 180, 0, 76, 3, 50, 182, 0, 238, 153, 0, 25, 42, 180, 0, 76, 4]
abbrev dktX1_split_0 : List UInt8 := dkwX1_split_0 ++ dktX1_split_1
theorem dksX1_split_0 : cX1_split.data.toList.drop 0 = dktX1_split_0 := by decide +kernel
theorem dksX1_split_1 : cX1_split.data.toList.drop 24 = dktX1_split_1 := dk_seg dksX1_split_0 24 rfl rfl
theorem dksX1_split_2 : cX1_split.data.toList.drop 46 = dktX1_split_2 := dk_seg dksX1_split_1 22 rfl rfl
theorem dksX1_split_3 : cX1_split.data.toList.drop 69 = dktX1_split_3 := dk_seg dksX1_split_2 23 rfl rfl
theorem dksX1_split_4 : cX1_split.data.toList.drop 93 = dktX1_split_4 := dk_seg dksX1_split_3 24 rfl rfl
theorem dksX1_split_5 : cX1_split.data.toList.drop 117 = dktX1_split_5 := dk_seg dksX1_split_4 24 rfl rfl
theorem dksX1_split_6 : cX1_split.data.toList.drop 140 = dktX1_split_6 := dk_seg dksX1_split_5 23 rfl rfl
theorem dksX1_split_7 : cX1_split.data.toList.drop 162 = dktX1_split_7 := dk_seg dksX1_split_6 22 rfl rfl
theorem dksX1_split_8 : cX1_split.data.toList.drop 186 = dktX1_split_8 := dk_seg dksX1_split_7 24 rfl rfl
theorem dksX1_split_9 : cX1_split.data.toList.drop 208 = dktX1_split_9 := dk_seg dksX1_split_8 22 rfl rfl
theorem dksX1_split_10 : cX1_split.data.toList.drop 232 = dktX1_split_10 := dk_seg dksX1_split_9 24 rfl rfl
theorem dksX1_split_11 : cX1_split.data.toList.drop 256 = dktX1_split_11 := dk_seg dksX1_split_10 24 rfl rfl
theorem dX1_split_0 : decode cX1_split 0 = .ok (.aload_n 0, 1) := dk_42 (dk_at dksX1_split_0 0 rfl rfl)
theorem dX1_split_1 : decode cX1_split 1 = .ok (.getfield 119, 3) := dk_180 0 119 (dk_at dksX1_split_0 1 rfl rfl)
theorem dX1_split_4 : decode cX1_split 4 = .ok (.ifCond .eq 37, 3) := dk_153 0 37 (dk_at dksX1_split_0 4 rfl rfl)
theorem dX1_split_7 : decode cX1_split 7 = .ok (.aload_n 0, 1) := dk_42 (dk_at dksX1_split_0 7 rfl rfl)
theorem dX1_split_8 : decode cX1_split 8 = .ok (.getfield 76, 3) := dk_180 0 76 (dk_at dksX1_split_0 8 rfl rfl)
theorem dX1_split_11 : decode cX1_split 11 = .ok (.iconst 0, 1) := dk_3 (dk_at dksX1_split_0 11 rfl rfl)
theorem dX1_split_12 : decode cX1_split 12 = .ok (.aaload, 1) := dk_50 (dk_at dksX1_split_0 12 rfl rfl)
theorem dX1_split_13 : decode cX1_split 13 = .ok (.invokevirtual 238, 3) := dk_182 0 238 (dk_at dksX1_split_0 13 rfl rfl)
theorem dX1_split_16 : decode cX1_split 16 = .ok (.ifCond .eq 25, 3) := dk_153 0 25 (dk_at dksX1_split_0 16 rfl rfl)
theorem dX1_split_19 : decode cX1_split 19 = .ok (.aload_n 0, 1) := dk_42 (dk_at dksX1_split_0 19 rfl rfl)
theorem dX1_split_20 : decode cX1_split 20 = .ok (.getfield 76, 3) := dk_180 0 76 (dk_at dksX1_split_0 20 rfl rfl)
theorem dX1_split_23 : decode cX1_split 23 = .ok (.iconst 1, 1) := dk_4 (dk_at dksX1_split_0 23 rfl rfl)
theorem dX1_split_24 : decode cX1_split 24 = .ok (.aaload, 1) := dk_50 (dk_at dksX1_split_1 0 rfl rfl)
theorem dX1_split_25 : decode cX1_split 25 = .ok (.invokevirtual 238, 3) := dk_182 0 238 (dk_at dksX1_split_1 1 rfl rfl)
theorem dX1_split_28 : decode cX1_split 28 = .ok (.ifCond .eq 13, 3) := dk_153 0 13 (dk_at dksX1_split_1 4 rfl rfl)
theorem dX1_split_31 : decode cX1_split 31 = .ok (.aload_n 0, 1) := dk_42 (dk_at dksX1_split_1 7 rfl rfl)
theorem dX1_split_32 : decode cX1_split 32 = .ok (.invokevirtual 246, 3) := dk_182 0 246 (dk_at dksX1_split_1 8 rfl rfl)
theorem dX1_split_35 : decode cX1_split 35 = .ok (.iconst 5, 1) := dk_8 (dk_at dksX1_split_1 11 rfl rfl)
theorem dX1_split_36 : decode cX1_split 36 = .ok (.iand, 1) := dk_126 (dk_at dksX1_split_1 12 rfl rfl)
theorem dX1_split_37 : decode cX1_split 37 = .ok (.iconst 5, 1) := dk_8 (dk_at dksX1_split_1 13 rfl rfl)
theorem dX1_split_38 : decode cX1_split 38 = .ok (.if_icmp .eq 5, 3) := dk_159 0 5 (dk_at dksX1_split_1 14 rfl rfl)
theorem dX1_split_41 : decode cX1_split 41 = .ok (.iconst (-1), 1) := dk_2 (dk_at dksX1_split_1 17 rfl rfl)
theorem dX1_split_42 : decode cX1_split 42 = .ok (.ireturn, 1) := dk_172 (dk_at dksX1_split_1 18 rfl rfl)
theorem dX1_split_43 : decode cX1_split 43 = .ok (.iconst 0, 1) := dk_3 (dk_at dksX1_split_1 19 rfl rfl)
theorem dX1_split_44 : decode cX1_split 44 = .ok (.istore_n 1, 1) := dk_60 (dk_at dksX1_split_1 20 rfl rfl)
theorem dX1_split_45 : decode cX1_split 45 = .ok (.aload_n 0, 1) := dk_42 (dk_at dksX1_split_1 21 rfl rfl)
theorem dX1_split_46 : decode cX1_split 46 = .ok (.getfield 84, 3) := dk_180 0 84 (dk_at dksX1_split_2 0 rfl rfl)
theorem dX1_split_49 : decode cX1_split 49 = .ok (.astore_n 2, 1) := dk_77 (dk_at dksX1_split_2 3 rfl rfl)
theorem dX1_split_50 : decode cX1_split 50 = .ok (.aload_n 2, 1) := dk_44 (dk_at dksX1_split_2 4 rfl rfl)
theorem dX1_split_51 : decode cX1_split 51 = .ok (.arraylength, 1) := dk_190 (dk_at dksX1_split_2 5 rfl rfl)
theorem dX1_split_52 : decode cX1_split 52 = .ok (.istore_n 3, 1) := dk_62 (dk_at dksX1_split_2 6 rfl rfl)
theorem dX1_split_53 : decode cX1_split 53 = .ok (.iconst 0, 1) := dk_3 (dk_at dksX1_split_2 7 rfl rfl)
theorem dX1_split_54 : decode cX1_split 54 = .ok (.istore 4, 2) := dk_54 4 (dk_at dksX1_split_2 8 rfl rfl)
theorem dX1_split_56 : decode cX1_split 56 = .ok (.iload 4, 2) := dk_21 4 (dk_at dksX1_split_2 10 rfl rfl)
theorem dX1_split_58 : decode cX1_split 58 = .ok (.iload_n 3, 1) := dk_29 (dk_at dksX1_split_2 12 rfl rfl)
theorem dX1_split_59 : decode cX1_split 59 = .ok (.if_icmp .ge 20, 3) := dk_162 0 20 (dk_at dksX1_split_2 13 rfl rfl)
theorem dX1_split_62 : decode cX1_split 62 = .ok (.aload_n 2, 1) := dk_44 (dk_at dksX1_split_2 16 rfl rfl)
theorem dX1_split_63 : decode cX1_split 63 = .ok (.iload 4, 2) := dk_21 4 (dk_at dksX1_split_2 17 rfl rfl)
theorem dX1_split_65 : decode cX1_split 65 = .ok (.iaload, 1) := dk_46 (dk_at dksX1_split_2 19 rfl rfl)
theorem dX1_split_66 : decode cX1_split 66 = .ok (.istore 5, 2) := dk_54 5 (dk_at dksX1_split_2 20 rfl rfl)
theorem dX1_split_68 : decode cX1_split 68 = .ok (.iload_n 1, 1) := dk_27 (dk_at dksX1_split_2 22 rfl rfl)
theorem dX1_split_69 : decode cX1_split 69 = .ok (.iload 5, 2) := dk_21 5 (dk_at dksX1_split_3 0 rfl rfl)
theorem dX1_split_71 : decode cX1_split 71 = .ok (.iadd, 1) := dk_96 (dk_at dksX1_split_3 2 rfl rfl)
theorem dX1_split_72 : decode cX1_split 72 = .ok (.istore_n 1, 1) := dk_60 (dk_at dksX1_split_3 3 rfl rfl)
theorem dX1_split_73 : decode cX1_split 73 = .ok (.iinc 4 1, 3) := dk_132 4 1 (dk_at dksX1_split_3 4 rfl rfl)
theorem dX1_split_76 : decode cX1_split 76 = .ok (.goto (-20), 3) := dk_167 255 236 (dk_at dksX1_split_3 7 rfl rfl)
theorem dX1_split_79 : decode cX1_split 79 = .ok (.iload_n 1, 1) := dk_27 (dk_at dksX1_split_3 10 rfl rfl)
theorem dX1_split_80 : decode cX1_split 80 = .ok (.aload_n 0, 1) := dk_42 (dk_at dksX1_split_3 11 rfl rfl)
theorem dX1_split_81 : decode cX1_split 81 = .ok (.getfield 76, 3) := dk_180 0 76 (dk_at dksX1_split_3 12 rfl rfl)
theorem dX1_split_84 : decode cX1_split 84 = .ok (.iconst 0, 1) := dk_3 (dk_at dksX1_split_3 15 rfl rfl)
theorem dX1_split_85 : decode cX1_split 85 = .ok (.aaload, 1) := dk_50 (dk_at dksX1_split_3 16 rfl rfl)
theorem dX1_split_86 : decode cX1_split 86 = .ok (.getfield 194, 3) := dk_180 0 194 (dk_at dksX1_split_3 17 rfl rfl)
theorem dX1_split_89 : decode cX1_split 89 = .ok (.if_icmp .gt 16, 3) := dk_163 0 16 (dk_at dksX1_split_3 20 rfl rfl)
theorem dX1_split_92 : decode cX1_split 92 = .ok (.iload_n 1, 1) := dk_27 (dk_at dksX1_split_3 23 rfl rfl)
theorem dX1_split_93 : decode cX1_split 93 = .ok (.aload_n 0, 1) := dk_42 (dk_at dksX1_split_4 0 rfl rfl)
theorem dX1_split_94 : decode cX1_split 94 = .ok (.getfield 76, 3) := dk_180 0 76 (dk_at dksX1_split_4 1 rfl rfl)
theorem dX1_split_97 : decode cX1_split 97 = .ok (.iconst 1, 1) := dk_4 (dk_at dksX1_split_4 4 rfl rfl)
theorem dX1_split_98 : decode cX1_split 98 = .ok (.aaload, 1) := dk_50 (dk_at dksX1_split_4 5 rfl rfl)
theorem dX1_split_99 : decode cX1_split 99 = .ok (.getfield 194, 3) := dk_180 0 194 (dk_at dksX1_split_4 6 rfl rfl)
theorem dX1_split_102 : decode cX1_split 102 = .ok (.if_icmp .le 5, 3) := dk_164 0 5 (dk_at dksX1_split_4 9 rfl rfl)
theorem dX1_split_105 : decode cX1_split 105 = .ok (.iconst (-1), 1) := dk_2 (dk_at dksX1_split_4 12 rfl rfl)
theorem dX1_split_106 : decode cX1_split 106 = .ok (.ireturn, 1) := dk_172 (dk_at dksX1_split_4 13 rfl rfl)
theorem dX1_split_107 : decode cX1_split 107 = .ok (.bipush 6, 2) := dk_16 6 (dk_at dksX1_split_4 14 rfl rfl)
theorem dX1_split_109 : decode cX1_split 109 = .ok (.newarray .int, 2) := dk_188_10 (dk_at dksX1_split_4 16 rfl rfl)
theorem dX1_split_111 : decode cX1_split 111 = .ok (.astore_n 2, 1) := dk_77 (dk_at dksX1_split_4 18 rfl rfl)
theorem dX1_split_112 : decode cX1_split 112 = .ok (.aload_n 0, 1) := dk_42 (dk_at dksX1_split_4 19 rfl rfl)
theorem dX1_split_113 : decode cX1_split 113 = .ok (.getfield 84, 3) := dk_180 0 84 (dk_at dksX1_split_4 20 rfl rfl)
theorem dX1_split_116 : decode cX1_split 116 = .ok (.iconst 0, 1) := dk_3 (dk_at dksX1_split_4 23 rfl rfl)
theorem dX1_split_117 : decode cX1_split 117 = .ok (.aload_n 2, 1) := dk_44 (dk_at dksX1_split_5 0 rfl rfl)
theorem dX1_split_118 : decode cX1_split 118 = .ok (.iconst 0, 1) := dk_3 (dk_at dksX1_split_5 1 rfl rfl)
theorem dX1_split_119 : decode cX1_split 119 = .ok (.bipush 6, 2) := dk_16 6 (dk_at dksX1_split_5 2 rfl rfl)
theorem dX1_split_121 : decode cX1_split 121 = .ok (.invokestatic 249, 3) := dk_184 0 249 (dk_at dksX1_split_5 4 rfl rfl)
theorem dX1_split_124 : decode cX1_split 124 = .ok (.aload_n 0, 1) := dk_42 (dk_at dksX1_split_5 7 rfl rfl)
theorem dX1_split_125 : decode cX1_split 125 = .ok (.getfield 76, 3) := dk_180 0 76 (dk_at dksX1_split_5 8 rfl rfl)
theorem dX1_split_128 : decode cX1_split 128 = .ok (.iconst 1, 1) := dk_4 (dk_at dksX1_split_5 11 rfl rfl)
theorem dX1_split_129 : decode cX1_split 129 = .ok (.aaload, 1) := dk_50 (dk_at dksX1_split_5 12 rfl rfl)
theorem dX1_split_130 : decode cX1_split 130 = .ok (.getfield 197, 3) := dk_180 0 197 (dk_at dksX1_split_5 13 rfl rfl)
theorem dX1_split_133 : decode cX1_split 133 = .ok (.astore_n 3, 1) := dk_78 (dk_at dksX1_split_5 16 rfl rfl)
theorem dX1_split_134 : decode cX1_split 134 = .ok (.iconst 0, 1) := dk_3 (dk_at dksX1_split_5 17 rfl rfl)
theorem dX1_split_135 : decode cX1_split 135 = .ok (.istore 4, 2) := dk_54 4 (dk_at dksX1_split_5 18 rfl rfl)
theorem dX1_split_137 : decode cX1_split 137 = .ok (.aload_n 3, 1) := dk_45 (dk_at dksX1_split_5 20 rfl rfl)
theorem dX1_split_138 : decode cX1_split 138 = .ok (.iload 4, 2) := dk_21 4 (dk_at dksX1_split_5 21 rfl rfl)
theorem dX1_split_140 : decode cX1_split 140 = .ok (.invokevirtual 214, 3) := dk_182 0 214 (dk_at dksX1_split_6 0 rfl rfl)
theorem dX1_split_143 : decode cX1_split 143 = .ok (.checkcast 7, 3) := dk_192 0 7 (dk_at dksX1_split_6 3 rfl rfl)
theorem dX1_split_146 : decode cX1_split 146 = .ok (.aload_n 2, 1) := dk_44 (dk_at dksX1_split_6 6 rfl rfl)
theorem dX1_split_147 : decode cX1_split 147 = .ok (.invokevirtual 255, 3) := dk_182 0 255 (dk_at dksX1_split_6 7 rfl rfl)
theorem dX1_split_150 : decode cX1_split 150 = .ok (.ifCond .ne 9, 3) := dk_154 0 9 (dk_at dksX1_split_6 10 rfl rfl)
theorem dX1_split_153 : decode cX1_split 153 = .ok (.iinc 4 1, 3) := dk_132 4 1 (dk_at dksX1_split_6 13 rfl rfl)
theorem dX1_split_156 : decode cX1_split 156 = .ok (.goto (-19), 3) := dk_167 255 237 (dk_at dksX1_split_6 16 rfl rfl)
theorem dX1_split_159 : decode cX1_split 159 = .ok (.aload_n 3, 1) := dk_45 (dk_at dksX1_split_6 19 rfl rfl)
theorem dX1_split_160 : decode cX1_split 160 = .ok (.iload 4, 2) := dk_21 4 (dk_at dksX1_split_6 20 rfl rfl)
theorem dX1_split_162 : decode cX1_split 162 = .ok (.invokevirtual 214, 3) := dk_182 0 214 (dk_at dksX1_split_7 0 rfl rfl)
theorem dX1_split_165 : decode cX1_split 165 = .ok (.checkcast 7, 3) := dk_192 0 7 (dk_at dksX1_split_7 3 rfl rfl)
theorem dX1_split_168 : decode cX1_split 168 = .ok (.aload_n 2, 1) := dk_44 (dk_at dksX1_split_7 6 rfl rfl)
theorem dX1_split_169 : decode cX1_split 169 = .ok (.invokestatic 259, 3) := dk_184 1 3 (dk_at dksX1_split_7 7 rfl rfl)
theorem dX1_split_172 : decode cX1_split 172 = .ok (.aload_n 0, 1) := dk_42 (dk_at dksX1_split_7 10 rfl rfl)
theorem dX1_split_173 : decode cX1_split 173 = .ok (.getfield 76, 3) := dk_180 0 76 (dk_at dksX1_split_7 11 rfl rfl)
theorem dX1_split_176 : decode cX1_split 176 = .ok (.iconst 0, 1) := dk_3 (dk_at dksX1_split_7 14 rfl rfl)
theorem dX1_split_177 : decode cX1_split 177 = .ok (.aaload, 1) := dk_50 (dk_at dksX1_split_7 15 rfl rfl)
theorem dX1_split_178 : decode cX1_split 178 = .ok (.getfield 197, 3) := dk_180 0 197 (dk_at dksX1_split_7 16 rfl rfl)
theorem dX1_split_181 : decode cX1_split 181 = .ok (.astore 5, 2) := dk_58 5 (dk_at dksX1_split_7 19 rfl rfl)
theorem dX1_split_183 : decode cX1_split 183 = .ok (.iconst 0, 1) := dk_3 (dk_at dksX1_split_7 21 rfl rfl)
theorem dX1_split_184 : decode cX1_split 184 = .ok (.istore 6, 2) := dk_54 6 (dk_at dksX1_split_7 22 rfl rfl)
theorem dX1_split_186 : decode cX1_split 186 = .ok (.iload 6, 2) := dk_21 6 (dk_at dksX1_split_8 0 rfl rfl)
theorem dX1_split_188 : decode cX1_split 188 = .ok (.aload 5, 2) := dk_25 5 (dk_at dksX1_split_8 2 rfl rfl)
theorem dX1_split_190 : decode cX1_split 190 = .ok (.invokevirtual 200, 3) := dk_182 0 200 (dk_at dksX1_split_8 4 rfl rfl)
theorem dX1_split_193 : decode cX1_split 193 = .ok (.if_icmp .ge 62, 3) := dk_162 0 62 (dk_at dksX1_split_8 7 rfl rfl)
theorem dX1_split_196 : decode cX1_split 196 = .ok (.aload_n 0, 1) := dk_42 (dk_at dksX1_split_8 10 rfl rfl)
theorem dX1_split_197 : decode cX1_split 197 = .ok (.getfield 88, 3) := dk_180 0 88 (dk_at dksX1_split_8 11 rfl rfl)
theorem dX1_split_200 : decode cX1_split 200 = .ok (.iload 6, 2) := dk_21 6 (dk_at dksX1_split_8 14 rfl rfl)
theorem dX1_split_202 : decode cX1_split 202 = .ok (.iconst 0, 1) := dk_3 (dk_at dksX1_split_8 16 rfl rfl)
theorem dX1_split_203 : decode cX1_split 203 = .ok (.iastore, 1) := dk_79 (dk_at dksX1_split_8 17 rfl rfl)
theorem dX1_split_204 : decode cX1_split 204 = .ok (.aload 5, 2) := dk_25 5 (dk_at dksX1_split_8 18 rfl rfl)
theorem dX1_split_206 : decode cX1_split 206 = .ok (.iload 6, 2) := dk_21 6 (dk_at dksX1_split_8 20 rfl rfl)
theorem dX1_split_208 : decode cX1_split 208 = .ok (.invokevirtual 214, 3) := dk_182 0 214 (dk_at dksX1_split_9 0 rfl rfl)
theorem dX1_split_211 : decode cX1_split 211 = .ok (.checkcast 7, 3) := dk_192 0 7 (dk_at dksX1_split_9 3 rfl rfl)
theorem dX1_split_214 : decode cX1_split 214 = .ok (.aload_n 2, 1) := dk_44 (dk_at dksX1_split_9 6 rfl rfl)
theorem dX1_split_215 : decode cX1_split 215 = .ok (.invokevirtual 255, 3) := dk_182 0 255 (dk_at dksX1_split_9 7 rfl rfl)
theorem dX1_split_218 : decode cX1_split 218 = .ok (.ifCond .eq 31, 3) := dk_153 0 31 (dk_at dksX1_split_9 10 rfl rfl)
theorem dX1_split_221 : decode cX1_split 221 = .ok (.aload 5, 2) := dk_25 5 (dk_at dksX1_split_9 13 rfl rfl)
theorem dX1_split_223 : decode cX1_split 223 = .ok (.iload 6, 2) := dk_21 6 (dk_at dksX1_split_9 15 rfl rfl)
theorem dX1_split_225 : decode cX1_split 225 = .ok (.invokevirtual 214, 3) := dk_182 0 214 (dk_at dksX1_split_9 17 rfl rfl)
theorem dX1_split_228 : decode cX1_split 228 = .ok (.checkcast 7, 3) := dk_192 0 7 (dk_at dksX1_split_9 20 rfl rfl)
theorem dX1_split_231 : decode cX1_split 231 = .ok (.aload_n 2, 1) := dk_44 (dk_at dksX1_split_9 23 rfl rfl)
theorem dX1_split_232 : decode cX1_split 232 = .ok (.invokestatic 259, 3) := dk_184 1 3 (dk_at dksX1_split_10 0 rfl rfl)
theorem dX1_split_235 : decode cX1_split 235 = .ok (.aload_n 0, 1) := dk_42 (dk_at dksX1_split_10 3 rfl rfl)
theorem dX1_split_236 : decode cX1_split 236 = .ok (.getfield 88, 3) := dk_180 0 88 (dk_at dksX1_split_10 4 rfl rfl)
theorem dX1_split_239 : decode cX1_split 239 = .ok (.iload 6, 2) := dk_21 6 (dk_at dksX1_split_10 7 rfl rfl)
theorem dX1_split_241 : decode cX1_split 241 = .ok (.dup2, 1) := dk_92 (dk_at dksX1_split_10 9 rfl rfl)
theorem dX1_split_242 : decode cX1_split 242 = .ok (.iaload, 1) := dk_46 (dk_at dksX1_split_10 10 rfl rfl)
theorem dX1_split_243 : decode cX1_split 243 = .ok (.iconst 1, 1) := dk_4 (dk_at dksX1_split_10 11 rfl rfl)
theorem dX1_split_244 : decode cX1_split 244 = .ok (.iadd, 1) := dk_96 (dk_at dksX1_split_10 12 rfl rfl)
theorem dX1_split_245 : decode cX1_split 245 = .ok (.iastore, 1) := dk_79 (dk_at dksX1_split_10 13 rfl rfl)
theorem dX1_split_246 : decode cX1_split 246 = .ok (.goto (-42), 3) := dk_167 255 214 (dk_at dksX1_split_10 14 rfl rfl)
theorem dX1_split_249 : decode cX1_split 249 = .ok (.iinc 6 1, 3) := dk_132 6 1 (dk_at dksX1_split_10 17 rfl rfl)
theorem dX1_split_252 : decode cX1_split 252 = .ok (.goto (-66), 3) := dk_167 255 190 (dk_at dksX1_split_10 20 rfl rfl)
theorem dX1_split_255 : decode cX1_split 255 = .ok (.aload_n 0, 1) := dk_42 (dk_at dksX1_split_10 23 rfl rfl)
theorem dX1_split_256 : decode cX1_split 256 = .ok (.iconst 1, 1) := dk_4 (dk_at dksX1_split_11 0 rfl rfl)
theorem dX1_split_257 : decode cX1_split 257 = .ok (.putfield 132, 3) := dk_181 0 132 (dk_at dksX1_split_11 1 rfl rfl)
theorem dX1_split_260 : decode cX1_split 260 = .ok (.iload 4, 2) := dk_21 4 (dk_at dksX1_split_11 4 rfl rfl)
theorem dX1_split_262 : decode cX1_split 262 = .ok (.ireturn, 1) := dk_172 (dk_at dksX1_split_11 6 rfl rfl)
abbrev cX1_holds : ByteArray := prog_1_method_23_code
def yX1_holds : MethodName := ⟨RX1, "holds", "()I"⟩
def dkwX1_holds_8 : List UInt8 := [153, 0, 7, 7, 167, 0, 4, 3, 96, 172]
abbrev dktX1_holds_8 : List UInt8 := dkwX1_holds_8 ++ []
def dkwX1_holds_7 : List UInt8 := [167, 255, 226, 27, 153, 0, 7, 4, 167, 0, 4, 3, 28, 153, 0, 7, 5, 167, 0, 4, 3, 96, 29]
abbrev dktX1_holds_7 : List UInt8 := dkwX1_holds_7 ++ dktX1_holds_8
def dkwX1_holds_6 : List UInt8 := [25, 4, 21, 6, 46, 54, 7, 29, 21, 7, 155, 0, 7, 4, 167, 0, 4, 3, 126, 62, 132, 6, 1]
abbrev dktX1_holds_6 : List UInt8 := dkwX1_holds_6 ++ dktX1_holds_7
def dkwX1_holds_5 : List UInt8 := [167, 255, 155, 42, 180, 0, 84, 58, 4, 25, 4, 190, 54, 5, 3, 54, 6, 21, 6, 21, 5, 162, 0, 29]
abbrev dktX1_holds_5 : List UInt8 := dkwX1_holds_5 ++ dktX1_holds_6
def dkwX1_holds_4 : List UInt8 := [167, 0, 4, 3, 126, 60, 28, 21, 5, 154, 0, 7, 4, 167, 0, 4, 3, 126, 61, 132, 4, 1]
abbrev dktX1_holds_4 : List UInt8 := dkwX1_holds_4 ++ dktX1_holds_5
def dkwX1_holds_3 : List UInt8 := [132, 6, 1, 167, 255, 215, 27, 21, 5, 42, 180, 0, 45, 180, 0, 153, 21, 4, 46, 160, 0, 7, 4]
abbrev dktX1_holds_3 : List UInt8 := dkwX1_holds_3 ++ dktX1_holds_4
def dkwX1_holds_2 : List UInt8 := [180, 0, 45, 180, 0, 156, 21, 4, 50, 21, 6, 46, 42, 180, 0, 84, 21, 6, 46, 104, 96, 54, 5]
abbrev dktX1_holds_2 : List UInt8 := dkwX1_holds_2 ++ dktX1_holds_3
def dkwX1_holds_1 : List UInt8 := [162, 0, 95, 3, 54, 5, 3, 54, 6, 21, 6, 42, 180, 0, 45, 180, 0, 141, 162, 0, 35, 21, 5, 42]
abbrev dktX1_holds_1 : List UInt8 := dkwX1_holds_1 ++ dktX1_holds_2
def dkwX1_holds_0 : List UInt8 := [42, 182, 0, 163, 4, 60, 4, 61, 4, 62, 3, 54, 4, 21, 4, 42, 180, 0, 45, 180, 0, 138]
abbrev dktX1_holds_0 : List UInt8 := dkwX1_holds_0 ++ dktX1_holds_1
theorem dksX1_holds_0 : cX1_holds.data.toList.drop 0 = dktX1_holds_0 := by decide +kernel
theorem dksX1_holds_1 : cX1_holds.data.toList.drop 22 = dktX1_holds_1 := dk_seg dksX1_holds_0 22 rfl rfl
theorem dksX1_holds_2 : cX1_holds.data.toList.drop 46 = dktX1_holds_2 := dk_seg dksX1_holds_1 24 rfl rfl
theorem dksX1_holds_3 : cX1_holds.data.toList.drop 69 = dktX1_holds_3 := dk_seg dksX1_holds_2 23 rfl rfl
theorem dksX1_holds_4 : cX1_holds.data.toList.drop 92 = dktX1_holds_4 := dk_seg dksX1_holds_3 23 rfl rfl
theorem dksX1_holds_5 : cX1_holds.data.toList.drop 114 = dktX1_holds_5 := dk_seg dksX1_holds_4 22 rfl rfl
theorem dksX1_holds_6 : cX1_holds.data.toList.drop 138 = dktX1_holds_6 := dk_seg dksX1_holds_5 24 rfl rfl
theorem dksX1_holds_7 : cX1_holds.data.toList.drop 161 = dktX1_holds_7 := dk_seg dksX1_holds_6 23 rfl rfl
theorem dksX1_holds_8 : cX1_holds.data.toList.drop 184 = dktX1_holds_8 := dk_seg dksX1_holds_7 23 rfl rfl
theorem dX1_holds_0 : decode cX1_holds 0 = .ok (.aload_n 0, 1) := dk_42 (dk_at dksX1_holds_0 0 rfl rfl)
theorem dX1_holds_1 : decode cX1_holds 1 = .ok (.invokevirtual 163, 3) := dk_182 0 163 (dk_at dksX1_holds_0 1 rfl rfl)
theorem dX1_holds_4 : decode cX1_holds 4 = .ok (.iconst 1, 1) := dk_4 (dk_at dksX1_holds_0 4 rfl rfl)
theorem dX1_holds_5 : decode cX1_holds 5 = .ok (.istore_n 1, 1) := dk_60 (dk_at dksX1_holds_0 5 rfl rfl)
theorem dX1_holds_6 : decode cX1_holds 6 = .ok (.iconst 1, 1) := dk_4 (dk_at dksX1_holds_0 6 rfl rfl)
theorem dX1_holds_7 : decode cX1_holds 7 = .ok (.istore_n 2, 1) := dk_61 (dk_at dksX1_holds_0 7 rfl rfl)
theorem dX1_holds_8 : decode cX1_holds 8 = .ok (.iconst 1, 1) := dk_4 (dk_at dksX1_holds_0 8 rfl rfl)
theorem dX1_holds_9 : decode cX1_holds 9 = .ok (.istore_n 3, 1) := dk_62 (dk_at dksX1_holds_0 9 rfl rfl)
theorem dX1_holds_10 : decode cX1_holds 10 = .ok (.iconst 0, 1) := dk_3 (dk_at dksX1_holds_0 10 rfl rfl)
theorem dX1_holds_11 : decode cX1_holds 11 = .ok (.istore 4, 2) := dk_54 4 (dk_at dksX1_holds_0 11 rfl rfl)
theorem dX1_holds_13 : decode cX1_holds 13 = .ok (.iload 4, 2) := dk_21 4 (dk_at dksX1_holds_0 13 rfl rfl)
theorem dX1_holds_15 : decode cX1_holds 15 = .ok (.aload_n 0, 1) := dk_42 (dk_at dksX1_holds_0 15 rfl rfl)
theorem dX1_holds_16 : decode cX1_holds 16 = .ok (.getfield 45, 3) := dk_180 0 45 (dk_at dksX1_holds_0 16 rfl rfl)
theorem dX1_holds_19 : decode cX1_holds 19 = .ok (.getfield 138, 3) := dk_180 0 138 (dk_at dksX1_holds_0 19 rfl rfl)
theorem dX1_holds_22 : decode cX1_holds 22 = .ok (.if_icmp .ge 95, 3) := dk_162 0 95 (dk_at dksX1_holds_1 0 rfl rfl)
theorem dX1_holds_25 : decode cX1_holds 25 = .ok (.iconst 0, 1) := dk_3 (dk_at dksX1_holds_1 3 rfl rfl)
theorem dX1_holds_26 : decode cX1_holds 26 = .ok (.istore 5, 2) := dk_54 5 (dk_at dksX1_holds_1 4 rfl rfl)
theorem dX1_holds_28 : decode cX1_holds 28 = .ok (.iconst 0, 1) := dk_3 (dk_at dksX1_holds_1 6 rfl rfl)
theorem dX1_holds_29 : decode cX1_holds 29 = .ok (.istore 6, 2) := dk_54 6 (dk_at dksX1_holds_1 7 rfl rfl)
theorem dX1_holds_31 : decode cX1_holds 31 = .ok (.iload 6, 2) := dk_21 6 (dk_at dksX1_holds_1 9 rfl rfl)
theorem dX1_holds_33 : decode cX1_holds 33 = .ok (.aload_n 0, 1) := dk_42 (dk_at dksX1_holds_1 11 rfl rfl)
theorem dX1_holds_34 : decode cX1_holds 34 = .ok (.getfield 45, 3) := dk_180 0 45 (dk_at dksX1_holds_1 12 rfl rfl)
theorem dX1_holds_37 : decode cX1_holds 37 = .ok (.getfield 141, 3) := dk_180 0 141 (dk_at dksX1_holds_1 15 rfl rfl)
theorem dX1_holds_40 : decode cX1_holds 40 = .ok (.if_icmp .ge 35, 3) := dk_162 0 35 (dk_at dksX1_holds_1 18 rfl rfl)
theorem dX1_holds_43 : decode cX1_holds 43 = .ok (.iload 5, 2) := dk_21 5 (dk_at dksX1_holds_1 21 rfl rfl)
theorem dX1_holds_45 : decode cX1_holds 45 = .ok (.aload_n 0, 1) := dk_42 (dk_at dksX1_holds_1 23 rfl rfl)
theorem dX1_holds_46 : decode cX1_holds 46 = .ok (.getfield 45, 3) := dk_180 0 45 (dk_at dksX1_holds_2 0 rfl rfl)
theorem dX1_holds_49 : decode cX1_holds 49 = .ok (.getfield 156, 3) := dk_180 0 156 (dk_at dksX1_holds_2 3 rfl rfl)
theorem dX1_holds_52 : decode cX1_holds 52 = .ok (.iload 4, 2) := dk_21 4 (dk_at dksX1_holds_2 6 rfl rfl)
theorem dX1_holds_54 : decode cX1_holds 54 = .ok (.aaload, 1) := dk_50 (dk_at dksX1_holds_2 8 rfl rfl)
theorem dX1_holds_55 : decode cX1_holds 55 = .ok (.iload 6, 2) := dk_21 6 (dk_at dksX1_holds_2 9 rfl rfl)
theorem dX1_holds_57 : decode cX1_holds 57 = .ok (.iaload, 1) := dk_46 (dk_at dksX1_holds_2 11 rfl rfl)
theorem dX1_holds_58 : decode cX1_holds 58 = .ok (.aload_n 0, 1) := dk_42 (dk_at dksX1_holds_2 12 rfl rfl)
theorem dX1_holds_59 : decode cX1_holds 59 = .ok (.getfield 84, 3) := dk_180 0 84 (dk_at dksX1_holds_2 13 rfl rfl)
theorem dX1_holds_62 : decode cX1_holds 62 = .ok (.iload 6, 2) := dk_21 6 (dk_at dksX1_holds_2 16 rfl rfl)
theorem dX1_holds_64 : decode cX1_holds 64 = .ok (.iaload, 1) := dk_46 (dk_at dksX1_holds_2 18 rfl rfl)
theorem dX1_holds_65 : decode cX1_holds 65 = .ok (.imul, 1) := dk_104 (dk_at dksX1_holds_2 19 rfl rfl)
theorem dX1_holds_66 : decode cX1_holds 66 = .ok (.iadd, 1) := dk_96 (dk_at dksX1_holds_2 20 rfl rfl)
theorem dX1_holds_67 : decode cX1_holds 67 = .ok (.istore 5, 2) := dk_54 5 (dk_at dksX1_holds_2 21 rfl rfl)
theorem dX1_holds_69 : decode cX1_holds 69 = .ok (.iinc 6 1, 3) := dk_132 6 1 (dk_at dksX1_holds_3 0 rfl rfl)
theorem dX1_holds_72 : decode cX1_holds 72 = .ok (.goto (-41), 3) := dk_167 255 215 (dk_at dksX1_holds_3 3 rfl rfl)
theorem dX1_holds_75 : decode cX1_holds 75 = .ok (.iload_n 1, 1) := dk_27 (dk_at dksX1_holds_3 6 rfl rfl)
theorem dX1_holds_76 : decode cX1_holds 76 = .ok (.iload 5, 2) := dk_21 5 (dk_at dksX1_holds_3 7 rfl rfl)
theorem dX1_holds_78 : decode cX1_holds 78 = .ok (.aload_n 0, 1) := dk_42 (dk_at dksX1_holds_3 9 rfl rfl)
theorem dX1_holds_79 : decode cX1_holds 79 = .ok (.getfield 45, 3) := dk_180 0 45 (dk_at dksX1_holds_3 10 rfl rfl)
theorem dX1_holds_82 : decode cX1_holds 82 = .ok (.getfield 153, 3) := dk_180 0 153 (dk_at dksX1_holds_3 13 rfl rfl)
theorem dX1_holds_85 : decode cX1_holds 85 = .ok (.iload 4, 2) := dk_21 4 (dk_at dksX1_holds_3 16 rfl rfl)
theorem dX1_holds_87 : decode cX1_holds 87 = .ok (.iaload, 1) := dk_46 (dk_at dksX1_holds_3 18 rfl rfl)
theorem dX1_holds_88 : decode cX1_holds 88 = .ok (.if_icmp .ne 7, 3) := dk_160 0 7 (dk_at dksX1_holds_3 19 rfl rfl)
theorem dX1_holds_91 : decode cX1_holds 91 = .ok (.iconst 1, 1) := dk_4 (dk_at dksX1_holds_3 22 rfl rfl)
theorem dX1_holds_92 : decode cX1_holds 92 = .ok (.goto 4, 3) := dk_167 0 4 (dk_at dksX1_holds_4 0 rfl rfl)
theorem dX1_holds_95 : decode cX1_holds 95 = .ok (.iconst 0, 1) := dk_3 (dk_at dksX1_holds_4 3 rfl rfl)
theorem dX1_holds_96 : decode cX1_holds 96 = .ok (.iand, 1) := dk_126 (dk_at dksX1_holds_4 4 rfl rfl)
theorem dX1_holds_97 : decode cX1_holds 97 = .ok (.istore_n 1, 1) := dk_60 (dk_at dksX1_holds_4 5 rfl rfl)
theorem dX1_holds_98 : decode cX1_holds 98 = .ok (.iload_n 2, 1) := dk_28 (dk_at dksX1_holds_4 6 rfl rfl)
theorem dX1_holds_99 : decode cX1_holds 99 = .ok (.iload 5, 2) := dk_21 5 (dk_at dksX1_holds_4 7 rfl rfl)
theorem dX1_holds_101 : decode cX1_holds 101 = .ok (.ifCond .ne 7, 3) := dk_154 0 7 (dk_at dksX1_holds_4 9 rfl rfl)
theorem dX1_holds_104 : decode cX1_holds 104 = .ok (.iconst 1, 1) := dk_4 (dk_at dksX1_holds_4 12 rfl rfl)
theorem dX1_holds_105 : decode cX1_holds 105 = .ok (.goto 4, 3) := dk_167 0 4 (dk_at dksX1_holds_4 13 rfl rfl)
theorem dX1_holds_108 : decode cX1_holds 108 = .ok (.iconst 0, 1) := dk_3 (dk_at dksX1_holds_4 16 rfl rfl)
theorem dX1_holds_109 : decode cX1_holds 109 = .ok (.iand, 1) := dk_126 (dk_at dksX1_holds_4 17 rfl rfl)
theorem dX1_holds_110 : decode cX1_holds 110 = .ok (.istore_n 2, 1) := dk_61 (dk_at dksX1_holds_4 18 rfl rfl)
theorem dX1_holds_111 : decode cX1_holds 111 = .ok (.iinc 4 1, 3) := dk_132 4 1 (dk_at dksX1_holds_4 19 rfl rfl)
theorem dX1_holds_114 : decode cX1_holds 114 = .ok (.goto (-101), 3) := dk_167 255 155 (dk_at dksX1_holds_5 0 rfl rfl)
theorem dX1_holds_117 : decode cX1_holds 117 = .ok (.aload_n 0, 1) := dk_42 (dk_at dksX1_holds_5 3 rfl rfl)
theorem dX1_holds_118 : decode cX1_holds 118 = .ok (.getfield 84, 3) := dk_180 0 84 (dk_at dksX1_holds_5 4 rfl rfl)
theorem dX1_holds_121 : decode cX1_holds 121 = .ok (.astore 4, 2) := dk_58 4 (dk_at dksX1_holds_5 7 rfl rfl)
theorem dX1_holds_123 : decode cX1_holds 123 = .ok (.aload 4, 2) := dk_25 4 (dk_at dksX1_holds_5 9 rfl rfl)
theorem dX1_holds_125 : decode cX1_holds 125 = .ok (.arraylength, 1) := dk_190 (dk_at dksX1_holds_5 11 rfl rfl)
theorem dX1_holds_126 : decode cX1_holds 126 = .ok (.istore 5, 2) := dk_54 5 (dk_at dksX1_holds_5 12 rfl rfl)
theorem dX1_holds_128 : decode cX1_holds 128 = .ok (.iconst 0, 1) := dk_3 (dk_at dksX1_holds_5 14 rfl rfl)
theorem dX1_holds_129 : decode cX1_holds 129 = .ok (.istore 6, 2) := dk_54 6 (dk_at dksX1_holds_5 15 rfl rfl)
theorem dX1_holds_131 : decode cX1_holds 131 = .ok (.iload 6, 2) := dk_21 6 (dk_at dksX1_holds_5 17 rfl rfl)
theorem dX1_holds_133 : decode cX1_holds 133 = .ok (.iload 5, 2) := dk_21 5 (dk_at dksX1_holds_5 19 rfl rfl)
theorem dX1_holds_135 : decode cX1_holds 135 = .ok (.if_icmp .ge 29, 3) := dk_162 0 29 (dk_at dksX1_holds_5 21 rfl rfl)
theorem dX1_holds_138 : decode cX1_holds 138 = .ok (.aload 4, 2) := dk_25 4 (dk_at dksX1_holds_6 0 rfl rfl)
theorem dX1_holds_140 : decode cX1_holds 140 = .ok (.iload 6, 2) := dk_21 6 (dk_at dksX1_holds_6 2 rfl rfl)
theorem dX1_holds_142 : decode cX1_holds 142 = .ok (.iaload, 1) := dk_46 (dk_at dksX1_holds_6 4 rfl rfl)
theorem dX1_holds_143 : decode cX1_holds 143 = .ok (.istore 7, 2) := dk_54 7 (dk_at dksX1_holds_6 5 rfl rfl)
theorem dX1_holds_145 : decode cX1_holds 145 = .ok (.iload_n 3, 1) := dk_29 (dk_at dksX1_holds_6 7 rfl rfl)
theorem dX1_holds_146 : decode cX1_holds 146 = .ok (.iload 7, 2) := dk_21 7 (dk_at dksX1_holds_6 8 rfl rfl)
theorem dX1_holds_148 : decode cX1_holds 148 = .ok (.ifCond .lt 7, 3) := dk_155 0 7 (dk_at dksX1_holds_6 10 rfl rfl)
theorem dX1_holds_151 : decode cX1_holds 151 = .ok (.iconst 1, 1) := dk_4 (dk_at dksX1_holds_6 13 rfl rfl)
theorem dX1_holds_152 : decode cX1_holds 152 = .ok (.goto 4, 3) := dk_167 0 4 (dk_at dksX1_holds_6 14 rfl rfl)
theorem dX1_holds_155 : decode cX1_holds 155 = .ok (.iconst 0, 1) := dk_3 (dk_at dksX1_holds_6 17 rfl rfl)
theorem dX1_holds_156 : decode cX1_holds 156 = .ok (.iand, 1) := dk_126 (dk_at dksX1_holds_6 18 rfl rfl)
theorem dX1_holds_157 : decode cX1_holds 157 = .ok (.istore_n 3, 1) := dk_62 (dk_at dksX1_holds_6 19 rfl rfl)
theorem dX1_holds_158 : decode cX1_holds 158 = .ok (.iinc 6 1, 3) := dk_132 6 1 (dk_at dksX1_holds_6 20 rfl rfl)
theorem dX1_holds_161 : decode cX1_holds 161 = .ok (.goto (-30), 3) := dk_167 255 226 (dk_at dksX1_holds_7 0 rfl rfl)
theorem dX1_holds_164 : decode cX1_holds 164 = .ok (.iload_n 1, 1) := dk_27 (dk_at dksX1_holds_7 3 rfl rfl)
theorem dX1_holds_165 : decode cX1_holds 165 = .ok (.ifCond .eq 7, 3) := dk_153 0 7 (dk_at dksX1_holds_7 4 rfl rfl)
theorem dX1_holds_168 : decode cX1_holds 168 = .ok (.iconst 1, 1) := dk_4 (dk_at dksX1_holds_7 7 rfl rfl)
theorem dX1_holds_169 : decode cX1_holds 169 = .ok (.goto 4, 3) := dk_167 0 4 (dk_at dksX1_holds_7 8 rfl rfl)
theorem dX1_holds_172 : decode cX1_holds 172 = .ok (.iconst 0, 1) := dk_3 (dk_at dksX1_holds_7 11 rfl rfl)
theorem dX1_holds_173 : decode cX1_holds 173 = .ok (.iload_n 2, 1) := dk_28 (dk_at dksX1_holds_7 12 rfl rfl)
theorem dX1_holds_174 : decode cX1_holds 174 = .ok (.ifCond .eq 7, 3) := dk_153 0 7 (dk_at dksX1_holds_7 13 rfl rfl)
theorem dX1_holds_177 : decode cX1_holds 177 = .ok (.iconst 2, 1) := dk_5 (dk_at dksX1_holds_7 16 rfl rfl)
theorem dX1_holds_178 : decode cX1_holds 178 = .ok (.goto 4, 3) := dk_167 0 4 (dk_at dksX1_holds_7 17 rfl rfl)
theorem dX1_holds_181 : decode cX1_holds 181 = .ok (.iconst 0, 1) := dk_3 (dk_at dksX1_holds_7 20 rfl rfl)
theorem dX1_holds_182 : decode cX1_holds 182 = .ok (.iadd, 1) := dk_96 (dk_at dksX1_holds_7 21 rfl rfl)
theorem dX1_holds_183 : decode cX1_holds 183 = .ok (.iload_n 3, 1) := dk_29 (dk_at dksX1_holds_7 22 rfl rfl)
theorem dX1_holds_184 : decode cX1_holds 184 = .ok (.ifCond .eq 7, 3) := dk_153 0 7 (dk_at dksX1_holds_8 0 rfl rfl)
theorem dX1_holds_187 : decode cX1_holds 187 = .ok (.iconst 4, 1) := dk_7 (dk_at dksX1_holds_8 3 rfl rfl)
theorem dX1_holds_188 : decode cX1_holds 188 = .ok (.goto 4, 3) := dk_167 0 4 (dk_at dksX1_holds_8 4 rfl rfl)
theorem dX1_holds_191 : decode cX1_holds 191 = .ok (.iconst 0, 1) := dk_3 (dk_at dksX1_holds_8 7 rfl rfl)
theorem dX1_holds_192 : decode cX1_holds 192 = .ok (.iadd, 1) := dk_96 (dk_at dksX1_holds_8 8 rfl rfl)
theorem dX1_holds_193 : decode cX1_holds 193 = .ok (.ireturn, 1) := dk_172 (dk_at dksX1_holds_8 9 rfl rfl)
abbrev cX1_needSystem : ByteArray := prog_1_method_9_code
def yX1_needSystem : MethodName := ⟨RX1, "needSystem", "()V"⟩
def dkwX1_needSystem_0 : List UInt8 := [42, 180, 0, 119, 154, 0, 11, 187, 0, 160, 89, 183, 0, 162, 191, 177]
abbrev dktX1_needSystem_0 : List UInt8 := dkwX1_needSystem_0 ++ []
theorem dksX1_needSystem_0 : cX1_needSystem.data.toList.drop 0 = dktX1_needSystem_0 := by decide +kernel
theorem dX1_needSystem_0 : decode cX1_needSystem 0 = .ok (.aload_n 0, 1) := dk_42 (dk_at dksX1_needSystem_0 0 rfl rfl)
theorem dX1_needSystem_1 : decode cX1_needSystem 1 = .ok (.getfield 119, 3) := dk_180 0 119 (dk_at dksX1_needSystem_0 1 rfl rfl)
theorem dX1_needSystem_4 : decode cX1_needSystem 4 = .ok (.ifCond .ne 11, 3) := dk_154 0 11 (dk_at dksX1_needSystem_0 4 rfl rfl)
theorem dX1_needSystem_7 : decode cX1_needSystem 7 = .ok (.new 160, 3) := dk_187 0 160 (dk_at dksX1_needSystem_0 7 rfl rfl)
theorem dX1_needSystem_10 : decode cX1_needSystem 10 = .ok (.dup, 1) := dk_89 (dk_at dksX1_needSystem_0 10 rfl rfl)
theorem dX1_needSystem_11 : decode cX1_needSystem 11 = .ok (.invokespecial 162, 3) := dk_183 0 162 (dk_at dksX1_needSystem_0 11 rfl rfl)
theorem dX1_needSystem_14 : decode cX1_needSystem 14 = .ok (.athrow, 1) := dk_191 (dk_at dksX1_needSystem_0 14 rfl rfl)
theorem dX1_needSystem_15 : decode cX1_needSystem 15 = .ok (.return_, 1) := dk_177 (dk_at dksX1_needSystem_0 15 rfl rfl)
abbrev cX1_take : ByteArray := prog_1_method_25_code
def yX1_take : MethodName := ⟨RX1, "take", "(LLeastSolutions$Vector;[I)V"⟩
def dkwX1_take_1 : List UInt8 := [167, 255, 235, 177]
abbrev dktX1_take_1 : List UInt8 := dkwX1_take_1 ++ []
def dkwX1_take_0 : List UInt8 := [3, 61, 28, 16, 6, 162, 0, 21, 43, 28, 92, 46, 42, 180, 0, 231, 28, 51, 100, 79, 132, 2, 1]
abbrev dktX1_take_0 : List UInt8 := dkwX1_take_0 ++ dktX1_take_1
theorem dksX1_take_0 : cX1_take.data.toList.drop 0 = dktX1_take_0 := by decide +kernel
theorem dksX1_take_1 : cX1_take.data.toList.drop 23 = dktX1_take_1 := dk_seg dksX1_take_0 23 rfl rfl
theorem dX1_take_0 : decode cX1_take 0 = .ok (.iconst 0, 1) := dk_3 (dk_at dksX1_take_0 0 rfl rfl)
theorem dX1_take_1 : decode cX1_take 1 = .ok (.istore_n 2, 1) := dk_61 (dk_at dksX1_take_0 1 rfl rfl)
theorem dX1_take_2 : decode cX1_take 2 = .ok (.iload_n 2, 1) := dk_28 (dk_at dksX1_take_0 2 rfl rfl)
theorem dX1_take_3 : decode cX1_take 3 = .ok (.bipush 6, 2) := dk_16 6 (dk_at dksX1_take_0 3 rfl rfl)
theorem dX1_take_5 : decode cX1_take 5 = .ok (.if_icmp .ge 21, 3) := dk_162 0 21 (dk_at dksX1_take_0 5 rfl rfl)
theorem dX1_take_8 : decode cX1_take 8 = .ok (.aload_n 1, 1) := dk_43 (dk_at dksX1_take_0 8 rfl rfl)
theorem dX1_take_9 : decode cX1_take 9 = .ok (.iload_n 2, 1) := dk_28 (dk_at dksX1_take_0 9 rfl rfl)
theorem dX1_take_10 : decode cX1_take 10 = .ok (.dup2, 1) := dk_92 (dk_at dksX1_take_0 10 rfl rfl)
theorem dX1_take_11 : decode cX1_take 11 = .ok (.iaload, 1) := dk_46 (dk_at dksX1_take_0 11 rfl rfl)
theorem dX1_take_12 : decode cX1_take 12 = .ok (.aload_n 0, 1) := dk_42 (dk_at dksX1_take_0 12 rfl rfl)
theorem dX1_take_13 : decode cX1_take 13 = .ok (.getfield 231, 3) := dk_180 0 231 (dk_at dksX1_take_0 13 rfl rfl)
theorem dX1_take_16 : decode cX1_take 16 = .ok (.iload_n 2, 1) := dk_28 (dk_at dksX1_take_0 16 rfl rfl)
theorem dX1_take_17 : decode cX1_take 17 = .ok (.baload, 1) := dk_51 (dk_at dksX1_take_0 17 rfl rfl)
theorem dX1_take_18 : decode cX1_take 18 = .ok (.isub, 1) := dk_100 (dk_at dksX1_take_0 18 rfl rfl)
theorem dX1_take_19 : decode cX1_take 19 = .ok (.iastore, 1) := dk_79 (dk_at dksX1_take_0 19 rfl rfl)
theorem dX1_take_20 : decode cX1_take 20 = .ok (.iinc 2 1, 3) := dk_132 2 1 (dk_at dksX1_take_0 20 rfl rfl)
theorem dX1_take_23 : decode cX1_take 23 = .ok (.goto (-21), 3) := dk_167 255 235 (dk_at dksX1_take_1 0 rfl rfl)
theorem dX1_take_26 : decode cX1_take 26 = .ok (.return_, 1) := dk_177 (dk_at dksX1_take_1 3 rfl rfl)
abbrev cX1_times : ByteArray := prog_1_method_26_code
def yX1_times : MethodName := ⟨RX1, "times", "(I)I"⟩
def dkwX1_times_1 : List UInt8 := [162, 0, 12, 42, 180, 0, 88, 27, 46, 167, 0, 4, 2, 172]
abbrev dktX1_times_1 : List UInt8 := dkwX1_times_1 ++ []
def dkwX1_times_0 : List UInt8 := [42, 180, 0, 132, 153, 0, 32, 27, 155, 0, 28, 27, 42, 180, 0, 76, 3, 50, 180, 0, 197, 182, 0, 200]
abbrev dktX1_times_0 : List UInt8 := dkwX1_times_0 ++ dktX1_times_1
theorem dksX1_times_0 : cX1_times.data.toList.drop 0 = dktX1_times_0 := by decide +kernel
theorem dksX1_times_1 : cX1_times.data.toList.drop 24 = dktX1_times_1 := dk_seg dksX1_times_0 24 rfl rfl
theorem dX1_times_0 : decode cX1_times 0 = .ok (.aload_n 0, 1) := dk_42 (dk_at dksX1_times_0 0 rfl rfl)
theorem dX1_times_1 : decode cX1_times 1 = .ok (.getfield 132, 3) := dk_180 0 132 (dk_at dksX1_times_0 1 rfl rfl)
theorem dX1_times_4 : decode cX1_times 4 = .ok (.ifCond .eq 32, 3) := dk_153 0 32 (dk_at dksX1_times_0 4 rfl rfl)
theorem dX1_times_7 : decode cX1_times 7 = .ok (.iload_n 1, 1) := dk_27 (dk_at dksX1_times_0 7 rfl rfl)
theorem dX1_times_8 : decode cX1_times 8 = .ok (.ifCond .lt 28, 3) := dk_155 0 28 (dk_at dksX1_times_0 8 rfl rfl)
theorem dX1_times_11 : decode cX1_times 11 = .ok (.iload_n 1, 1) := dk_27 (dk_at dksX1_times_0 11 rfl rfl)
theorem dX1_times_12 : decode cX1_times 12 = .ok (.aload_n 0, 1) := dk_42 (dk_at dksX1_times_0 12 rfl rfl)
theorem dX1_times_13 : decode cX1_times 13 = .ok (.getfield 76, 3) := dk_180 0 76 (dk_at dksX1_times_0 13 rfl rfl)
theorem dX1_times_16 : decode cX1_times 16 = .ok (.iconst 0, 1) := dk_3 (dk_at dksX1_times_0 16 rfl rfl)
theorem dX1_times_17 : decode cX1_times 17 = .ok (.aaload, 1) := dk_50 (dk_at dksX1_times_0 17 rfl rfl)
theorem dX1_times_18 : decode cX1_times 18 = .ok (.getfield 197, 3) := dk_180 0 197 (dk_at dksX1_times_0 18 rfl rfl)
theorem dX1_times_21 : decode cX1_times 21 = .ok (.invokevirtual 200, 3) := dk_182 0 200 (dk_at dksX1_times_0 21 rfl rfl)
theorem dX1_times_24 : decode cX1_times 24 = .ok (.if_icmp .ge 12, 3) := dk_162 0 12 (dk_at dksX1_times_1 0 rfl rfl)
theorem dX1_times_27 : decode cX1_times 27 = .ok (.aload_n 0, 1) := dk_42 (dk_at dksX1_times_1 3 rfl rfl)
theorem dX1_times_28 : decode cX1_times 28 = .ok (.getfield 88, 3) := dk_180 0 88 (dk_at dksX1_times_1 4 rfl rfl)
theorem dX1_times_31 : decode cX1_times 31 = .ok (.iload_n 1, 1) := dk_27 (dk_at dksX1_times_1 7 rfl rfl)
theorem dX1_times_32 : decode cX1_times 32 = .ok (.iaload, 1) := dk_46 (dk_at dksX1_times_1 8 rfl rfl)
theorem dX1_times_33 : decode cX1_times 33 = .ok (.goto 4, 3) := dk_167 0 4 (dk_at dksX1_times_1 9 rfl rfl)
theorem dX1_times_36 : decode cX1_times 36 = .ok (.iconst (-1), 1) := dk_2 (dk_at dksX1_times_1 12 rfl rfl)
theorem dX1_times_37 : decode cX1_times 37 = .ok (.ireturn, 1) := dk_172 (dk_at dksX1_times_1 13 rfl rfl)
abbrev cX1_bestAt : ByteArray := prog_1_method_29_code
def yX1_bestAt : MethodName := ⟨RX1, "bestAt", "(I)I"⟩
def dkwX1_bestAt_1 : List UInt8 := [167, 0, 4, 2, 172]
abbrev dktX1_bestAt_1 : List UInt8 := dkwX1_bestAt_1 ++ []
def dkwX1_bestAt_0 : List UInt8 := [42, 180, 0, 135, 153, 0, 23, 42, 27, 182, 0, 173, 153, 0, 15, 42, 180, 0, 69, 180, 1, 16, 27, 46]
abbrev dktX1_bestAt_0 : List UInt8 := dkwX1_bestAt_0 ++ dktX1_bestAt_1
theorem dksX1_bestAt_0 : cX1_bestAt.data.toList.drop 0 = dktX1_bestAt_0 := by decide +kernel
theorem dksX1_bestAt_1 : cX1_bestAt.data.toList.drop 24 = dktX1_bestAt_1 := dk_seg dksX1_bestAt_0 24 rfl rfl
theorem dX1_bestAt_0 : decode cX1_bestAt 0 = .ok (.aload_n 0, 1) := dk_42 (dk_at dksX1_bestAt_0 0 rfl rfl)
theorem dX1_bestAt_1 : decode cX1_bestAt 1 = .ok (.getfield 135, 3) := dk_180 0 135 (dk_at dksX1_bestAt_0 1 rfl rfl)
theorem dX1_bestAt_4 : decode cX1_bestAt 4 = .ok (.ifCond .eq 23, 3) := dk_153 0 23 (dk_at dksX1_bestAt_0 4 rfl rfl)
theorem dX1_bestAt_7 : decode cX1_bestAt 7 = .ok (.aload_n 0, 1) := dk_42 (dk_at dksX1_bestAt_0 7 rfl rfl)
theorem dX1_bestAt_8 : decode cX1_bestAt 8 = .ok (.iload_n 1, 1) := dk_27 (dk_at dksX1_bestAt_0 8 rfl rfl)
theorem dX1_bestAt_9 : decode cX1_bestAt 9 = .ok (.invokevirtual 173, 3) := dk_182 0 173 (dk_at dksX1_bestAt_0 9 rfl rfl)
theorem dX1_bestAt_12 : decode cX1_bestAt 12 = .ok (.ifCond .eq 15, 3) := dk_153 0 15 (dk_at dksX1_bestAt_0 12 rfl rfl)
theorem dX1_bestAt_15 : decode cX1_bestAt 15 = .ok (.aload_n 0, 1) := dk_42 (dk_at dksX1_bestAt_0 15 rfl rfl)
theorem dX1_bestAt_16 : decode cX1_bestAt 16 = .ok (.getfield 69, 3) := dk_180 0 69 (dk_at dksX1_bestAt_0 16 rfl rfl)
theorem dX1_bestAt_19 : decode cX1_bestAt 19 = .ok (.getfield 272, 3) := dk_180 1 16 (dk_at dksX1_bestAt_0 19 rfl rfl)
theorem dX1_bestAt_22 : decode cX1_bestAt 22 = .ok (.iload_n 1, 1) := dk_27 (dk_at dksX1_bestAt_0 22 rfl rfl)
theorem dX1_bestAt_23 : decode cX1_bestAt 23 = .ok (.iaload, 1) := dk_46 (dk_at dksX1_bestAt_0 23 rfl rfl)
theorem dX1_bestAt_24 : decode cX1_bestAt 24 = .ok (.goto 4, 3) := dk_167 0 4 (dk_at dksX1_bestAt_1 0 rfl rfl)
theorem dX1_bestAt_27 : decode cX1_bestAt 27 = .ok (.iconst (-1), 1) := dk_2 (dk_at dksX1_bestAt_1 3 rfl rfl)
theorem dX1_bestAt_28 : decode cX1_bestAt 28 = .ok (.ireturn, 1) := dk_172 (dk_at dksX1_bestAt_1 4 rfl rfl)
abbrev cX1_isColumn : ByteArray := prog_1_method_13_code
def yX1_isColumn : MethodName := ⟨RX1, "isColumn", "(I)Z"⟩
def dkwX1_isColumn_0 : List UInt8 := [27, 155, 0, 18, 27, 42, 180, 0, 45, 180, 0, 141, 162, 0, 7, 4, 167, 0, 4, 3, 172]
abbrev dktX1_isColumn_0 : List UInt8 := dkwX1_isColumn_0 ++ []
theorem dksX1_isColumn_0 : cX1_isColumn.data.toList.drop 0 = dktX1_isColumn_0 := by decide +kernel
theorem dX1_isColumn_0 : decode cX1_isColumn 0 = .ok (.iload_n 1, 1) := dk_27 (dk_at dksX1_isColumn_0 0 rfl rfl)
theorem dX1_isColumn_1 : decode cX1_isColumn 1 = .ok (.ifCond .lt 18, 3) := dk_155 0 18 (dk_at dksX1_isColumn_0 1 rfl rfl)
theorem dX1_isColumn_4 : decode cX1_isColumn 4 = .ok (.iload_n 1, 1) := dk_27 (dk_at dksX1_isColumn_0 4 rfl rfl)
theorem dX1_isColumn_5 : decode cX1_isColumn 5 = .ok (.aload_n 0, 1) := dk_42 (dk_at dksX1_isColumn_0 5 rfl rfl)
theorem dX1_isColumn_6 : decode cX1_isColumn 6 = .ok (.getfield 45, 3) := dk_180 0 45 (dk_at dksX1_isColumn_0 6 rfl rfl)
theorem dX1_isColumn_9 : decode cX1_isColumn 9 = .ok (.getfield 141, 3) := dk_180 0 141 (dk_at dksX1_isColumn_0 9 rfl rfl)
theorem dX1_isColumn_12 : decode cX1_isColumn 12 = .ok (.if_icmp .ge 7, 3) := dk_162 0 7 (dk_at dksX1_isColumn_0 12 rfl rfl)
theorem dX1_isColumn_15 : decode cX1_isColumn 15 = .ok (.iconst 1, 1) := dk_4 (dk_at dksX1_isColumn_0 15 rfl rfl)
theorem dX1_isColumn_16 : decode cX1_isColumn 16 = .ok (.goto 4, 3) := dk_167 0 4 (dk_at dksX1_isColumn_0 16 rfl rfl)
theorem dX1_isColumn_19 : decode cX1_isColumn 19 = .ok (.iconst 0, 1) := dk_3 (dk_at dksX1_isColumn_0 19 rfl rfl)
theorem dX1_isColumn_20 : decode cX1_isColumn 20 = .ok (.ireturn, 1) := dk_172 (dk_at dksX1_isColumn_0 20 rfl rfl)
abbrev cX1_number : ByteArray := prog_1_method_8_code
def yX1_number : MethodName := ⟨RX1, "number", "(II)I"⟩
def dkwX1_number_3 : List UInt8 := [28, 46, 172]
abbrev dktX1_number_3 : List UInt8 := dkwX1_number_3 ++ []
def dkwX1_number_2 : List UInt8 := [160, 0, 15, 42, 180, 0, 45, 180, 0, 153, 27, 46, 167, 0, 14, 42, 180, 0, 45, 180, 0, 156, 27, 50]
abbrev dktX1_number_2 : List UInt8 := dkwX1_number_2 ++ dktX1_number_3
def dkwX1_number_1 : List UInt8 := [180, 0, 141, 164, 0, 11, 187, 0, 150, 89, 183, 0, 152, 191, 28, 42, 180, 0, 45, 180, 0, 141]
abbrev dktX1_number_1 : List UInt8 := dkwX1_number_1 ++ dktX1_number_2
def dkwX1_number_0 : List UInt8 := [27, 155, 0, 29, 27, 42, 180, 0, 45, 180, 0, 138, 162, 0, 18, 28, 155, 0, 14, 28, 42, 180, 0, 45]
abbrev dktX1_number_0 : List UInt8 := dkwX1_number_0 ++ dktX1_number_1
theorem dksX1_number_0 : cX1_number.data.toList.drop 0 = dktX1_number_0 := by decide +kernel
theorem dksX1_number_1 : cX1_number.data.toList.drop 24 = dktX1_number_1 := dk_seg dksX1_number_0 24 rfl rfl
theorem dksX1_number_2 : cX1_number.data.toList.drop 46 = dktX1_number_2 := dk_seg dksX1_number_1 22 rfl rfl
theorem dksX1_number_3 : cX1_number.data.toList.drop 70 = dktX1_number_3 := dk_seg dksX1_number_2 24 rfl rfl
theorem dX1_number_0 : decode cX1_number 0 = .ok (.iload_n 1, 1) := dk_27 (dk_at dksX1_number_0 0 rfl rfl)
theorem dX1_number_1 : decode cX1_number 1 = .ok (.ifCond .lt 29, 3) := dk_155 0 29 (dk_at dksX1_number_0 1 rfl rfl)
theorem dX1_number_4 : decode cX1_number 4 = .ok (.iload_n 1, 1) := dk_27 (dk_at dksX1_number_0 4 rfl rfl)
theorem dX1_number_5 : decode cX1_number 5 = .ok (.aload_n 0, 1) := dk_42 (dk_at dksX1_number_0 5 rfl rfl)
theorem dX1_number_6 : decode cX1_number 6 = .ok (.getfield 45, 3) := dk_180 0 45 (dk_at dksX1_number_0 6 rfl rfl)
theorem dX1_number_9 : decode cX1_number 9 = .ok (.getfield 138, 3) := dk_180 0 138 (dk_at dksX1_number_0 9 rfl rfl)
theorem dX1_number_12 : decode cX1_number 12 = .ok (.if_icmp .ge 18, 3) := dk_162 0 18 (dk_at dksX1_number_0 12 rfl rfl)
theorem dX1_number_15 : decode cX1_number 15 = .ok (.iload_n 2, 1) := dk_28 (dk_at dksX1_number_0 15 rfl rfl)
theorem dX1_number_16 : decode cX1_number 16 = .ok (.ifCond .lt 14, 3) := dk_155 0 14 (dk_at dksX1_number_0 16 rfl rfl)
theorem dX1_number_19 : decode cX1_number 19 = .ok (.iload_n 2, 1) := dk_28 (dk_at dksX1_number_0 19 rfl rfl)
theorem dX1_number_20 : decode cX1_number 20 = .ok (.aload_n 0, 1) := dk_42 (dk_at dksX1_number_0 20 rfl rfl)
theorem dX1_number_21 : decode cX1_number 21 = .ok (.getfield 45, 3) := dk_180 0 45 (dk_at dksX1_number_0 21 rfl rfl)
theorem dX1_number_24 : decode cX1_number 24 = .ok (.getfield 141, 3) := dk_180 0 141 (dk_at dksX1_number_1 0 rfl rfl)
theorem dX1_number_27 : decode cX1_number 27 = .ok (.if_icmp .le 11, 3) := dk_164 0 11 (dk_at dksX1_number_1 3 rfl rfl)
theorem dX1_number_30 : decode cX1_number 30 = .ok (.new 150, 3) := dk_187 0 150 (dk_at dksX1_number_1 6 rfl rfl)
theorem dX1_number_33 : decode cX1_number 33 = .ok (.dup, 1) := dk_89 (dk_at dksX1_number_1 9 rfl rfl)
theorem dX1_number_34 : decode cX1_number 34 = .ok (.invokespecial 152, 3) := dk_183 0 152 (dk_at dksX1_number_1 10 rfl rfl)
theorem dX1_number_37 : decode cX1_number 37 = .ok (.athrow, 1) := dk_191 (dk_at dksX1_number_1 13 rfl rfl)
theorem dX1_number_38 : decode cX1_number 38 = .ok (.iload_n 2, 1) := dk_28 (dk_at dksX1_number_1 14 rfl rfl)
theorem dX1_number_39 : decode cX1_number 39 = .ok (.aload_n 0, 1) := dk_42 (dk_at dksX1_number_1 15 rfl rfl)
theorem dX1_number_40 : decode cX1_number 40 = .ok (.getfield 45, 3) := dk_180 0 45 (dk_at dksX1_number_1 16 rfl rfl)
theorem dX1_number_43 : decode cX1_number 43 = .ok (.getfield 141, 3) := dk_180 0 141 (dk_at dksX1_number_1 19 rfl rfl)
theorem dX1_number_46 : decode cX1_number 46 = .ok (.if_icmp .ne 15, 3) := dk_160 0 15 (dk_at dksX1_number_2 0 rfl rfl)
theorem dX1_number_49 : decode cX1_number 49 = .ok (.aload_n 0, 1) := dk_42 (dk_at dksX1_number_2 3 rfl rfl)
theorem dX1_number_50 : decode cX1_number 50 = .ok (.getfield 45, 3) := dk_180 0 45 (dk_at dksX1_number_2 4 rfl rfl)
theorem dX1_number_53 : decode cX1_number 53 = .ok (.getfield 153, 3) := dk_180 0 153 (dk_at dksX1_number_2 7 rfl rfl)
theorem dX1_number_56 : decode cX1_number 56 = .ok (.iload_n 1, 1) := dk_27 (dk_at dksX1_number_2 10 rfl rfl)
theorem dX1_number_57 : decode cX1_number 57 = .ok (.iaload, 1) := dk_46 (dk_at dksX1_number_2 11 rfl rfl)
theorem dX1_number_58 : decode cX1_number 58 = .ok (.goto 14, 3) := dk_167 0 14 (dk_at dksX1_number_2 12 rfl rfl)
theorem dX1_number_61 : decode cX1_number 61 = .ok (.aload_n 0, 1) := dk_42 (dk_at dksX1_number_2 15 rfl rfl)
theorem dX1_number_62 : decode cX1_number 62 = .ok (.getfield 45, 3) := dk_180 0 45 (dk_at dksX1_number_2 16 rfl rfl)
theorem dX1_number_65 : decode cX1_number 65 = .ok (.getfield 156, 3) := dk_180 0 156 (dk_at dksX1_number_2 19 rfl rfl)
theorem dX1_number_68 : decode cX1_number 68 = .ok (.iload_n 1, 1) := dk_27 (dk_at dksX1_number_2 22 rfl rfl)
theorem dX1_number_69 : decode cX1_number 69 = .ok (.aaload, 1) := dk_50 (dk_at dksX1_number_2 23 rfl rfl)
theorem dX1_number_70 : decode cX1_number 70 = .ok (.iload_n 2, 1) := dk_28 (dk_at dksX1_number_3 0 rfl rfl)
theorem dX1_number_71 : decode cX1_number 71 = .ok (.iaload, 1) := dk_46 (dk_at dksX1_number_3 1 rfl rfl)
theorem dX1_number_72 : decode cX1_number 72 = .ok (.ireturn, 1) := dk_172 (dk_at dksX1_number_3 2 rfl rfl)
abbrev cX1_solvable : ByteArray := prog_1_method_10_code
def yX1_solvable : MethodName := ⟨RX1, "solvable", "()I"⟩
def dkwX1_solvable_0 : List UInt8 := [42, 182, 0, 163, 42, 180, 0, 55, 180, 0, 166, 153, 0, 7, 4, 167, 0, 4, 3, 172]
abbrev dktX1_solvable_0 : List UInt8 := dkwX1_solvable_0 ++ []
theorem dksX1_solvable_0 : cX1_solvable.data.toList.drop 0 = dktX1_solvable_0 := by decide +kernel
theorem dX1_solvable_0 : decode cX1_solvable 0 = .ok (.aload_n 0, 1) := dk_42 (dk_at dksX1_solvable_0 0 rfl rfl)
theorem dX1_solvable_1 : decode cX1_solvable 1 = .ok (.invokevirtual 163, 3) := dk_182 0 163 (dk_at dksX1_solvable_0 1 rfl rfl)
theorem dX1_solvable_4 : decode cX1_solvable 4 = .ok (.aload_n 0, 1) := dk_42 (dk_at dksX1_solvable_0 4 rfl rfl)
theorem dX1_solvable_5 : decode cX1_solvable 5 = .ok (.getfield 55, 3) := dk_180 0 55 (dk_at dksX1_solvable_0 5 rfl rfl)
theorem dX1_solvable_8 : decode cX1_solvable 8 = .ok (.getfield 166, 3) := dk_180 0 166 (dk_at dksX1_solvable_0 8 rfl rfl)
theorem dX1_solvable_11 : decode cX1_solvable 11 = .ok (.ifCond .eq 7, 3) := dk_153 0 7 (dk_at dksX1_solvable_0 11 rfl rfl)
theorem dX1_solvable_14 : decode cX1_solvable 14 = .ok (.iconst 1, 1) := dk_4 (dk_at dksX1_solvable_0 14 rfl rfl)
theorem dX1_solvable_15 : decode cX1_solvable 15 = .ok (.goto 4, 3) := dk_167 0 4 (dk_at dksX1_solvable_0 15 rfl rfl)
theorem dX1_solvable_18 : decode cX1_solvable 18 = .ok (.iconst 0, 1) := dk_3 (dk_at dksX1_solvable_0 18 rfl rfl)
theorem dX1_solvable_19 : decode cX1_solvable 19 = .ok (.ireturn, 1) := dk_172 (dk_at dksX1_solvable_0 19 rfl rfl)
abbrev cX1_kernel : ByteArray := prog_1_method_11_code
def yX1_kernel : MethodName := ⟨RX1, "kernel", "()I"⟩
def dkwX1_kernel_0 : List UInt8 := [42, 182, 0, 163, 42, 180, 0, 55, 182, 0, 169, 172]
abbrev dktX1_kernel_0 : List UInt8 := dkwX1_kernel_0 ++ []
theorem dksX1_kernel_0 : cX1_kernel.data.toList.drop 0 = dktX1_kernel_0 := by decide +kernel
theorem dX1_kernel_0 : decode cX1_kernel 0 = .ok (.aload_n 0, 1) := dk_42 (dk_at dksX1_kernel_0 0 rfl rfl)
theorem dX1_kernel_1 : decode cX1_kernel 1 = .ok (.invokevirtual 163, 3) := dk_182 0 163 (dk_at dksX1_kernel_0 1 rfl rfl)
theorem dX1_kernel_4 : decode cX1_kernel 4 = .ok (.aload_n 0, 1) := dk_42 (dk_at dksX1_kernel_0 4 rfl rfl)
theorem dX1_kernel_5 : decode cX1_kernel 5 = .ok (.getfield 55, 3) := dk_180 0 55 (dk_at dksX1_kernel_0 5 rfl rfl)
theorem dX1_kernel_8 : decode cX1_kernel 8 = .ok (.invokevirtual 169, 3) := dk_182 0 169 (dk_at dksX1_kernel_0 8 rfl rfl)
theorem dX1_kernel_11 : decode cX1_kernel 11 = .ok (.ireturn, 1) := dk_172 (dk_at dksX1_kernel_0 11 rfl rfl)
abbrev cX1_kernelAt : ByteArray := prog_1_method_12_code
def yX1_kernelAt : MethodName := ⟨RX1, "kernelAt", "(II)J"⟩
def dkwX1_kernelAt_1 : List UInt8 := [187, 0, 150, 89, 183, 0, 152, 191, 42, 180, 0, 55, 27, 28, 182, 0, 177, 173]
abbrev dktX1_kernelAt_1 : List UInt8 := dkwX1_kernelAt_1 ++ []
def dkwX1_kernelAt_0 : List UInt8 := [27, 155, 0, 22, 27, 42, 180, 0, 55, 182, 0, 169, 162, 0, 11, 42, 28, 182, 0, 173, 154, 0, 11]
abbrev dktX1_kernelAt_0 : List UInt8 := dkwX1_kernelAt_0 ++ dktX1_kernelAt_1
theorem dksX1_kernelAt_0 : cX1_kernelAt.data.toList.drop 0 = dktX1_kernelAt_0 := by decide +kernel
theorem dksX1_kernelAt_1 : cX1_kernelAt.data.toList.drop 23 = dktX1_kernelAt_1 := dk_seg dksX1_kernelAt_0 23 rfl rfl
theorem dX1_kernelAt_0 : decode cX1_kernelAt 0 = .ok (.iload_n 1, 1) := dk_27 (dk_at dksX1_kernelAt_0 0 rfl rfl)
theorem dX1_kernelAt_1 : decode cX1_kernelAt 1 = .ok (.ifCond .lt 22, 3) := dk_155 0 22 (dk_at dksX1_kernelAt_0 1 rfl rfl)
theorem dX1_kernelAt_4 : decode cX1_kernelAt 4 = .ok (.iload_n 1, 1) := dk_27 (dk_at dksX1_kernelAt_0 4 rfl rfl)
theorem dX1_kernelAt_5 : decode cX1_kernelAt 5 = .ok (.aload_n 0, 1) := dk_42 (dk_at dksX1_kernelAt_0 5 rfl rfl)
theorem dX1_kernelAt_6 : decode cX1_kernelAt 6 = .ok (.getfield 55, 3) := dk_180 0 55 (dk_at dksX1_kernelAt_0 6 rfl rfl)
theorem dX1_kernelAt_9 : decode cX1_kernelAt 9 = .ok (.invokevirtual 169, 3) := dk_182 0 169 (dk_at dksX1_kernelAt_0 9 rfl rfl)
theorem dX1_kernelAt_12 : decode cX1_kernelAt 12 = .ok (.if_icmp .ge 11, 3) := dk_162 0 11 (dk_at dksX1_kernelAt_0 12 rfl rfl)
theorem dX1_kernelAt_15 : decode cX1_kernelAt 15 = .ok (.aload_n 0, 1) := dk_42 (dk_at dksX1_kernelAt_0 15 rfl rfl)
theorem dX1_kernelAt_16 : decode cX1_kernelAt 16 = .ok (.iload_n 2, 1) := dk_28 (dk_at dksX1_kernelAt_0 16 rfl rfl)
theorem dX1_kernelAt_17 : decode cX1_kernelAt 17 = .ok (.invokevirtual 173, 3) := dk_182 0 173 (dk_at dksX1_kernelAt_0 17 rfl rfl)
theorem dX1_kernelAt_20 : decode cX1_kernelAt 20 = .ok (.ifCond .ne 11, 3) := dk_154 0 11 (dk_at dksX1_kernelAt_0 20 rfl rfl)
theorem dX1_kernelAt_23 : decode cX1_kernelAt 23 = .ok (.new 150, 3) := dk_187 0 150 (dk_at dksX1_kernelAt_1 0 rfl rfl)
theorem dX1_kernelAt_26 : decode cX1_kernelAt 26 = .ok (.dup, 1) := dk_89 (dk_at dksX1_kernelAt_1 3 rfl rfl)
theorem dX1_kernelAt_27 : decode cX1_kernelAt 27 = .ok (.invokespecial 152, 3) := dk_183 0 152 (dk_at dksX1_kernelAt_1 4 rfl rfl)
theorem dX1_kernelAt_30 : decode cX1_kernelAt 30 = .ok (.athrow, 1) := dk_191 (dk_at dksX1_kernelAt_1 7 rfl rfl)
theorem dX1_kernelAt_31 : decode cX1_kernelAt 31 = .ok (.aload_n 0, 1) := dk_42 (dk_at dksX1_kernelAt_1 8 rfl rfl)
theorem dX1_kernelAt_32 : decode cX1_kernelAt 32 = .ok (.getfield 55, 3) := dk_180 0 55 (dk_at dksX1_kernelAt_1 9 rfl rfl)
theorem dX1_kernelAt_35 : decode cX1_kernelAt 35 = .ok (.iload_n 1, 1) := dk_27 (dk_at dksX1_kernelAt_1 12 rfl rfl)
theorem dX1_kernelAt_36 : decode cX1_kernelAt 36 = .ok (.iload_n 2, 1) := dk_28 (dk_at dksX1_kernelAt_1 13 rfl rfl)
theorem dX1_kernelAt_37 : decode cX1_kernelAt 37 = .ok (.invokevirtual 177, 3) := dk_182 0 177 (dk_at dksX1_kernelAt_1 14 rfl rfl)
theorem dX1_kernelAt_40 : decode cX1_kernelAt 40 = .ok (.lreturn, 1) := dk_173 (dk_at dksX1_kernelAt_1 17 rfl rfl)
abbrev cX1_work : ByteArray := prog_1_method_14_code
def yX1_work : MethodName := ⟨RX1, "work", "(II)I"⟩
def dkwX1_work_6 : List UInt8 := [25, 4, 180, 0, 197, 182, 0, 200, 172]
abbrev dktX1_work_6 : List UInt8 := dkwX1_work_6 ++ []
def dkwX1_work_5 : List UInt8 := [182, 0, 191, 54, 5, 21, 5, 154, 0, 10, 25, 4, 182, 0, 126, 2, 172, 25, 4, 28, 181, 0, 194]
abbrev dktX1_work_5 : List UInt8 := dkwX1_work_5 ++ dktX1_work_6
def dkwX1_work_4 : List UInt8 := [167, 0, 25, 27, 4, 160, 0, 13, 42, 25, 4, 28, 182, 0, 188, 167, 0, 10, 42, 25, 4, 28]
abbrev dktX1_work_4 : List UInt8 := dkwX1_work_4 ++ dktX1_work_5
def dkwX1_work_3 : List UInt8 := [160, 0, 7, 4, 167, 0, 4, 3, 126, 181, 0, 132, 27, 154, 0, 13, 42, 25, 4, 28, 182, 0, 184]
abbrev dktX1_work_3 : List UInt8 := dkwX1_work_3 ++ dktX1_work_4
def dkwX1_work_2 : List UInt8 := [182, 0, 163, 42, 180, 0, 76, 27, 50, 58, 4, 25, 4, 182, 0, 126, 42, 89, 180, 0, 132, 27, 5]
abbrev dktX1_work_2 : List UInt8 := dkwX1_work_2 ++ dktX1_work_3
def dkwX1_work_1 : List UInt8 := [16, 16, 163, 0, 7, 4, 167, 0, 4, 3, 62, 29, 154, 0, 11, 187, 0, 181, 89, 183, 0, 183, 191, 42]
abbrev dktX1_work_1 : List UInt8 := dkwX1_work_1 ++ dktX1_work_2
def dkwX1_work_0 : List UInt8 := [27, 155, 0, 32, 27, 5, 163, 0, 27, 28, 155, 0, 23, 28, 27, 5, 160, 0, 8, 16, 10, 167, 0, 5]
abbrev dktX1_work_0 : List UInt8 := dkwX1_work_0 ++ dktX1_work_1
theorem dksX1_work_0 : cX1_work.data.toList.drop 0 = dktX1_work_0 := by decide +kernel
theorem dksX1_work_1 : cX1_work.data.toList.drop 24 = dktX1_work_1 := dk_seg dksX1_work_0 24 rfl rfl
theorem dksX1_work_2 : cX1_work.data.toList.drop 48 = dktX1_work_2 := dk_seg dksX1_work_1 24 rfl rfl
theorem dksX1_work_3 : cX1_work.data.toList.drop 71 = dktX1_work_3 := dk_seg dksX1_work_2 23 rfl rfl
theorem dksX1_work_4 : cX1_work.data.toList.drop 94 = dktX1_work_4 := dk_seg dksX1_work_3 23 rfl rfl
theorem dksX1_work_5 : cX1_work.data.toList.drop 116 = dktX1_work_5 := dk_seg dksX1_work_4 22 rfl rfl
theorem dksX1_work_6 : cX1_work.data.toList.drop 139 = dktX1_work_6 := dk_seg dksX1_work_5 23 rfl rfl
theorem dX1_work_0 : decode cX1_work 0 = .ok (.iload_n 1, 1) := dk_27 (dk_at dksX1_work_0 0 rfl rfl)
theorem dX1_work_1 : decode cX1_work 1 = .ok (.ifCond .lt 32, 3) := dk_155 0 32 (dk_at dksX1_work_0 1 rfl rfl)
theorem dX1_work_4 : decode cX1_work 4 = .ok (.iload_n 1, 1) := dk_27 (dk_at dksX1_work_0 4 rfl rfl)
theorem dX1_work_5 : decode cX1_work 5 = .ok (.iconst 2, 1) := dk_5 (dk_at dksX1_work_0 5 rfl rfl)
theorem dX1_work_6 : decode cX1_work 6 = .ok (.if_icmp .gt 27, 3) := dk_163 0 27 (dk_at dksX1_work_0 6 rfl rfl)
theorem dX1_work_9 : decode cX1_work 9 = .ok (.iload_n 2, 1) := dk_28 (dk_at dksX1_work_0 9 rfl rfl)
theorem dX1_work_10 : decode cX1_work 10 = .ok (.ifCond .lt 23, 3) := dk_155 0 23 (dk_at dksX1_work_0 10 rfl rfl)
theorem dX1_work_13 : decode cX1_work 13 = .ok (.iload_n 2, 1) := dk_28 (dk_at dksX1_work_0 13 rfl rfl)
theorem dX1_work_14 : decode cX1_work 14 = .ok (.iload_n 1, 1) := dk_27 (dk_at dksX1_work_0 14 rfl rfl)
theorem dX1_work_15 : decode cX1_work 15 = .ok (.iconst 2, 1) := dk_5 (dk_at dksX1_work_0 15 rfl rfl)
theorem dX1_work_16 : decode cX1_work 16 = .ok (.if_icmp .ne 8, 3) := dk_160 0 8 (dk_at dksX1_work_0 16 rfl rfl)
theorem dX1_work_19 : decode cX1_work 19 = .ok (.bipush 10, 2) := dk_16 10 (dk_at dksX1_work_0 19 rfl rfl)
theorem dX1_work_21 : decode cX1_work 21 = .ok (.goto 5, 3) := dk_167 0 5 (dk_at dksX1_work_0 21 rfl rfl)
theorem dX1_work_24 : decode cX1_work 24 = .ok (.bipush 16, 2) := dk_16 16 (dk_at dksX1_work_1 0 rfl rfl)
theorem dX1_work_26 : decode cX1_work 26 = .ok (.if_icmp .gt 7, 3) := dk_163 0 7 (dk_at dksX1_work_1 2 rfl rfl)
theorem dX1_work_29 : decode cX1_work 29 = .ok (.iconst 1, 1) := dk_4 (dk_at dksX1_work_1 5 rfl rfl)
theorem dX1_work_30 : decode cX1_work 30 = .ok (.goto 4, 3) := dk_167 0 4 (dk_at dksX1_work_1 6 rfl rfl)
theorem dX1_work_33 : decode cX1_work 33 = .ok (.iconst 0, 1) := dk_3 (dk_at dksX1_work_1 9 rfl rfl)
theorem dX1_work_34 : decode cX1_work 34 = .ok (.istore_n 3, 1) := dk_62 (dk_at dksX1_work_1 10 rfl rfl)
theorem dX1_work_35 : decode cX1_work 35 = .ok (.iload_n 3, 1) := dk_29 (dk_at dksX1_work_1 11 rfl rfl)
theorem dX1_work_36 : decode cX1_work 36 = .ok (.ifCond .ne 11, 3) := dk_154 0 11 (dk_at dksX1_work_1 12 rfl rfl)
theorem dX1_work_39 : decode cX1_work 39 = .ok (.new 181, 3) := dk_187 0 181 (dk_at dksX1_work_1 15 rfl rfl)
theorem dX1_work_42 : decode cX1_work 42 = .ok (.dup, 1) := dk_89 (dk_at dksX1_work_1 18 rfl rfl)
theorem dX1_work_43 : decode cX1_work 43 = .ok (.invokespecial 183, 3) := dk_183 0 183 (dk_at dksX1_work_1 19 rfl rfl)
theorem dX1_work_46 : decode cX1_work 46 = .ok (.athrow, 1) := dk_191 (dk_at dksX1_work_1 22 rfl rfl)
theorem dX1_work_47 : decode cX1_work 47 = .ok (.aload_n 0, 1) := dk_42 (dk_at dksX1_work_1 23 rfl rfl)
theorem dX1_work_48 : decode cX1_work 48 = .ok (.invokevirtual 163, 3) := dk_182 0 163 (dk_at dksX1_work_2 0 rfl rfl)
theorem dX1_work_51 : decode cX1_work 51 = .ok (.aload_n 0, 1) := dk_42 (dk_at dksX1_work_2 3 rfl rfl)
theorem dX1_work_52 : decode cX1_work 52 = .ok (.getfield 76, 3) := dk_180 0 76 (dk_at dksX1_work_2 4 rfl rfl)
theorem dX1_work_55 : decode cX1_work 55 = .ok (.iload_n 1, 1) := dk_27 (dk_at dksX1_work_2 7 rfl rfl)
theorem dX1_work_56 : decode cX1_work 56 = .ok (.aaload, 1) := dk_50 (dk_at dksX1_work_2 8 rfl rfl)
theorem dX1_work_57 : decode cX1_work 57 = .ok (.astore 4, 2) := dk_58 4 (dk_at dksX1_work_2 9 rfl rfl)
theorem dX1_work_59 : decode cX1_work 59 = .ok (.aload 4, 2) := dk_25 4 (dk_at dksX1_work_2 11 rfl rfl)
theorem dX1_work_61 : decode cX1_work 61 = .ok (.invokevirtual 126, 3) := dk_182 0 126 (dk_at dksX1_work_2 13 rfl rfl)
theorem dX1_work_64 : decode cX1_work 64 = .ok (.aload_n 0, 1) := dk_42 (dk_at dksX1_work_2 16 rfl rfl)
theorem dX1_work_65 : decode cX1_work 65 = .ok (.dup, 1) := dk_89 (dk_at dksX1_work_2 17 rfl rfl)
theorem dX1_work_66 : decode cX1_work 66 = .ok (.getfield 132, 3) := dk_180 0 132 (dk_at dksX1_work_2 18 rfl rfl)
theorem dX1_work_69 : decode cX1_work 69 = .ok (.iload_n 1, 1) := dk_27 (dk_at dksX1_work_2 21 rfl rfl)
theorem dX1_work_70 : decode cX1_work 70 = .ok (.iconst 2, 1) := dk_5 (dk_at dksX1_work_2 22 rfl rfl)
theorem dX1_work_71 : decode cX1_work 71 = .ok (.if_icmp .ne 7, 3) := dk_160 0 7 (dk_at dksX1_work_3 0 rfl rfl)
theorem dX1_work_74 : decode cX1_work 74 = .ok (.iconst 1, 1) := dk_4 (dk_at dksX1_work_3 3 rfl rfl)
theorem dX1_work_75 : decode cX1_work 75 = .ok (.goto 4, 3) := dk_167 0 4 (dk_at dksX1_work_3 4 rfl rfl)
theorem dX1_work_78 : decode cX1_work 78 = .ok (.iconst 0, 1) := dk_3 (dk_at dksX1_work_3 7 rfl rfl)
theorem dX1_work_79 : decode cX1_work 79 = .ok (.iand, 1) := dk_126 (dk_at dksX1_work_3 8 rfl rfl)
theorem dX1_work_80 : decode cX1_work 80 = .ok (.putfield 132, 3) := dk_181 0 132 (dk_at dksX1_work_3 9 rfl rfl)
theorem dX1_work_83 : decode cX1_work 83 = .ok (.iload_n 1, 1) := dk_27 (dk_at dksX1_work_3 12 rfl rfl)
theorem dX1_work_84 : decode cX1_work 84 = .ok (.ifCond .ne 13, 3) := dk_154 0 13 (dk_at dksX1_work_3 13 rfl rfl)
theorem dX1_work_87 : decode cX1_work 87 = .ok (.aload_n 0, 1) := dk_42 (dk_at dksX1_work_3 16 rfl rfl)
theorem dX1_work_88 : decode cX1_work 88 = .ok (.aload 4, 2) := dk_25 4 (dk_at dksX1_work_3 17 rfl rfl)
theorem dX1_work_90 : decode cX1_work 90 = .ok (.iload_n 2, 1) := dk_28 (dk_at dksX1_work_3 19 rfl rfl)
theorem dX1_work_91 : decode cX1_work 91 = .ok (.invokevirtual 184, 3) := dk_182 0 184 (dk_at dksX1_work_3 20 rfl rfl)
theorem dX1_work_94 : decode cX1_work 94 = .ok (.goto 25, 3) := dk_167 0 25 (dk_at dksX1_work_4 0 rfl rfl)
theorem dX1_work_97 : decode cX1_work 97 = .ok (.iload_n 1, 1) := dk_27 (dk_at dksX1_work_4 3 rfl rfl)
theorem dX1_work_98 : decode cX1_work 98 = .ok (.iconst 1, 1) := dk_4 (dk_at dksX1_work_4 4 rfl rfl)
theorem dX1_work_99 : decode cX1_work 99 = .ok (.if_icmp .ne 13, 3) := dk_160 0 13 (dk_at dksX1_work_4 5 rfl rfl)
theorem dX1_work_102 : decode cX1_work 102 = .ok (.aload_n 0, 1) := dk_42 (dk_at dksX1_work_4 8 rfl rfl)
theorem dX1_work_103 : decode cX1_work 103 = .ok (.aload 4, 2) := dk_25 4 (dk_at dksX1_work_4 9 rfl rfl)
theorem dX1_work_105 : decode cX1_work 105 = .ok (.iload_n 2, 1) := dk_28 (dk_at dksX1_work_4 11 rfl rfl)
theorem dX1_work_106 : decode cX1_work 106 = .ok (.invokevirtual 188, 3) := dk_182 0 188 (dk_at dksX1_work_4 12 rfl rfl)
theorem dX1_work_109 : decode cX1_work 109 = .ok (.goto 10, 3) := dk_167 0 10 (dk_at dksX1_work_4 15 rfl rfl)
theorem dX1_work_112 : decode cX1_work 112 = .ok (.aload_n 0, 1) := dk_42 (dk_at dksX1_work_4 18 rfl rfl)
theorem dX1_work_113 : decode cX1_work 113 = .ok (.aload 4, 2) := dk_25 4 (dk_at dksX1_work_4 19 rfl rfl)
theorem dX1_work_115 : decode cX1_work 115 = .ok (.iload_n 2, 1) := dk_28 (dk_at dksX1_work_4 21 rfl rfl)
theorem dX1_work_116 : decode cX1_work 116 = .ok (.invokevirtual 191, 3) := dk_182 0 191 (dk_at dksX1_work_5 0 rfl rfl)
theorem dX1_work_119 : decode cX1_work 119 = .ok (.istore 5, 2) := dk_54 5 (dk_at dksX1_work_5 3 rfl rfl)
theorem dX1_work_121 : decode cX1_work 121 = .ok (.iload 5, 2) := dk_21 5 (dk_at dksX1_work_5 5 rfl rfl)
theorem dX1_work_123 : decode cX1_work 123 = .ok (.ifCond .ne 10, 3) := dk_154 0 10 (dk_at dksX1_work_5 7 rfl rfl)
theorem dX1_work_126 : decode cX1_work 126 = .ok (.aload 4, 2) := dk_25 4 (dk_at dksX1_work_5 10 rfl rfl)
theorem dX1_work_128 : decode cX1_work 128 = .ok (.invokevirtual 126, 3) := dk_182 0 126 (dk_at dksX1_work_5 12 rfl rfl)
theorem dX1_work_131 : decode cX1_work 131 = .ok (.iconst (-1), 1) := dk_2 (dk_at dksX1_work_5 15 rfl rfl)
theorem dX1_work_132 : decode cX1_work 132 = .ok (.ireturn, 1) := dk_172 (dk_at dksX1_work_5 16 rfl rfl)
theorem dX1_work_133 : decode cX1_work 133 = .ok (.aload 4, 2) := dk_25 4 (dk_at dksX1_work_5 17 rfl rfl)
theorem dX1_work_135 : decode cX1_work 135 = .ok (.iload_n 2, 1) := dk_28 (dk_at dksX1_work_5 19 rfl rfl)
theorem dX1_work_136 : decode cX1_work 136 = .ok (.putfield 194, 3) := dk_181 0 194 (dk_at dksX1_work_5 20 rfl rfl)
theorem dX1_work_139 : decode cX1_work 139 = .ok (.aload 4, 2) := dk_25 4 (dk_at dksX1_work_6 0 rfl rfl)
theorem dX1_work_141 : decode cX1_work 141 = .ok (.getfield 197, 3) := dk_180 0 197 (dk_at dksX1_work_6 2 rfl rfl)
theorem dX1_work_144 : decode cX1_work 144 = .ok (.invokevirtual 200, 3) := dk_182 0 200 (dk_at dksX1_work_6 5 rfl rfl)
theorem dX1_work_147 : decode cX1_work 147 = .ok (.ireturn, 1) := dk_172 (dk_at dksX1_work_6 8 rfl rfl)
abbrev cX1_summands : ByteArray := prog_1_method_15_code
def yX1_summands : MethodName := ⟨RX1, "summands", "(LLeastSolutions$Found;I)Z"⟩
def dkwX1_summands_2 : List UInt8 := [132, 4, 1, 167, 255, 223, 29, 172]
abbrev dktX1_summands_2 : List UInt8 := dkwX1_summands_2 ++ []
def dkwX1_summands_1 : List UInt8 := [180, 0, 207, 182, 0, 200, 162, 0, 24, 29, 153, 0, 20, 42, 21, 4, 43, 180, 0, 197, 3, 182, 0, 210]
abbrev dktX1_summands_1 : List UInt8 := dkwX1_summands_1 ++ dktX1_summands_2
def dkwX1_summands_0 : List UInt8 := [42, 180, 0, 62, 42, 180, 0, 45, 3, 28, 182, 0, 203, 62, 3, 54, 4, 21, 4, 42, 180, 0, 62]
abbrev dktX1_summands_0 : List UInt8 := dkwX1_summands_0 ++ dktX1_summands_1
theorem dksX1_summands_0 : cX1_summands.data.toList.drop 0 = dktX1_summands_0 := by decide +kernel
theorem dksX1_summands_1 : cX1_summands.data.toList.drop 23 = dktX1_summands_1 := dk_seg dksX1_summands_0 23 rfl rfl
theorem dksX1_summands_2 : cX1_summands.data.toList.drop 47 = dktX1_summands_2 := dk_seg dksX1_summands_1 24 rfl rfl
theorem dX1_summands_0 : decode cX1_summands 0 = .ok (.aload_n 0, 1) := dk_42 (dk_at dksX1_summands_0 0 rfl rfl)
theorem dX1_summands_1 : decode cX1_summands 1 = .ok (.getfield 62, 3) := dk_180 0 62 (dk_at dksX1_summands_0 1 rfl rfl)
theorem dX1_summands_4 : decode cX1_summands 4 = .ok (.aload_n 0, 1) := dk_42 (dk_at dksX1_summands_0 4 rfl rfl)
theorem dX1_summands_5 : decode cX1_summands 5 = .ok (.getfield 45, 3) := dk_180 0 45 (dk_at dksX1_summands_0 5 rfl rfl)
theorem dX1_summands_8 : decode cX1_summands 8 = .ok (.iconst 0, 1) := dk_3 (dk_at dksX1_summands_0 8 rfl rfl)
theorem dX1_summands_9 : decode cX1_summands 9 = .ok (.iload_n 2, 1) := dk_28 (dk_at dksX1_summands_0 9 rfl rfl)
theorem dX1_summands_10 : decode cX1_summands 10 = .ok (.invokevirtual 203, 3) := dk_182 0 203 (dk_at dksX1_summands_0 10 rfl rfl)
theorem dX1_summands_13 : decode cX1_summands 13 = .ok (.istore_n 3, 1) := dk_62 (dk_at dksX1_summands_0 13 rfl rfl)
theorem dX1_summands_14 : decode cX1_summands 14 = .ok (.iconst 0, 1) := dk_3 (dk_at dksX1_summands_0 14 rfl rfl)
theorem dX1_summands_15 : decode cX1_summands 15 = .ok (.istore 4, 2) := dk_54 4 (dk_at dksX1_summands_0 15 rfl rfl)
theorem dX1_summands_17 : decode cX1_summands 17 = .ok (.iload 4, 2) := dk_21 4 (dk_at dksX1_summands_0 17 rfl rfl)
theorem dX1_summands_19 : decode cX1_summands 19 = .ok (.aload_n 0, 1) := dk_42 (dk_at dksX1_summands_0 19 rfl rfl)
theorem dX1_summands_20 : decode cX1_summands 20 = .ok (.getfield 62, 3) := dk_180 0 62 (dk_at dksX1_summands_0 20 rfl rfl)
theorem dX1_summands_23 : decode cX1_summands 23 = .ok (.getfield 207, 3) := dk_180 0 207 (dk_at dksX1_summands_1 0 rfl rfl)
theorem dX1_summands_26 : decode cX1_summands 26 = .ok (.invokevirtual 200, 3) := dk_182 0 200 (dk_at dksX1_summands_1 3 rfl rfl)
theorem dX1_summands_29 : decode cX1_summands 29 = .ok (.if_icmp .ge 24, 3) := dk_162 0 24 (dk_at dksX1_summands_1 6 rfl rfl)
theorem dX1_summands_32 : decode cX1_summands 32 = .ok (.iload_n 3, 1) := dk_29 (dk_at dksX1_summands_1 9 rfl rfl)
theorem dX1_summands_33 : decode cX1_summands 33 = .ok (.ifCond .eq 20, 3) := dk_153 0 20 (dk_at dksX1_summands_1 10 rfl rfl)
theorem dX1_summands_36 : decode cX1_summands 36 = .ok (.aload_n 0, 1) := dk_42 (dk_at dksX1_summands_1 13 rfl rfl)
theorem dX1_summands_37 : decode cX1_summands 37 = .ok (.iload 4, 2) := dk_21 4 (dk_at dksX1_summands_1 14 rfl rfl)
theorem dX1_summands_39 : decode cX1_summands 39 = .ok (.aload_n 1, 1) := dk_43 (dk_at dksX1_summands_1 16 rfl rfl)
theorem dX1_summands_40 : decode cX1_summands 40 = .ok (.getfield 197, 3) := dk_180 0 197 (dk_at dksX1_summands_1 17 rfl rfl)
theorem dX1_summands_43 : decode cX1_summands 43 = .ok (.iconst 0, 1) := dk_3 (dk_at dksX1_summands_1 20 rfl rfl)
theorem dX1_summands_44 : decode cX1_summands 44 = .ok (.invokevirtual 210, 3) := dk_182 0 210 (dk_at dksX1_summands_1 21 rfl rfl)
theorem dX1_summands_47 : decode cX1_summands 47 = .ok (.iinc 4 1, 3) := dk_132 4 1 (dk_at dksX1_summands_2 0 rfl rfl)
theorem dX1_summands_50 : decode cX1_summands 50 = .ok (.goto (-33), 3) := dk_167 255 223 (dk_at dksX1_summands_2 3 rfl rfl)
theorem dX1_summands_53 : decode cX1_summands 53 = .ok (.iload_n 3, 1) := dk_29 (dk_at dksX1_summands_2 6 rfl rfl)
theorem dX1_summands_54 : decode cX1_summands 54 = .ok (.ireturn, 1) := dk_172 (dk_at dksX1_summands_2 7 rfl rfl)
abbrev cX1_keep : ByteArray := prog_1_method_1_code
def yX1_keep : MethodName := ⟨RX1, "keep", "(LLeastSolutions$Shelf;[II)V"⟩
def dkwX1_keep_1 : List UInt8 := [45, 43, 28, 182, 0, 13, 42, 45, 182, 0, 17, 177]
abbrev dktX1_keep_1 : List UInt8 := dkwX1_keep_1 ++ []
def dkwX1_keep_0 : List UInt8 := [42, 182, 0, 1, 192, 0, 7, 78, 45, 199, 0, 13, 187, 0, 7, 89, 183, 0, 9, 167, 0, 4, 45, 78]
abbrev dktX1_keep_0 : List UInt8 := dkwX1_keep_0 ++ dktX1_keep_1
theorem dksX1_keep_0 : cX1_keep.data.toList.drop 0 = dktX1_keep_0 := by decide +kernel
theorem dksX1_keep_1 : cX1_keep.data.toList.drop 24 = dktX1_keep_1 := dk_seg dksX1_keep_0 24 rfl rfl
theorem dX1_keep_0 : decode cX1_keep 0 = .ok (.aload_n 0, 1) := dk_42 (dk_at dksX1_keep_0 0 rfl rfl)
theorem dX1_keep_1 : decode cX1_keep 1 = .ok (.invokevirtual 1, 3) := dk_182 0 1 (dk_at dksX1_keep_0 1 rfl rfl)
theorem dX1_keep_4 : decode cX1_keep 4 = .ok (.checkcast 7, 3) := dk_192 0 7 (dk_at dksX1_keep_0 4 rfl rfl)
theorem dX1_keep_7 : decode cX1_keep 7 = .ok (.astore_n 3, 1) := dk_78 (dk_at dksX1_keep_0 7 rfl rfl)
theorem dX1_keep_8 : decode cX1_keep 8 = .ok (.aload_n 3, 1) := dk_45 (dk_at dksX1_keep_0 8 rfl rfl)
theorem dX1_keep_9 : decode cX1_keep 9 = .ok (.ifnonnull 13, 3) := dk_199 0 13 (dk_at dksX1_keep_0 9 rfl rfl)
theorem dX1_keep_12 : decode cX1_keep 12 = .ok (.new 7, 3) := dk_187 0 7 (dk_at dksX1_keep_0 12 rfl rfl)
theorem dX1_keep_15 : decode cX1_keep 15 = .ok (.dup, 1) := dk_89 (dk_at dksX1_keep_0 15 rfl rfl)
theorem dX1_keep_16 : decode cX1_keep 16 = .ok (.invokespecial 9, 3) := dk_183 0 9 (dk_at dksX1_keep_0 16 rfl rfl)
theorem dX1_keep_19 : decode cX1_keep 19 = .ok (.goto 4, 3) := dk_167 0 4 (dk_at dksX1_keep_0 19 rfl rfl)
theorem dX1_keep_22 : decode cX1_keep 22 = .ok (.aload_n 3, 1) := dk_45 (dk_at dksX1_keep_0 22 rfl rfl)
theorem dX1_keep_23 : decode cX1_keep 23 = .ok (.astore_n 3, 1) := dk_78 (dk_at dksX1_keep_0 23 rfl rfl)
theorem dX1_keep_24 : decode cX1_keep 24 = .ok (.aload_n 3, 1) := dk_45 (dk_at dksX1_keep_1 0 rfl rfl)
theorem dX1_keep_25 : decode cX1_keep 25 = .ok (.aload_n 1, 1) := dk_43 (dk_at dksX1_keep_1 1 rfl rfl)
theorem dX1_keep_26 : decode cX1_keep 26 = .ok (.iload_n 2, 1) := dk_28 (dk_at dksX1_keep_1 2 rfl rfl)
theorem dX1_keep_27 : decode cX1_keep 27 = .ok (.invokevirtual 13, 3) := dk_182 0 13 (dk_at dksX1_keep_1 3 rfl rfl)
theorem dX1_keep_30 : decode cX1_keep 30 = .ok (.aload_n 0, 1) := dk_42 (dk_at dksX1_keep_1 6 rfl rfl)
theorem dX1_keep_31 : decode cX1_keep 31 = .ok (.aload_n 3, 1) := dk_45 (dk_at dksX1_keep_1 7 rfl rfl)
theorem dX1_keep_32 : decode cX1_keep 32 = .ok (.invokevirtual 17, 3) := dk_182 0 17 (dk_at dksX1_keep_1 8 rfl rfl)
theorem dX1_keep_35 : decode cX1_keep 35 = .ok (.return_, 1) := dk_177 (dk_at dksX1_keep_1 11 rfl rfl)
abbrev cX1_copy : ByteArray := prog_1_method_16_code
def yX1_copy : MethodName := ⟨RX1, "copy", "(ILLeastSolutions$Shelf;I)V"⟩
def dkwX1_copy_1 : List UInt8 := [180, 0, 96, 29, 184, 0, 222, 177]
abbrev dktX1_copy_1 : List UInt8 := dkwX1_copy_1 ++ []
def dkwX1_copy_0 : List UInt8 := [42, 180, 0, 62, 180, 0, 207, 27, 182, 0, 214, 192, 0, 7, 42, 180, 0, 96, 182, 0, 218, 44, 42]
abbrev dktX1_copy_0 : List UInt8 := dkwX1_copy_0 ++ dktX1_copy_1
theorem dksX1_copy_0 : cX1_copy.data.toList.drop 0 = dktX1_copy_0 := by decide +kernel
theorem dksX1_copy_1 : cX1_copy.data.toList.drop 23 = dktX1_copy_1 := dk_seg dksX1_copy_0 23 rfl rfl
theorem dX1_copy_0 : decode cX1_copy 0 = .ok (.aload_n 0, 1) := dk_42 (dk_at dksX1_copy_0 0 rfl rfl)
theorem dX1_copy_1 : decode cX1_copy 1 = .ok (.getfield 62, 3) := dk_180 0 62 (dk_at dksX1_copy_0 1 rfl rfl)
theorem dX1_copy_4 : decode cX1_copy 4 = .ok (.getfield 207, 3) := dk_180 0 207 (dk_at dksX1_copy_0 4 rfl rfl)
theorem dX1_copy_7 : decode cX1_copy 7 = .ok (.iload_n 1, 1) := dk_27 (dk_at dksX1_copy_0 7 rfl rfl)
theorem dX1_copy_8 : decode cX1_copy 8 = .ok (.invokevirtual 214, 3) := dk_182 0 214 (dk_at dksX1_copy_0 8 rfl rfl)
theorem dX1_copy_11 : decode cX1_copy 11 = .ok (.checkcast 7, 3) := dk_192 0 7 (dk_at dksX1_copy_0 11 rfl rfl)
theorem dX1_copy_14 : decode cX1_copy 14 = .ok (.aload_n 0, 1) := dk_42 (dk_at dksX1_copy_0 14 rfl rfl)
theorem dX1_copy_15 : decode cX1_copy 15 = .ok (.getfield 96, 3) := dk_180 0 96 (dk_at dksX1_copy_0 15 rfl rfl)
theorem dX1_copy_18 : decode cX1_copy 18 = .ok (.invokevirtual 218, 3) := dk_182 0 218 (dk_at dksX1_copy_0 18 rfl rfl)
theorem dX1_copy_21 : decode cX1_copy 21 = .ok (.aload_n 2, 1) := dk_44 (dk_at dksX1_copy_0 21 rfl rfl)
theorem dX1_copy_22 : decode cX1_copy 22 = .ok (.aload_n 0, 1) := dk_42 (dk_at dksX1_copy_0 22 rfl rfl)
theorem dX1_copy_23 : decode cX1_copy 23 = .ok (.getfield 96, 3) := dk_180 0 96 (dk_at dksX1_copy_1 0 rfl rfl)
theorem dX1_copy_26 : decode cX1_copy 26 = .ok (.iload_n 3, 1) := dk_29 (dk_at dksX1_copy_1 3 rfl rfl)
theorem dX1_copy_27 : decode cX1_copy 27 = .ok (.invokestatic 222, 3) := dk_184 0 222 (dk_at dksX1_copy_1 4 rfl rfl)
theorem dX1_copy_30 : decode cX1_copy 30 = .ok (.return_, 1) := dk_177 (dk_at dksX1_copy_1 7 rfl rfl)
abbrev cX1_least : ByteArray := prog_1_method_17_code
def yX1_least : MethodName := ⟨RX1, "least", "(LLeastSolutions$Found;I)Z"⟩
def dkwX1_least_4 : List UInt8 := [153, 0, 20, 42, 21, 4, 43, 180, 0, 197, 3, 182, 0, 210, 132, 4, 1, 167, 255, 223, 29, 172]
abbrev dktX1_least_4 : List UInt8 := dkwX1_least_4 ++ []
def dkwX1_least_3 : List UInt8 := [182, 0, 227, 62, 3, 54, 4, 21, 4, 42, 180, 0, 62, 180, 0, 207, 182, 0, 200, 162, 0, 24, 29]
abbrev dktX1_least_3 : List UInt8 := dkwX1_least_3 ++ dktX1_least_4
def dkwX1_least_2 : List UInt8 := [182, 0, 210, 132, 3, 1, 167, 255, 229, 42, 180, 0, 62, 42, 180, 0, 45, 42, 180, 0, 92, 28]
abbrev dktX1_least_2 : List UInt8 := dkwX1_least_2 ++ dktX1_least_3
def dkwX1_least_1 : List UInt8 := [62, 29, 42, 180, 0, 62, 180, 0, 207, 182, 0, 200, 162, 0, 19, 42, 29, 42, 180, 0, 92, 3]
abbrev dktX1_least_1 : List UInt8 := dkwX1_least_1 ++ dktX1_least_2
def dkwX1_least_0 : List UInt8 := [42, 180, 0, 92, 182, 0, 226, 42, 180, 0, 62, 42, 180, 0, 45, 3, 28, 182, 0, 203, 153, 0, 35, 3]
abbrev dktX1_least_0 : List UInt8 := dkwX1_least_0 ++ dktX1_least_1
theorem dksX1_least_0 : cX1_least.data.toList.drop 0 = dktX1_least_0 := by decide +kernel
theorem dksX1_least_1 : cX1_least.data.toList.drop 24 = dktX1_least_1 := dk_seg dksX1_least_0 24 rfl rfl
theorem dksX1_least_2 : cX1_least.data.toList.drop 46 = dktX1_least_2 := dk_seg dksX1_least_1 22 rfl rfl
theorem dksX1_least_3 : cX1_least.data.toList.drop 68 = dktX1_least_3 := dk_seg dksX1_least_2 22 rfl rfl
theorem dksX1_least_4 : cX1_least.data.toList.drop 91 = dktX1_least_4 := dk_seg dksX1_least_3 23 rfl rfl
theorem dX1_least_0 : decode cX1_least 0 = .ok (.aload_n 0, 1) := dk_42 (dk_at dksX1_least_0 0 rfl rfl)
theorem dX1_least_1 : decode cX1_least 1 = .ok (.getfield 92, 3) := dk_180 0 92 (dk_at dksX1_least_0 1 rfl rfl)
theorem dX1_least_4 : decode cX1_least 4 = .ok (.invokevirtual 226, 3) := dk_182 0 226 (dk_at dksX1_least_0 4 rfl rfl)
theorem dX1_least_7 : decode cX1_least 7 = .ok (.aload_n 0, 1) := dk_42 (dk_at dksX1_least_0 7 rfl rfl)
theorem dX1_least_8 : decode cX1_least 8 = .ok (.getfield 62, 3) := dk_180 0 62 (dk_at dksX1_least_0 8 rfl rfl)
theorem dX1_least_11 : decode cX1_least 11 = .ok (.aload_n 0, 1) := dk_42 (dk_at dksX1_least_0 11 rfl rfl)
theorem dX1_least_12 : decode cX1_least 12 = .ok (.getfield 45, 3) := dk_180 0 45 (dk_at dksX1_least_0 12 rfl rfl)
theorem dX1_least_15 : decode cX1_least 15 = .ok (.iconst 0, 1) := dk_3 (dk_at dksX1_least_0 15 rfl rfl)
theorem dX1_least_16 : decode cX1_least 16 = .ok (.iload_n 2, 1) := dk_28 (dk_at dksX1_least_0 16 rfl rfl)
theorem dX1_least_17 : decode cX1_least 17 = .ok (.invokevirtual 203, 3) := dk_182 0 203 (dk_at dksX1_least_0 17 rfl rfl)
theorem dX1_least_20 : decode cX1_least 20 = .ok (.ifCond .eq 35, 3) := dk_153 0 35 (dk_at dksX1_least_0 20 rfl rfl)
theorem dX1_least_23 : decode cX1_least 23 = .ok (.iconst 0, 1) := dk_3 (dk_at dksX1_least_0 23 rfl rfl)
theorem dX1_least_24 : decode cX1_least 24 = .ok (.istore_n 3, 1) := dk_62 (dk_at dksX1_least_1 0 rfl rfl)
theorem dX1_least_25 : decode cX1_least 25 = .ok (.iload_n 3, 1) := dk_29 (dk_at dksX1_least_1 1 rfl rfl)
theorem dX1_least_26 : decode cX1_least 26 = .ok (.aload_n 0, 1) := dk_42 (dk_at dksX1_least_1 2 rfl rfl)
theorem dX1_least_27 : decode cX1_least 27 = .ok (.getfield 62, 3) := dk_180 0 62 (dk_at dksX1_least_1 3 rfl rfl)
theorem dX1_least_30 : decode cX1_least 30 = .ok (.getfield 207, 3) := dk_180 0 207 (dk_at dksX1_least_1 6 rfl rfl)
theorem dX1_least_33 : decode cX1_least 33 = .ok (.invokevirtual 200, 3) := dk_182 0 200 (dk_at dksX1_least_1 9 rfl rfl)
theorem dX1_least_36 : decode cX1_least 36 = .ok (.if_icmp .ge 19, 3) := dk_162 0 19 (dk_at dksX1_least_1 12 rfl rfl)
theorem dX1_least_39 : decode cX1_least 39 = .ok (.aload_n 0, 1) := dk_42 (dk_at dksX1_least_1 15 rfl rfl)
theorem dX1_least_40 : decode cX1_least 40 = .ok (.iload_n 3, 1) := dk_29 (dk_at dksX1_least_1 16 rfl rfl)
theorem dX1_least_41 : decode cX1_least 41 = .ok (.aload_n 0, 1) := dk_42 (dk_at dksX1_least_1 17 rfl rfl)
theorem dX1_least_42 : decode cX1_least 42 = .ok (.getfield 92, 3) := dk_180 0 92 (dk_at dksX1_least_1 18 rfl rfl)
theorem dX1_least_45 : decode cX1_least 45 = .ok (.iconst 0, 1) := dk_3 (dk_at dksX1_least_1 21 rfl rfl)
theorem dX1_least_46 : decode cX1_least 46 = .ok (.invokevirtual 210, 3) := dk_182 0 210 (dk_at dksX1_least_2 0 rfl rfl)
theorem dX1_least_49 : decode cX1_least 49 = .ok (.iinc 3 1, 3) := dk_132 3 1 (dk_at dksX1_least_2 3 rfl rfl)
theorem dX1_least_52 : decode cX1_least 52 = .ok (.goto (-27), 3) := dk_167 255 229 (dk_at dksX1_least_2 6 rfl rfl)
theorem dX1_least_55 : decode cX1_least 55 = .ok (.aload_n 0, 1) := dk_42 (dk_at dksX1_least_2 9 rfl rfl)
theorem dX1_least_56 : decode cX1_least 56 = .ok (.getfield 62, 3) := dk_180 0 62 (dk_at dksX1_least_2 10 rfl rfl)
theorem dX1_least_59 : decode cX1_least 59 = .ok (.aload_n 0, 1) := dk_42 (dk_at dksX1_least_2 13 rfl rfl)
theorem dX1_least_60 : decode cX1_least 60 = .ok (.getfield 45, 3) := dk_180 0 45 (dk_at dksX1_least_2 14 rfl rfl)
theorem dX1_least_63 : decode cX1_least 63 = .ok (.aload_n 0, 1) := dk_42 (dk_at dksX1_least_2 17 rfl rfl)
theorem dX1_least_64 : decode cX1_least 64 = .ok (.getfield 92, 3) := dk_180 0 92 (dk_at dksX1_least_2 18 rfl rfl)
theorem dX1_least_67 : decode cX1_least 67 = .ok (.iload_n 2, 1) := dk_28 (dk_at dksX1_least_2 21 rfl rfl)
theorem dX1_least_68 : decode cX1_least 68 = .ok (.invokevirtual 227, 3) := dk_182 0 227 (dk_at dksX1_least_3 0 rfl rfl)
theorem dX1_least_71 : decode cX1_least 71 = .ok (.istore_n 3, 1) := dk_62 (dk_at dksX1_least_3 3 rfl rfl)
theorem dX1_least_72 : decode cX1_least 72 = .ok (.iconst 0, 1) := dk_3 (dk_at dksX1_least_3 4 rfl rfl)
theorem dX1_least_73 : decode cX1_least 73 = .ok (.istore 4, 2) := dk_54 4 (dk_at dksX1_least_3 5 rfl rfl)
theorem dX1_least_75 : decode cX1_least 75 = .ok (.iload 4, 2) := dk_21 4 (dk_at dksX1_least_3 7 rfl rfl)
theorem dX1_least_77 : decode cX1_least 77 = .ok (.aload_n 0, 1) := dk_42 (dk_at dksX1_least_3 9 rfl rfl)
theorem dX1_least_78 : decode cX1_least 78 = .ok (.getfield 62, 3) := dk_180 0 62 (dk_at dksX1_least_3 10 rfl rfl)
theorem dX1_least_81 : decode cX1_least 81 = .ok (.getfield 207, 3) := dk_180 0 207 (dk_at dksX1_least_3 13 rfl rfl)
theorem dX1_least_84 : decode cX1_least 84 = .ok (.invokevirtual 200, 3) := dk_182 0 200 (dk_at dksX1_least_3 16 rfl rfl)
theorem dX1_least_87 : decode cX1_least 87 = .ok (.if_icmp .ge 24, 3) := dk_162 0 24 (dk_at dksX1_least_3 19 rfl rfl)
theorem dX1_least_90 : decode cX1_least 90 = .ok (.iload_n 3, 1) := dk_29 (dk_at dksX1_least_3 22 rfl rfl)
theorem dX1_least_91 : decode cX1_least 91 = .ok (.ifCond .eq 20, 3) := dk_153 0 20 (dk_at dksX1_least_4 0 rfl rfl)
theorem dX1_least_94 : decode cX1_least 94 = .ok (.aload_n 0, 1) := dk_42 (dk_at dksX1_least_4 3 rfl rfl)
theorem dX1_least_95 : decode cX1_least 95 = .ok (.iload 4, 2) := dk_21 4 (dk_at dksX1_least_4 4 rfl rfl)
theorem dX1_least_97 : decode cX1_least 97 = .ok (.aload_n 1, 1) := dk_43 (dk_at dksX1_least_4 6 rfl rfl)
theorem dX1_least_98 : decode cX1_least 98 = .ok (.getfield 197, 3) := dk_180 0 197 (dk_at dksX1_least_4 7 rfl rfl)
theorem dX1_least_101 : decode cX1_least 101 = .ok (.iconst 0, 1) := dk_3 (dk_at dksX1_least_4 10 rfl rfl)
theorem dX1_least_102 : decode cX1_least 102 = .ok (.invokevirtual 210, 3) := dk_182 0 210 (dk_at dksX1_least_4 11 rfl rfl)
theorem dX1_least_105 : decode cX1_least 105 = .ok (.iinc 4 1, 3) := dk_132 4 1 (dk_at dksX1_least_4 14 rfl rfl)
theorem dX1_least_108 : decode cX1_least 108 = .ok (.goto (-33), 3) := dk_167 255 223 (dk_at dksX1_least_4 17 rfl rfl)
theorem dX1_least_111 : decode cX1_least 111 = .ok (.iload_n 3, 1) := dk_29 (dk_at dksX1_least_4 20 rfl rfl)
theorem dX1_least_112 : decode cX1_least 112 = .ok (.ireturn, 1) := dk_172 (dk_at dksX1_least_4 21 rfl rfl)
abbrev cX1_signed : ByteArray := prog_1_method_18_code
def yX1_signed : MethodName := ⟨RX1, "signed", "(LLeastSolutions$Found;I)Z"⟩
def dkwX1_signed_5 : List UInt8 := [172]
abbrev dktX1_signed_5 : List UInt8 := dkwX1_signed_5 ++ []
def dkwX1_signed_4 : List UInt8 := [42, 21, 4, 43, 180, 0, 197, 29, 182, 0, 210, 132, 4, 1, 167, 255, 183, 132, 3, 1, 167, 255, 143, 4]
abbrev dktX1_signed_4 : List UInt8 := dkwX1_signed_4 ++ dktX1_signed_5
def dkwX1_signed_3 : List UInt8 := [25, 5, 29, 184, 0, 234, 153, 0, 29, 43, 180, 0, 197, 182, 0, 200, 17, 7, 208, 160, 0, 5, 3, 172]
abbrev dktX1_signed_3 : List UInt8 := dkwX1_signed_3 ++ dktX1_signed_4
def dkwX1_signed_2 : List UInt8 := [162, 0, 64, 42, 180, 0, 62, 180, 0, 207, 21, 4, 182, 0, 214, 192, 0, 7, 180, 0, 231, 58, 5]
abbrev dktX1_signed_2 : List UInt8 := dkwX1_signed_2 ++ dktX1_signed_3
def dkwX1_signed_1 : List UInt8 := [28, 182, 0, 203, 154, 0, 5, 3, 172, 3, 54, 4, 21, 4, 42, 180, 0, 62, 180, 0, 207, 182, 0, 200]
abbrev dktX1_signed_1 : List UInt8 := dkwX1_signed_1 ++ dktX1_signed_2
def dkwX1_signed_0 : List UInt8 := [3, 62, 29, 4, 42, 180, 0, 45, 180, 0, 141, 120, 162, 0, 106, 42, 180, 0, 62, 42, 180, 0, 45, 29]
abbrev dktX1_signed_0 : List UInt8 := dkwX1_signed_0 ++ dktX1_signed_1
theorem dksX1_signed_0 : cX1_signed.data.toList.drop 0 = dktX1_signed_0 := by decide +kernel
theorem dksX1_signed_1 : cX1_signed.data.toList.drop 24 = dktX1_signed_1 := dk_seg dksX1_signed_0 24 rfl rfl
theorem dksX1_signed_2 : cX1_signed.data.toList.drop 48 = dktX1_signed_2 := dk_seg dksX1_signed_1 24 rfl rfl
theorem dksX1_signed_3 : cX1_signed.data.toList.drop 71 = dktX1_signed_3 := dk_seg dksX1_signed_2 23 rfl rfl
theorem dksX1_signed_4 : cX1_signed.data.toList.drop 95 = dktX1_signed_4 := dk_seg dksX1_signed_3 24 rfl rfl
theorem dksX1_signed_5 : cX1_signed.data.toList.drop 119 = dktX1_signed_5 := dk_seg dksX1_signed_4 24 rfl rfl
theorem dX1_signed_0 : decode cX1_signed 0 = .ok (.iconst 0, 1) := dk_3 (dk_at dksX1_signed_0 0 rfl rfl)
theorem dX1_signed_1 : decode cX1_signed 1 = .ok (.istore_n 3, 1) := dk_62 (dk_at dksX1_signed_0 1 rfl rfl)
theorem dX1_signed_2 : decode cX1_signed 2 = .ok (.iload_n 3, 1) := dk_29 (dk_at dksX1_signed_0 2 rfl rfl)
theorem dX1_signed_3 : decode cX1_signed 3 = .ok (.iconst 1, 1) := dk_4 (dk_at dksX1_signed_0 3 rfl rfl)
theorem dX1_signed_4 : decode cX1_signed 4 = .ok (.aload_n 0, 1) := dk_42 (dk_at dksX1_signed_0 4 rfl rfl)
theorem dX1_signed_5 : decode cX1_signed 5 = .ok (.getfield 45, 3) := dk_180 0 45 (dk_at dksX1_signed_0 5 rfl rfl)
theorem dX1_signed_8 : decode cX1_signed 8 = .ok (.getfield 141, 3) := dk_180 0 141 (dk_at dksX1_signed_0 8 rfl rfl)
theorem dX1_signed_11 : decode cX1_signed 11 = .ok (.ishl, 1) := dk_120 (dk_at dksX1_signed_0 11 rfl rfl)
theorem dX1_signed_12 : decode cX1_signed 12 = .ok (.if_icmp .ge 106, 3) := dk_162 0 106 (dk_at dksX1_signed_0 12 rfl rfl)
theorem dX1_signed_15 : decode cX1_signed 15 = .ok (.aload_n 0, 1) := dk_42 (dk_at dksX1_signed_0 15 rfl rfl)
theorem dX1_signed_16 : decode cX1_signed 16 = .ok (.getfield 62, 3) := dk_180 0 62 (dk_at dksX1_signed_0 16 rfl rfl)
theorem dX1_signed_19 : decode cX1_signed 19 = .ok (.aload_n 0, 1) := dk_42 (dk_at dksX1_signed_0 19 rfl rfl)
theorem dX1_signed_20 : decode cX1_signed 20 = .ok (.getfield 45, 3) := dk_180 0 45 (dk_at dksX1_signed_0 20 rfl rfl)
theorem dX1_signed_23 : decode cX1_signed 23 = .ok (.iload_n 3, 1) := dk_29 (dk_at dksX1_signed_0 23 rfl rfl)
theorem dX1_signed_24 : decode cX1_signed 24 = .ok (.iload_n 2, 1) := dk_28 (dk_at dksX1_signed_1 0 rfl rfl)
theorem dX1_signed_25 : decode cX1_signed 25 = .ok (.invokevirtual 203, 3) := dk_182 0 203 (dk_at dksX1_signed_1 1 rfl rfl)
theorem dX1_signed_28 : decode cX1_signed 28 = .ok (.ifCond .ne 5, 3) := dk_154 0 5 (dk_at dksX1_signed_1 4 rfl rfl)
theorem dX1_signed_31 : decode cX1_signed 31 = .ok (.iconst 0, 1) := dk_3 (dk_at dksX1_signed_1 7 rfl rfl)
theorem dX1_signed_32 : decode cX1_signed 32 = .ok (.ireturn, 1) := dk_172 (dk_at dksX1_signed_1 8 rfl rfl)
theorem dX1_signed_33 : decode cX1_signed 33 = .ok (.iconst 0, 1) := dk_3 (dk_at dksX1_signed_1 9 rfl rfl)
theorem dX1_signed_34 : decode cX1_signed 34 = .ok (.istore 4, 2) := dk_54 4 (dk_at dksX1_signed_1 10 rfl rfl)
theorem dX1_signed_36 : decode cX1_signed 36 = .ok (.iload 4, 2) := dk_21 4 (dk_at dksX1_signed_1 12 rfl rfl)
theorem dX1_signed_38 : decode cX1_signed 38 = .ok (.aload_n 0, 1) := dk_42 (dk_at dksX1_signed_1 14 rfl rfl)
theorem dX1_signed_39 : decode cX1_signed 39 = .ok (.getfield 62, 3) := dk_180 0 62 (dk_at dksX1_signed_1 15 rfl rfl)
theorem dX1_signed_42 : decode cX1_signed 42 = .ok (.getfield 207, 3) := dk_180 0 207 (dk_at dksX1_signed_1 18 rfl rfl)
theorem dX1_signed_45 : decode cX1_signed 45 = .ok (.invokevirtual 200, 3) := dk_182 0 200 (dk_at dksX1_signed_1 21 rfl rfl)
theorem dX1_signed_48 : decode cX1_signed 48 = .ok (.if_icmp .ge 64, 3) := dk_162 0 64 (dk_at dksX1_signed_2 0 rfl rfl)
theorem dX1_signed_51 : decode cX1_signed 51 = .ok (.aload_n 0, 1) := dk_42 (dk_at dksX1_signed_2 3 rfl rfl)
theorem dX1_signed_52 : decode cX1_signed 52 = .ok (.getfield 62, 3) := dk_180 0 62 (dk_at dksX1_signed_2 4 rfl rfl)
theorem dX1_signed_55 : decode cX1_signed 55 = .ok (.getfield 207, 3) := dk_180 0 207 (dk_at dksX1_signed_2 7 rfl rfl)
theorem dX1_signed_58 : decode cX1_signed 58 = .ok (.iload 4, 2) := dk_21 4 (dk_at dksX1_signed_2 10 rfl rfl)
theorem dX1_signed_60 : decode cX1_signed 60 = .ok (.invokevirtual 214, 3) := dk_182 0 214 (dk_at dksX1_signed_2 12 rfl rfl)
theorem dX1_signed_63 : decode cX1_signed 63 = .ok (.checkcast 7, 3) := dk_192 0 7 (dk_at dksX1_signed_2 15 rfl rfl)
theorem dX1_signed_66 : decode cX1_signed 66 = .ok (.getfield 231, 3) := dk_180 0 231 (dk_at dksX1_signed_2 18 rfl rfl)
theorem dX1_signed_69 : decode cX1_signed 69 = .ok (.astore 5, 2) := dk_58 5 (dk_at dksX1_signed_2 21 rfl rfl)
theorem dX1_signed_71 : decode cX1_signed 71 = .ok (.aload 5, 2) := dk_25 5 (dk_at dksX1_signed_3 0 rfl rfl)
theorem dX1_signed_73 : decode cX1_signed 73 = .ok (.iload_n 3, 1) := dk_29 (dk_at dksX1_signed_3 2 rfl rfl)
theorem dX1_signed_74 : decode cX1_signed 74 = .ok (.invokestatic 234, 3) := dk_184 0 234 (dk_at dksX1_signed_3 3 rfl rfl)
theorem dX1_signed_77 : decode cX1_signed 77 = .ok (.ifCond .eq 29, 3) := dk_153 0 29 (dk_at dksX1_signed_3 6 rfl rfl)
theorem dX1_signed_80 : decode cX1_signed 80 = .ok (.aload_n 1, 1) := dk_43 (dk_at dksX1_signed_3 9 rfl rfl)
theorem dX1_signed_81 : decode cX1_signed 81 = .ok (.getfield 197, 3) := dk_180 0 197 (dk_at dksX1_signed_3 10 rfl rfl)
theorem dX1_signed_84 : decode cX1_signed 84 = .ok (.invokevirtual 200, 3) := dk_182 0 200 (dk_at dksX1_signed_3 13 rfl rfl)
theorem dX1_signed_87 : decode cX1_signed 87 = .ok (.sipush 2000, 3) := dk_17 7 208 (dk_at dksX1_signed_3 16 rfl rfl)
theorem dX1_signed_90 : decode cX1_signed 90 = .ok (.if_icmp .ne 5, 3) := dk_160 0 5 (dk_at dksX1_signed_3 19 rfl rfl)
theorem dX1_signed_93 : decode cX1_signed 93 = .ok (.iconst 0, 1) := dk_3 (dk_at dksX1_signed_3 22 rfl rfl)
theorem dX1_signed_94 : decode cX1_signed 94 = .ok (.ireturn, 1) := dk_172 (dk_at dksX1_signed_3 23 rfl rfl)
theorem dX1_signed_95 : decode cX1_signed 95 = .ok (.aload_n 0, 1) := dk_42 (dk_at dksX1_signed_4 0 rfl rfl)
theorem dX1_signed_96 : decode cX1_signed 96 = .ok (.iload 4, 2) := dk_21 4 (dk_at dksX1_signed_4 1 rfl rfl)
theorem dX1_signed_98 : decode cX1_signed 98 = .ok (.aload_n 1, 1) := dk_43 (dk_at dksX1_signed_4 3 rfl rfl)
theorem dX1_signed_99 : decode cX1_signed 99 = .ok (.getfield 197, 3) := dk_180 0 197 (dk_at dksX1_signed_4 4 rfl rfl)
theorem dX1_signed_102 : decode cX1_signed 102 = .ok (.iload_n 3, 1) := dk_29 (dk_at dksX1_signed_4 7 rfl rfl)
theorem dX1_signed_103 : decode cX1_signed 103 = .ok (.invokevirtual 210, 3) := dk_182 0 210 (dk_at dksX1_signed_4 8 rfl rfl)
theorem dX1_signed_106 : decode cX1_signed 106 = .ok (.iinc 4 1, 3) := dk_132 4 1 (dk_at dksX1_signed_4 11 rfl rfl)
theorem dX1_signed_109 : decode cX1_signed 109 = .ok (.goto (-73), 3) := dk_167 255 183 (dk_at dksX1_signed_4 14 rfl rfl)
theorem dX1_signed_112 : decode cX1_signed 112 = .ok (.iinc 3 1, 3) := dk_132 3 1 (dk_at dksX1_signed_4 17 rfl rfl)
theorem dX1_signed_115 : decode cX1_signed 115 = .ok (.goto (-113), 3) := dk_167 255 143 (dk_at dksX1_signed_4 20 rfl rfl)
theorem dX1_signed_118 : decode cX1_signed 118 = .ok (.iconst 1, 1) := dk_4 (dk_at dksX1_signed_4 23 rfl rfl)
theorem dX1_signed_119 : decode cX1_signed 119 = .ok (.ireturn, 1) := dk_172 (dk_at dksX1_signed_5 0 rfl rfl)
abbrev cX1_belongs : ByteArray := prog_1_method_19_code
def yX1_belongs : MethodName := ⟨RX1, "belongs", "([BI)Z"⟩
def dkwX1_belongs_3 : List UInt8 := [132, 4, 1, 167, 255, 190, 28, 172]
abbrev dktX1_belongs_3 : List UInt8 := dkwX1_belongs_3 ++ []
def dkwX1_belongs_2 : List UInt8 := [4, 167, 0, 4, 3, 126, 61, 29, 42, 21, 4, 51, 154, 0, 7, 4, 167, 0, 4, 3, 126, 62]
abbrev dktX1_belongs_2 : List UInt8 := dkwX1_belongs_2 ++ dktX1_belongs_3
def dkwX1_belongs_1 : List UInt8 := [4, 167, 0, 4, 3, 54, 5, 28, 21, 5, 153, 0, 14, 42, 21, 4, 51, 153, 0, 11, 29, 154, 0, 7]
abbrev dktX1_belongs_1 : List UInt8 := dkwX1_belongs_1 ++ dktX1_belongs_2
def dkwX1_belongs_0 : List UInt8 := [4, 61, 4, 62, 3, 54, 4, 21, 4, 16, 6, 162, 0, 65, 27, 21, 4, 122, 4, 126, 4, 160, 0, 7]
abbrev dktX1_belongs_0 : List UInt8 := dkwX1_belongs_0 ++ dktX1_belongs_1
theorem dksX1_belongs_0 : cX1_belongs.data.toList.drop 0 = dktX1_belongs_0 := by decide +kernel
theorem dksX1_belongs_1 : cX1_belongs.data.toList.drop 24 = dktX1_belongs_1 := dk_seg dksX1_belongs_0 24 rfl rfl
theorem dksX1_belongs_2 : cX1_belongs.data.toList.drop 48 = dktX1_belongs_2 := dk_seg dksX1_belongs_1 24 rfl rfl
theorem dksX1_belongs_3 : cX1_belongs.data.toList.drop 70 = dktX1_belongs_3 := dk_seg dksX1_belongs_2 22 rfl rfl
theorem dX1_belongs_0 : decode cX1_belongs 0 = .ok (.iconst 1, 1) := dk_4 (dk_at dksX1_belongs_0 0 rfl rfl)
theorem dX1_belongs_1 : decode cX1_belongs 1 = .ok (.istore_n 2, 1) := dk_61 (dk_at dksX1_belongs_0 1 rfl rfl)
theorem dX1_belongs_2 : decode cX1_belongs 2 = .ok (.iconst 1, 1) := dk_4 (dk_at dksX1_belongs_0 2 rfl rfl)
theorem dX1_belongs_3 : decode cX1_belongs 3 = .ok (.istore_n 3, 1) := dk_62 (dk_at dksX1_belongs_0 3 rfl rfl)
theorem dX1_belongs_4 : decode cX1_belongs 4 = .ok (.iconst 0, 1) := dk_3 (dk_at dksX1_belongs_0 4 rfl rfl)
theorem dX1_belongs_5 : decode cX1_belongs 5 = .ok (.istore 4, 2) := dk_54 4 (dk_at dksX1_belongs_0 5 rfl rfl)
theorem dX1_belongs_7 : decode cX1_belongs 7 = .ok (.iload 4, 2) := dk_21 4 (dk_at dksX1_belongs_0 7 rfl rfl)
theorem dX1_belongs_9 : decode cX1_belongs 9 = .ok (.bipush 6, 2) := dk_16 6 (dk_at dksX1_belongs_0 9 rfl rfl)
theorem dX1_belongs_11 : decode cX1_belongs 11 = .ok (.if_icmp .ge 65, 3) := dk_162 0 65 (dk_at dksX1_belongs_0 11 rfl rfl)
theorem dX1_belongs_14 : decode cX1_belongs 14 = .ok (.iload_n 1, 1) := dk_27 (dk_at dksX1_belongs_0 14 rfl rfl)
theorem dX1_belongs_15 : decode cX1_belongs 15 = .ok (.iload 4, 2) := dk_21 4 (dk_at dksX1_belongs_0 15 rfl rfl)
theorem dX1_belongs_17 : decode cX1_belongs 17 = .ok (.ishr, 1) := dk_122 (dk_at dksX1_belongs_0 17 rfl rfl)
theorem dX1_belongs_18 : decode cX1_belongs 18 = .ok (.iconst 1, 1) := dk_4 (dk_at dksX1_belongs_0 18 rfl rfl)
theorem dX1_belongs_19 : decode cX1_belongs 19 = .ok (.iand, 1) := dk_126 (dk_at dksX1_belongs_0 19 rfl rfl)
theorem dX1_belongs_20 : decode cX1_belongs 20 = .ok (.iconst 1, 1) := dk_4 (dk_at dksX1_belongs_0 20 rfl rfl)
theorem dX1_belongs_21 : decode cX1_belongs 21 = .ok (.if_icmp .ne 7, 3) := dk_160 0 7 (dk_at dksX1_belongs_0 21 rfl rfl)
theorem dX1_belongs_24 : decode cX1_belongs 24 = .ok (.iconst 1, 1) := dk_4 (dk_at dksX1_belongs_1 0 rfl rfl)
theorem dX1_belongs_25 : decode cX1_belongs 25 = .ok (.goto 4, 3) := dk_167 0 4 (dk_at dksX1_belongs_1 1 rfl rfl)
theorem dX1_belongs_28 : decode cX1_belongs 28 = .ok (.iconst 0, 1) := dk_3 (dk_at dksX1_belongs_1 4 rfl rfl)
theorem dX1_belongs_29 : decode cX1_belongs 29 = .ok (.istore 5, 2) := dk_54 5 (dk_at dksX1_belongs_1 5 rfl rfl)
theorem dX1_belongs_31 : decode cX1_belongs 31 = .ok (.iload_n 2, 1) := dk_28 (dk_at dksX1_belongs_1 7 rfl rfl)
theorem dX1_belongs_32 : decode cX1_belongs 32 = .ok (.iload 5, 2) := dk_21 5 (dk_at dksX1_belongs_1 8 rfl rfl)
theorem dX1_belongs_34 : decode cX1_belongs 34 = .ok (.ifCond .eq 14, 3) := dk_153 0 14 (dk_at dksX1_belongs_1 10 rfl rfl)
theorem dX1_belongs_37 : decode cX1_belongs 37 = .ok (.aload_n 0, 1) := dk_42 (dk_at dksX1_belongs_1 13 rfl rfl)
theorem dX1_belongs_38 : decode cX1_belongs 38 = .ok (.iload 4, 2) := dk_21 4 (dk_at dksX1_belongs_1 14 rfl rfl)
theorem dX1_belongs_40 : decode cX1_belongs 40 = .ok (.baload, 1) := dk_51 (dk_at dksX1_belongs_1 16 rfl rfl)
theorem dX1_belongs_41 : decode cX1_belongs 41 = .ok (.ifCond .eq 11, 3) := dk_153 0 11 (dk_at dksX1_belongs_1 17 rfl rfl)
theorem dX1_belongs_44 : decode cX1_belongs 44 = .ok (.iload_n 3, 1) := dk_29 (dk_at dksX1_belongs_1 20 rfl rfl)
theorem dX1_belongs_45 : decode cX1_belongs 45 = .ok (.ifCond .ne 7, 3) := dk_154 0 7 (dk_at dksX1_belongs_1 21 rfl rfl)
theorem dX1_belongs_48 : decode cX1_belongs 48 = .ok (.iconst 1, 1) := dk_4 (dk_at dksX1_belongs_2 0 rfl rfl)
theorem dX1_belongs_49 : decode cX1_belongs 49 = .ok (.goto 4, 3) := dk_167 0 4 (dk_at dksX1_belongs_2 1 rfl rfl)
theorem dX1_belongs_52 : decode cX1_belongs 52 = .ok (.iconst 0, 1) := dk_3 (dk_at dksX1_belongs_2 4 rfl rfl)
theorem dX1_belongs_53 : decode cX1_belongs 53 = .ok (.iand, 1) := dk_126 (dk_at dksX1_belongs_2 5 rfl rfl)
theorem dX1_belongs_54 : decode cX1_belongs 54 = .ok (.istore_n 2, 1) := dk_61 (dk_at dksX1_belongs_2 6 rfl rfl)
theorem dX1_belongs_55 : decode cX1_belongs 55 = .ok (.iload_n 3, 1) := dk_29 (dk_at dksX1_belongs_2 7 rfl rfl)
theorem dX1_belongs_56 : decode cX1_belongs 56 = .ok (.aload_n 0, 1) := dk_42 (dk_at dksX1_belongs_2 8 rfl rfl)
theorem dX1_belongs_57 : decode cX1_belongs 57 = .ok (.iload 4, 2) := dk_21 4 (dk_at dksX1_belongs_2 9 rfl rfl)
theorem dX1_belongs_59 : decode cX1_belongs 59 = .ok (.baload, 1) := dk_51 (dk_at dksX1_belongs_2 11 rfl rfl)
theorem dX1_belongs_60 : decode cX1_belongs 60 = .ok (.ifCond .ne 7, 3) := dk_154 0 7 (dk_at dksX1_belongs_2 12 rfl rfl)
theorem dX1_belongs_63 : decode cX1_belongs 63 = .ok (.iconst 1, 1) := dk_4 (dk_at dksX1_belongs_2 15 rfl rfl)
theorem dX1_belongs_64 : decode cX1_belongs 64 = .ok (.goto 4, 3) := dk_167 0 4 (dk_at dksX1_belongs_2 16 rfl rfl)
theorem dX1_belongs_67 : decode cX1_belongs 67 = .ok (.iconst 0, 1) := dk_3 (dk_at dksX1_belongs_2 19 rfl rfl)
theorem dX1_belongs_68 : decode cX1_belongs 68 = .ok (.iand, 1) := dk_126 (dk_at dksX1_belongs_2 20 rfl rfl)
theorem dX1_belongs_69 : decode cX1_belongs 69 = .ok (.istore_n 3, 1) := dk_62 (dk_at dksX1_belongs_2 21 rfl rfl)
theorem dX1_belongs_70 : decode cX1_belongs 70 = .ok (.iinc 4 1, 3) := dk_132 4 1 (dk_at dksX1_belongs_3 0 rfl rfl)
theorem dX1_belongs_73 : decode cX1_belongs 73 = .ok (.goto (-66), 3) := dk_167 255 190 (dk_at dksX1_belongs_3 3 rfl rfl)
theorem dX1_belongs_76 : decode cX1_belongs 76 = .ok (.iload_n 2, 1) := dk_28 (dk_at dksX1_belongs_3 6 rfl rfl)
theorem dX1_belongs_77 : decode cX1_belongs 77 = .ok (.ireturn, 1) := dk_172 (dk_at dksX1_belongs_3 7 rfl rfl)
abbrev cX1_at : ByteArray := prog_1_method_20_code
def yX1_at : MethodName := ⟨RX1, "at", "(III)I"⟩
def dkwX1_at_3 : List UInt8 := [180, 0, 76, 27, 50, 180, 0, 197, 28, 182, 0, 214, 192, 0, 7, 180, 0, 231, 29, 51, 172]
abbrev dktX1_at_3 : List UInt8 := dkwX1_at_3 ++ []
def dkwX1_at_2 : List UInt8 := [153, 0, 7, 4, 167, 0, 4, 3, 54, 4, 21, 4, 154, 0, 11, 187, 0, 150, 89, 183, 0, 152, 191, 42]
abbrev dktX1_at_2 : List UInt8 := dkwX1_at_2 ++ dktX1_at_3
def dkwX1_at_1 : List UInt8 := [155, 0, 31, 28, 42, 180, 0, 76, 27, 50, 180, 0, 197, 182, 0, 200, 162, 0, 15, 42, 29, 182, 0, 173]
abbrev dktX1_at_1 : List UInt8 := dkwX1_at_1 ++ dktX1_at_2
def dkwX1_at_0 : List UInt8 := [27, 155, 0, 52, 27, 5, 163, 0, 47, 42, 180, 0, 76, 27, 50, 182, 0, 238, 153, 0, 35, 28]
abbrev dktX1_at_0 : List UInt8 := dkwX1_at_0 ++ dktX1_at_1
theorem dksX1_at_0 : cX1_at.data.toList.drop 0 = dktX1_at_0 := by decide +kernel
theorem dksX1_at_1 : cX1_at.data.toList.drop 22 = dktX1_at_1 := dk_seg dksX1_at_0 22 rfl rfl
theorem dksX1_at_2 : cX1_at.data.toList.drop 46 = dktX1_at_2 := dk_seg dksX1_at_1 24 rfl rfl
theorem dksX1_at_3 : cX1_at.data.toList.drop 70 = dktX1_at_3 := dk_seg dksX1_at_2 24 rfl rfl
theorem dX1_at_0 : decode cX1_at 0 = .ok (.iload_n 1, 1) := dk_27 (dk_at dksX1_at_0 0 rfl rfl)
theorem dX1_at_1 : decode cX1_at 1 = .ok (.ifCond .lt 52, 3) := dk_155 0 52 (dk_at dksX1_at_0 1 rfl rfl)
theorem dX1_at_4 : decode cX1_at 4 = .ok (.iload_n 1, 1) := dk_27 (dk_at dksX1_at_0 4 rfl rfl)
theorem dX1_at_5 : decode cX1_at 5 = .ok (.iconst 2, 1) := dk_5 (dk_at dksX1_at_0 5 rfl rfl)
theorem dX1_at_6 : decode cX1_at 6 = .ok (.if_icmp .gt 47, 3) := dk_163 0 47 (dk_at dksX1_at_0 6 rfl rfl)
theorem dX1_at_9 : decode cX1_at 9 = .ok (.aload_n 0, 1) := dk_42 (dk_at dksX1_at_0 9 rfl rfl)
theorem dX1_at_10 : decode cX1_at 10 = .ok (.getfield 76, 3) := dk_180 0 76 (dk_at dksX1_at_0 10 rfl rfl)
theorem dX1_at_13 : decode cX1_at 13 = .ok (.iload_n 1, 1) := dk_27 (dk_at dksX1_at_0 13 rfl rfl)
theorem dX1_at_14 : decode cX1_at 14 = .ok (.aaload, 1) := dk_50 (dk_at dksX1_at_0 14 rfl rfl)
theorem dX1_at_15 : decode cX1_at 15 = .ok (.invokevirtual 238, 3) := dk_182 0 238 (dk_at dksX1_at_0 15 rfl rfl)
theorem dX1_at_18 : decode cX1_at 18 = .ok (.ifCond .eq 35, 3) := dk_153 0 35 (dk_at dksX1_at_0 18 rfl rfl)
theorem dX1_at_21 : decode cX1_at 21 = .ok (.iload_n 2, 1) := dk_28 (dk_at dksX1_at_0 21 rfl rfl)
theorem dX1_at_22 : decode cX1_at 22 = .ok (.ifCond .lt 31, 3) := dk_155 0 31 (dk_at dksX1_at_1 0 rfl rfl)
theorem dX1_at_25 : decode cX1_at 25 = .ok (.iload_n 2, 1) := dk_28 (dk_at dksX1_at_1 3 rfl rfl)
theorem dX1_at_26 : decode cX1_at 26 = .ok (.aload_n 0, 1) := dk_42 (dk_at dksX1_at_1 4 rfl rfl)
theorem dX1_at_27 : decode cX1_at 27 = .ok (.getfield 76, 3) := dk_180 0 76 (dk_at dksX1_at_1 5 rfl rfl)
theorem dX1_at_30 : decode cX1_at 30 = .ok (.iload_n 1, 1) := dk_27 (dk_at dksX1_at_1 8 rfl rfl)
theorem dX1_at_31 : decode cX1_at 31 = .ok (.aaload, 1) := dk_50 (dk_at dksX1_at_1 9 rfl rfl)
theorem dX1_at_32 : decode cX1_at 32 = .ok (.getfield 197, 3) := dk_180 0 197 (dk_at dksX1_at_1 10 rfl rfl)
theorem dX1_at_35 : decode cX1_at 35 = .ok (.invokevirtual 200, 3) := dk_182 0 200 (dk_at dksX1_at_1 13 rfl rfl)
theorem dX1_at_38 : decode cX1_at 38 = .ok (.if_icmp .ge 15, 3) := dk_162 0 15 (dk_at dksX1_at_1 16 rfl rfl)
theorem dX1_at_41 : decode cX1_at 41 = .ok (.aload_n 0, 1) := dk_42 (dk_at dksX1_at_1 19 rfl rfl)
theorem dX1_at_42 : decode cX1_at 42 = .ok (.iload_n 3, 1) := dk_29 (dk_at dksX1_at_1 20 rfl rfl)
theorem dX1_at_43 : decode cX1_at 43 = .ok (.invokevirtual 173, 3) := dk_182 0 173 (dk_at dksX1_at_1 21 rfl rfl)
theorem dX1_at_46 : decode cX1_at 46 = .ok (.ifCond .eq 7, 3) := dk_153 0 7 (dk_at dksX1_at_2 0 rfl rfl)
theorem dX1_at_49 : decode cX1_at 49 = .ok (.iconst 1, 1) := dk_4 (dk_at dksX1_at_2 3 rfl rfl)
theorem dX1_at_50 : decode cX1_at 50 = .ok (.goto 4, 3) := dk_167 0 4 (dk_at dksX1_at_2 4 rfl rfl)
theorem dX1_at_53 : decode cX1_at 53 = .ok (.iconst 0, 1) := dk_3 (dk_at dksX1_at_2 7 rfl rfl)
theorem dX1_at_54 : decode cX1_at 54 = .ok (.istore 4, 2) := dk_54 4 (dk_at dksX1_at_2 8 rfl rfl)
theorem dX1_at_56 : decode cX1_at 56 = .ok (.iload 4, 2) := dk_21 4 (dk_at dksX1_at_2 10 rfl rfl)
theorem dX1_at_58 : decode cX1_at 58 = .ok (.ifCond .ne 11, 3) := dk_154 0 11 (dk_at dksX1_at_2 12 rfl rfl)
theorem dX1_at_61 : decode cX1_at 61 = .ok (.new 150, 3) := dk_187 0 150 (dk_at dksX1_at_2 15 rfl rfl)
theorem dX1_at_64 : decode cX1_at 64 = .ok (.dup, 1) := dk_89 (dk_at dksX1_at_2 18 rfl rfl)
theorem dX1_at_65 : decode cX1_at 65 = .ok (.invokespecial 152, 3) := dk_183 0 152 (dk_at dksX1_at_2 19 rfl rfl)
theorem dX1_at_68 : decode cX1_at 68 = .ok (.athrow, 1) := dk_191 (dk_at dksX1_at_2 22 rfl rfl)
theorem dX1_at_69 : decode cX1_at 69 = .ok (.aload_n 0, 1) := dk_42 (dk_at dksX1_at_2 23 rfl rfl)
theorem dX1_at_70 : decode cX1_at 70 = .ok (.getfield 76, 3) := dk_180 0 76 (dk_at dksX1_at_3 0 rfl rfl)
theorem dX1_at_73 : decode cX1_at 73 = .ok (.iload_n 1, 1) := dk_27 (dk_at dksX1_at_3 3 rfl rfl)
theorem dX1_at_74 : decode cX1_at 74 = .ok (.aaload, 1) := dk_50 (dk_at dksX1_at_3 4 rfl rfl)
theorem dX1_at_75 : decode cX1_at 75 = .ok (.getfield 197, 3) := dk_180 0 197 (dk_at dksX1_at_3 5 rfl rfl)
theorem dX1_at_78 : decode cX1_at 78 = .ok (.iload_n 2, 1) := dk_28 (dk_at dksX1_at_3 8 rfl rfl)
theorem dX1_at_79 : decode cX1_at 79 = .ok (.invokevirtual 214, 3) := dk_182 0 214 (dk_at dksX1_at_3 9 rfl rfl)
theorem dX1_at_82 : decode cX1_at 82 = .ok (.checkcast 7, 3) := dk_192 0 7 (dk_at dksX1_at_3 12 rfl rfl)
theorem dX1_at_85 : decode cX1_at 85 = .ok (.getfield 231, 3) := dk_180 0 231 (dk_at dksX1_at_3 15 rfl rfl)
theorem dX1_at_88 : decode cX1_at 88 = .ok (.iload_n 3, 1) := dk_29 (dk_at dksX1_at_3 18 rfl rfl)
theorem dX1_at_89 : decode cX1_at 89 = .ok (.baload, 1) := dk_51 (dk_at dksX1_at_3 19 rfl rfl)
theorem dX1_at_90 : decode cX1_at 90 = .ok (.ireturn, 1) := dk_172 (dk_at dksX1_at_3 20 rfl rfl)
abbrev cX1_tell : ByteArray := prog_1_method_22_code
def yX1_tell : MethodName := ⟨RX1, "tell", "(II)V"⟩
def dkwX1_tell_1 : List UInt8 := [27, 28, 79, 177]
abbrev dktX1_tell_1 : List UInt8 := dkwX1_tell_1 ++ []
def dkwX1_tell_0 : List UInt8 := [42, 27, 182, 0, 173, 154, 0, 11, 187, 0, 150, 89, 183, 0, 152, 191, 28, 184, 0, 242, 42, 180, 0, 84]
abbrev dktX1_tell_0 : List UInt8 := dkwX1_tell_0 ++ dktX1_tell_1
theorem dksX1_tell_0 : cX1_tell.data.toList.drop 0 = dktX1_tell_0 := by decide +kernel
theorem dksX1_tell_1 : cX1_tell.data.toList.drop 24 = dktX1_tell_1 := dk_seg dksX1_tell_0 24 rfl rfl
theorem dX1_tell_0 : decode cX1_tell 0 = .ok (.aload_n 0, 1) := dk_42 (dk_at dksX1_tell_0 0 rfl rfl)
theorem dX1_tell_1 : decode cX1_tell 1 = .ok (.iload_n 1, 1) := dk_27 (dk_at dksX1_tell_0 1 rfl rfl)
theorem dX1_tell_2 : decode cX1_tell 2 = .ok (.invokevirtual 173, 3) := dk_182 0 173 (dk_at dksX1_tell_0 2 rfl rfl)
theorem dX1_tell_5 : decode cX1_tell 5 = .ok (.ifCond .ne 11, 3) := dk_154 0 11 (dk_at dksX1_tell_0 5 rfl rfl)
theorem dX1_tell_8 : decode cX1_tell 8 = .ok (.new 150, 3) := dk_187 0 150 (dk_at dksX1_tell_0 8 rfl rfl)
theorem dX1_tell_11 : decode cX1_tell 11 = .ok (.dup, 1) := dk_89 (dk_at dksX1_tell_0 11 rfl rfl)
theorem dX1_tell_12 : decode cX1_tell 12 = .ok (.invokespecial 152, 3) := dk_183 0 152 (dk_at dksX1_tell_0 12 rfl rfl)
theorem dX1_tell_15 : decode cX1_tell 15 = .ok (.athrow, 1) := dk_191 (dk_at dksX1_tell_0 15 rfl rfl)
theorem dX1_tell_16 : decode cX1_tell 16 = .ok (.iload_n 2, 1) := dk_28 (dk_at dksX1_tell_0 16 rfl rfl)
theorem dX1_tell_17 : decode cX1_tell 17 = .ok (.invokestatic 242, 3) := dk_184 0 242 (dk_at dksX1_tell_0 17 rfl rfl)
theorem dX1_tell_20 : decode cX1_tell 20 = .ok (.aload_n 0, 1) := dk_42 (dk_at dksX1_tell_0 20 rfl rfl)
theorem dX1_tell_21 : decode cX1_tell 21 = .ok (.getfield 84, 3) := dk_180 0 84 (dk_at dksX1_tell_0 21 rfl rfl)
theorem dX1_tell_24 : decode cX1_tell 24 = .ok (.iload_n 1, 1) := dk_27 (dk_at dksX1_tell_1 0 rfl rfl)
theorem dX1_tell_25 : decode cX1_tell 25 = .ok (.iload_n 2, 1) := dk_28 (dk_at dksX1_tell_1 1 rfl rfl)
theorem dX1_tell_26 : decode cX1_tell 26 = .ok (.iastore, 1) := dk_79 (dk_at dksX1_tell_1 2 rfl rfl)
theorem dX1_tell_27 : decode cX1_tell 27 = .ok (.return_, 1) := dk_177 (dk_at dksX1_tell_1 3 rfl rfl)
abbrev cX1_needNumber : ByteArray := prog_1_method_21_code
def yX1_needNumber : MethodName := ⟨RX1, "needNumber", "(I)V"⟩
def dkwX1_needNumber_0 : List UInt8 := [26, 16, 157, 161, 0, 9, 26, 16, 99, 164, 0, 11, 187, 0, 181, 89, 183, 0, 183, 191, 177]
abbrev dktX1_needNumber_0 : List UInt8 := dkwX1_needNumber_0 ++ []
theorem dksX1_needNumber_0 : cX1_needNumber.data.toList.drop 0 = dktX1_needNumber_0 := by decide +kernel
theorem dX1_needNumber_0 : decode cX1_needNumber 0 = .ok (.iload_n 0, 1) := dk_26 (dk_at dksX1_needNumber_0 0 rfl rfl)
theorem dX1_needNumber_1 : decode cX1_needNumber 1 = .ok (.bipush (-99), 2) := dk_16 157 (dk_at dksX1_needNumber_0 1 rfl rfl)
theorem dX1_needNumber_3 : decode cX1_needNumber 3 = .ok (.if_icmp .lt 9, 3) := dk_161 0 9 (dk_at dksX1_needNumber_0 3 rfl rfl)
theorem dX1_needNumber_6 : decode cX1_needNumber 6 = .ok (.iload_n 0, 1) := dk_26 (dk_at dksX1_needNumber_0 6 rfl rfl)
theorem dX1_needNumber_7 : decode cX1_needNumber 7 = .ok (.bipush 99, 2) := dk_16 99 (dk_at dksX1_needNumber_0 7 rfl rfl)
theorem dX1_needNumber_9 : decode cX1_needNumber 9 = .ok (.if_icmp .le 11, 3) := dk_164 0 11 (dk_at dksX1_needNumber_0 9 rfl rfl)
theorem dX1_needNumber_12 : decode cX1_needNumber 12 = .ok (.new 181, 3) := dk_187 0 181 (dk_at dksX1_needNumber_0 12 rfl rfl)
theorem dX1_needNumber_15 : decode cX1_needNumber 15 = .ok (.dup, 1) := dk_89 (dk_at dksX1_needNumber_0 15 rfl rfl)
theorem dX1_needNumber_16 : decode cX1_needNumber 16 = .ok (.invokespecial 183, 3) := dk_183 0 183 (dk_at dksX1_needNumber_0 16 rfl rfl)
theorem dX1_needNumber_19 : decode cX1_needNumber 19 = .ok (.athrow, 1) := dk_191 (dk_at dksX1_needNumber_0 19 rfl rfl)
theorem dX1_needNumber_20 : decode cX1_needNumber 20 = .ok (.return_, 1) := dk_177 (dk_at dksX1_needNumber_0 20 rfl rfl)
abbrev cX1_cost : ByteArray := prog_1_method_27_code
def yX1_cost : MethodName := ⟨RX1, "cost", "(II)V"⟩
def dkwX1_cost_1 : List UInt8 := [180, 0, 129, 27, 28, 79, 177]
abbrev dktX1_cost_1 : List UInt8 := dkwX1_cost_1 ++ []
def dkwX1_cost_0 : List UInt8 := [42, 27, 182, 0, 173, 154, 0, 11, 187, 0, 150, 89, 183, 0, 152, 191, 28, 184, 0, 242, 42, 180, 0, 69]
abbrev dktX1_cost_0 : List UInt8 := dkwX1_cost_0 ++ dktX1_cost_1
theorem dksX1_cost_0 : cX1_cost.data.toList.drop 0 = dktX1_cost_0 := by decide +kernel
theorem dksX1_cost_1 : cX1_cost.data.toList.drop 24 = dktX1_cost_1 := dk_seg dksX1_cost_0 24 rfl rfl
theorem dX1_cost_0 : decode cX1_cost 0 = .ok (.aload_n 0, 1) := dk_42 (dk_at dksX1_cost_0 0 rfl rfl)
theorem dX1_cost_1 : decode cX1_cost 1 = .ok (.iload_n 1, 1) := dk_27 (dk_at dksX1_cost_0 1 rfl rfl)
theorem dX1_cost_2 : decode cX1_cost 2 = .ok (.invokevirtual 173, 3) := dk_182 0 173 (dk_at dksX1_cost_0 2 rfl rfl)
theorem dX1_cost_5 : decode cX1_cost 5 = .ok (.ifCond .ne 11, 3) := dk_154 0 11 (dk_at dksX1_cost_0 5 rfl rfl)
theorem dX1_cost_8 : decode cX1_cost 8 = .ok (.new 150, 3) := dk_187 0 150 (dk_at dksX1_cost_0 8 rfl rfl)
theorem dX1_cost_11 : decode cX1_cost 11 = .ok (.dup, 1) := dk_89 (dk_at dksX1_cost_0 11 rfl rfl)
theorem dX1_cost_12 : decode cX1_cost 12 = .ok (.invokespecial 152, 3) := dk_183 0 152 (dk_at dksX1_cost_0 12 rfl rfl)
theorem dX1_cost_15 : decode cX1_cost 15 = .ok (.athrow, 1) := dk_191 (dk_at dksX1_cost_0 15 rfl rfl)
theorem dX1_cost_16 : decode cX1_cost 16 = .ok (.iload_n 2, 1) := dk_28 (dk_at dksX1_cost_0 16 rfl rfl)
theorem dX1_cost_17 : decode cX1_cost 17 = .ok (.invokestatic 242, 3) := dk_184 0 242 (dk_at dksX1_cost_0 17 rfl rfl)
theorem dX1_cost_20 : decode cX1_cost 20 = .ok (.aload_n 0, 1) := dk_42 (dk_at dksX1_cost_0 20 rfl rfl)
theorem dX1_cost_21 : decode cX1_cost 21 = .ok (.getfield 69, 3) := dk_180 0 69 (dk_at dksX1_cost_0 21 rfl rfl)
theorem dX1_cost_24 : decode cX1_cost 24 = .ok (.getfield 129, 3) := dk_180 0 129 (dk_at dksX1_cost_1 0 rfl rfl)
theorem dX1_cost_27 : decode cX1_cost 27 = .ok (.iload_n 1, 1) := dk_27 (dk_at dksX1_cost_1 3 rfl rfl)
theorem dX1_cost_28 : decode cX1_cost 28 = .ok (.iload_n 2, 1) := dk_28 (dk_at dksX1_cost_1 4 rfl rfl)
theorem dX1_cost_29 : decode cX1_cost 29 = .ok (.iastore, 1) := dk_79 (dk_at dksX1_cost_1 5 rfl rfl)
theorem dX1_cost_30 : decode cX1_cost 30 = .ok (.return_, 1) := dk_177 (dk_at dksX1_cost_1 6 rfl rfl)
abbrev cX1_best : ByteArray := prog_1_method_28_code
def yX1_best : MethodName := ⟨RX1, "best", "(I)I"⟩
def dkwX1_best_2 : List UInt8 := [181, 0, 135, 42, 180, 0, 69, 180, 1, 13, 172]
abbrev dktX1_best_2 : List UInt8 := dkwX1_best_2 ++ []
def dkwX1_best_1 : List UInt8 := [180, 0, 69, 42, 180, 0, 45, 27, 182, 1, 7, 154, 0, 11, 187, 1, 10, 89, 183, 1, 12, 191, 42, 4]
abbrev dktX1_best_1 : List UInt8 := dkwX1_best_1 ++ dktX1_best_2
def dkwX1_best_0 : List UInt8 := [27, 155, 0, 9, 27, 16, 16, 164, 0, 11, 187, 0, 181, 89, 183, 0, 183, 191, 42, 182, 0, 163, 42]
abbrev dktX1_best_0 : List UInt8 := dkwX1_best_0 ++ dktX1_best_1
theorem dksX1_best_0 : cX1_best.data.toList.drop 0 = dktX1_best_0 := by decide +kernel
theorem dksX1_best_1 : cX1_best.data.toList.drop 23 = dktX1_best_1 := dk_seg dksX1_best_0 23 rfl rfl
theorem dksX1_best_2 : cX1_best.data.toList.drop 47 = dktX1_best_2 := dk_seg dksX1_best_1 24 rfl rfl
theorem dX1_best_0 : decode cX1_best 0 = .ok (.iload_n 1, 1) := dk_27 (dk_at dksX1_best_0 0 rfl rfl)
theorem dX1_best_1 : decode cX1_best 1 = .ok (.ifCond .lt 9, 3) := dk_155 0 9 (dk_at dksX1_best_0 1 rfl rfl)
theorem dX1_best_4 : decode cX1_best 4 = .ok (.iload_n 1, 1) := dk_27 (dk_at dksX1_best_0 4 rfl rfl)
theorem dX1_best_5 : decode cX1_best 5 = .ok (.bipush 16, 2) := dk_16 16 (dk_at dksX1_best_0 5 rfl rfl)
theorem dX1_best_7 : decode cX1_best 7 = .ok (.if_icmp .le 11, 3) := dk_164 0 11 (dk_at dksX1_best_0 7 rfl rfl)
theorem dX1_best_10 : decode cX1_best 10 = .ok (.new 181, 3) := dk_187 0 181 (dk_at dksX1_best_0 10 rfl rfl)
theorem dX1_best_13 : decode cX1_best 13 = .ok (.dup, 1) := dk_89 (dk_at dksX1_best_0 13 rfl rfl)
theorem dX1_best_14 : decode cX1_best 14 = .ok (.invokespecial 183, 3) := dk_183 0 183 (dk_at dksX1_best_0 14 rfl rfl)
theorem dX1_best_17 : decode cX1_best 17 = .ok (.athrow, 1) := dk_191 (dk_at dksX1_best_0 17 rfl rfl)
theorem dX1_best_18 : decode cX1_best 18 = .ok (.aload_n 0, 1) := dk_42 (dk_at dksX1_best_0 18 rfl rfl)
theorem dX1_best_19 : decode cX1_best 19 = .ok (.invokevirtual 163, 3) := dk_182 0 163 (dk_at dksX1_best_0 19 rfl rfl)
theorem dX1_best_22 : decode cX1_best 22 = .ok (.aload_n 0, 1) := dk_42 (dk_at dksX1_best_0 22 rfl rfl)
theorem dX1_best_23 : decode cX1_best 23 = .ok (.getfield 69, 3) := dk_180 0 69 (dk_at dksX1_best_1 0 rfl rfl)
theorem dX1_best_26 : decode cX1_best 26 = .ok (.aload_n 0, 1) := dk_42 (dk_at dksX1_best_1 3 rfl rfl)
theorem dX1_best_27 : decode cX1_best 27 = .ok (.getfield 45, 3) := dk_180 0 45 (dk_at dksX1_best_1 4 rfl rfl)
theorem dX1_best_30 : decode cX1_best 30 = .ok (.iload_n 1, 1) := dk_27 (dk_at dksX1_best_1 7 rfl rfl)
theorem dX1_best_31 : decode cX1_best 31 = .ok (.invokevirtual 263, 3) := dk_182 1 7 (dk_at dksX1_best_1 8 rfl rfl)
theorem dX1_best_34 : decode cX1_best 34 = .ok (.ifCond .ne 11, 3) := dk_154 0 11 (dk_at dksX1_best_1 11 rfl rfl)
theorem dX1_best_37 : decode cX1_best 37 = .ok (.new 266, 3) := dk_187 1 10 (dk_at dksX1_best_1 14 rfl rfl)
theorem dX1_best_40 : decode cX1_best 40 = .ok (.dup, 1) := dk_89 (dk_at dksX1_best_1 17 rfl rfl)
theorem dX1_best_41 : decode cX1_best 41 = .ok (.invokespecial 268, 3) := dk_183 1 12 (dk_at dksX1_best_1 18 rfl rfl)
theorem dX1_best_44 : decode cX1_best 44 = .ok (.athrow, 1) := dk_191 (dk_at dksX1_best_1 21 rfl rfl)
theorem dX1_best_45 : decode cX1_best 45 = .ok (.aload_n 0, 1) := dk_42 (dk_at dksX1_best_1 22 rfl rfl)
theorem dX1_best_46 : decode cX1_best 46 = .ok (.iconst 1, 1) := dk_4 (dk_at dksX1_best_1 23 rfl rfl)
theorem dX1_best_47 : decode cX1_best 47 = .ok (.putfield 135, 3) := dk_181 0 135 (dk_at dksX1_best_2 0 rfl rfl)
theorem dX1_best_50 : decode cX1_best 50 = .ok (.aload_n 0, 1) := dk_42 (dk_at dksX1_best_2 3 rfl rfl)
theorem dX1_best_51 : decode cX1_best 51 = .ok (.getfield 69, 3) := dk_180 0 69 (dk_at dksX1_best_2 4 rfl rfl)
theorem dX1_best_54 : decode cX1_best 54 = .ok (.getfield 269, 3) := dk_180 1 13 (dk_at dksX1_best_2 7 rfl rfl)
theorem dX1_best_57 : decode cX1_best 57 = .ok (.ireturn, 1) := dk_172 (dk_at dksX1_best_2 10 rfl rfl)
theorem q75 : (Jvm.Cond.initialized "LeastSolutions") ∈ lw_all := lw_g (lw_at lw_m1 1 rfl) rfl
theorem q113 : (Jvm.Cond.instantiable "LeastSolutions" (16 : Nat)) ∈ lw_all := lw_g (lw_at lw_m1 39 rfl) rfl
theorem q115 : (Jvm.Cond.instanceMethod ({ cls := "LeastSolutions", name := "<init>", desc := "()V" } : Jvm.MethodName)) ∈ lw_all := lw_g (lw_at lw_m1 41 rfl) rfl
theorem q116 : (Jvm.Cond.code ({ cls := "LeastSolutions", name := "<init>", desc := "()V" } : Jvm.MethodName) prog_1_method_2_code (1 : Nat) (Option.none : Option Jvm.ClassFile.FieldType)) ∈ lw_all := lw_g (lw_at lw_m1 42 rfl) rfl
theorem q117 : (Jvm.Cond.methodLink "LeastSolutions" (21 : Nat) ({ cls := "java/lang/Object", name := "<init>", desc := "()V" } : Jvm.MethodName)) ∈ lw_all := lw_g (lw_at lw_m1 43 rfl) rfl
theorem q120 : (Jvm.Cond.classLink "LeastSolutions" (24 : Nat) "LeastSolutions$Scanner") ∈ lw_all := lw_g (lw_at lw_m1 46 rfl) rfl
theorem q122 : (Jvm.Cond.methodLinkNest "LeastSolutions" (26 : Nat) ({ cls := "LeastSolutions$Scanner", name := "<init>", desc := "()V" } : Jvm.MethodName) "LeastSolutions") ∈ lw_tbl := lw_at lw_m1 48 rfl
theorem q129 : (Jvm.Cond.fieldLinkNest "LeastSolutions" (108 : Nat) "LeastSolutions$Scanner" "text" "[B" "LeastSolutions") ∈ lw_tbl := lw_at lw_m1 55 rfl
theorem q131 : (Jvm.Cond.fieldLinkNest "LeastSolutions" (99 : Nat) "LeastSolutions$Scanner" "length" "I" "LeastSolutions") ∈ lw_tbl := lw_at lw_m1 57 rfl
theorem q153 : (Jvm.Cond.classLink "LeastSolutions" (33 : Nat) "LeastSolutions$Reader") ∈ lw_all := lw_g (lw_at lw_m1 79 rfl) rfl
theorem q155 : (Jvm.Cond.methodLink "LeastSolutions" (35 : Nat) ({ cls := "LeastSolutions$Reader", name := "<init>", desc := "(LLeastSolutions$Scanner;)V" } : Jvm.MethodName)) ∈ lw_all := lw_g (lw_at lw_m1 81 rfl) rfl
theorem q235 : (Jvm.Cond.fieldLinkNest "LeastSolutions" (116 : Nat) "LeastSolutions$Reader" "place" "I" "LeastSolutions") ∈ lw_tbl := lw_at lw_m1 161 rfl
theorem q258 : (Jvm.Cond.classLink "LeastSolutions" (42 : Nat) "LeastSolutions$Model") ∈ lw_all := lw_g (lw_at lw_m1 184 rfl) rfl
theorem q260 : (Jvm.Cond.methodLinkNest "LeastSolutions" (44 : Nat) ({ cls := "LeastSolutions$Model", name := "<init>", desc := "()V" } : Jvm.MethodName) "LeastSolutions") ∈ lw_tbl := lw_at lw_m1 186 rfl
theorem q271 : (Jvm.Cond.fieldLinkNest "LeastSolutions" (138 : Nat) "LeastSolutions$Model" "rows" "I" "LeastSolutions") ∈ lw_tbl := lw_at lw_m1 197 rfl
theorem q277 : (Jvm.Cond.fieldLinkNest "LeastSolutions" (141 : Nat) "LeastSolutions$Model" "columns" "I" "LeastSolutions") ∈ lw_tbl := lw_at lw_m1 203 rfl
theorem q280 : (Jvm.Cond.fieldLinkNest "LeastSolutions" (144 : Nat) "LeastSolutions$Model" "variables" "I" "LeastSolutions") ∈ lw_tbl := lw_at lw_m1 206 rfl
theorem q282 : (Jvm.Cond.fieldLinkNest "LeastSolutions" (147 : Nat) "LeastSolutions$Model" "letters" "[I" "LeastSolutions") ∈ lw_tbl := lw_at lw_m1 208 rfl
theorem q289 : (Jvm.Cond.fieldLinkNest "LeastSolutions" (156 : Nat) "LeastSolutions$Model" "a" "[[I" "LeastSolutions") ∈ lw_tbl := lw_at lw_m1 215 rfl
theorem q294 : (Jvm.Cond.fieldLinkNest "LeastSolutions" (153 : Nat) "LeastSolutions$Model" "b" "[I" "LeastSolutions") ∈ lw_tbl := lw_at lw_m1 220 rfl
theorem q309 : (Jvm.Cond.classLink "LeastSolutions" (52 : Nat) "LeastSolutions$Lattice") ∈ lw_all := lw_g (lw_at lw_m1 235 rfl) rfl
theorem q311 : (Jvm.Cond.methodLinkNest "LeastSolutions" (54 : Nat) ({ cls := "LeastSolutions$Lattice", name := "<init>", desc := "()V" } : Jvm.MethodName) "LeastSolutions") ∈ lw_tbl := lw_at lw_m1 237 rfl
theorem q322 : (Jvm.Cond.fieldLinkNest "LeastSolutions" (166 : Nat) "LeastSolutions$Lattice" "solvable" "Z" "LeastSolutions") ∈ lw_tbl := lw_at lw_m2 8 rfl
theorem q335 : (Jvm.Cond.classLink "LeastSolutions" (59 : Nat) "LeastSolutions$Grower") ∈ lw_all := lw_g (lw_at lw_m2 21 rfl) rfl
theorem q337 : (Jvm.Cond.methodLinkNest "LeastSolutions" (61 : Nat) ({ cls := "LeastSolutions$Grower", name := "<init>", desc := "()V" } : Jvm.MethodName) "LeastSolutions") ∈ lw_tbl := lw_at lw_m2 23 rfl
theorem q383 : (Jvm.Cond.fieldLinkNest "LeastSolutions" (207 : Nat) "LeastSolutions$Grower" "found" "LLeastSolutions$Shelf;" "LeastSolutions") ∈ lw_tbl := lw_at lw_m2 69 rfl
theorem q415 : (Jvm.Cond.classLink "LeastSolutions" (66 : Nat) "LeastSolutions$Seeker") ∈ lw_all := lw_g (lw_at lw_m2 101 rfl) rfl
theorem q417 : (Jvm.Cond.methodLinkNest "LeastSolutions" (68 : Nat) ({ cls := "LeastSolutions$Seeker", name := "<init>", desc := "()V" } : Jvm.MethodName) "LeastSolutions") ∈ lw_tbl := lw_at lw_m2 103 rfl
theorem q423 : (Jvm.Cond.fieldLinkNest "LeastSolutions" (129 : Nat) "LeastSolutions$Seeker" "costs" "[I" "LeastSolutions") ∈ lw_tbl := lw_at lw_m2 109 rfl
theorem q426 : (Jvm.Cond.fieldLinkNest "LeastSolutions" (272 : Nat) "LeastSolutions$Seeker" "best" "[I" "LeastSolutions") ∈ lw_tbl := lw_at lw_m2 112 rfl
theorem q428 : (Jvm.Cond.fieldLinkNest "LeastSolutions" (269 : Nat) "LeastSolutions$Seeker" "cost" "I" "LeastSolutions") ∈ lw_tbl := lw_at lw_m2 114 rfl
theorem q443 : (Jvm.Cond.classLink "LeastSolutions" (73 : Nat) "LeastSolutions$Found") ∈ lw_all := lw_g (lw_at lw_m2 129 rfl) rfl
theorem q446 : (Jvm.Cond.methodLinkNest "LeastSolutions" (75 : Nat) ({ cls := "LeastSolutions$Found", name := "<init>", desc := "()V" } : Jvm.MethodName) "LeastSolutions") ∈ lw_tbl := lw_at lw_m2 132 rfl
theorem q453 : (Jvm.Cond.fieldLinkNest "LeastSolutions" (197 : Nat) "LeastSolutions$Found" "vectors" "LLeastSolutions$Shelf;" "LeastSolutions") ∈ lw_tbl := lw_at lw_m2 139 rfl
theorem q455 : (Jvm.Cond.fieldLinkNest "LeastSolutions" (194 : Nat) "LeastSolutions$Found" "bound" "I" "LeastSolutions") ∈ lw_tbl := lw_at lw_m2 141 rfl
theorem q461 : (Jvm.Cond.classLink "LeastSolutions" (2 : Nat) "LeastSolutions$Shelf") ∈ lw_all := lw_g (lw_at lw_m2 147 rfl) rfl
theorem q462 : (Jvm.Cond.methodLinkNest "LeastSolutions" (91 : Nat) ({ cls := "LeastSolutions$Shelf", name := "<init>", desc := "()V" } : Jvm.MethodName) "LeastSolutions") ∈ lw_tbl := lw_at lw_m2 148 rfl
theorem q463 : (Jvm.Cond.fieldLink "LeastSolutions" (27 : Nat) "LeastSolutions" "scanner" "LLeastSolutions$Scanner;") ∈ lw_all := lw_g (lw_at lw_m2 149 rfl) rfl
theorem q464 : (Jvm.Cond.fieldLink "LeastSolutions" (38 : Nat) "LeastSolutions" "reader" "LLeastSolutions$Reader;") ∈ lw_all := lw_g (lw_at lw_m2 150 rfl) rfl
theorem q465 : (Jvm.Cond.fieldLink "LeastSolutions" (45 : Nat) "LeastSolutions" "model" "LLeastSolutions$Model;") ∈ lw_all := lw_g (lw_at lw_m2 151 rfl) rfl
theorem q466 : (Jvm.Cond.fieldLink "LeastSolutions" (49 : Nat) "LeastSolutions" "draft" "LLeastSolutions$Model;") ∈ lw_all := lw_g (lw_at lw_m2 152 rfl) rfl
theorem q467 : (Jvm.Cond.fieldLink "LeastSolutions" (55 : Nat) "LeastSolutions" "lattice" "LLeastSolutions$Lattice;") ∈ lw_all := lw_g (lw_at lw_m2 153 rfl) rfl
theorem q468 : (Jvm.Cond.fieldLink "LeastSolutions" (62 : Nat) "LeastSolutions" "grower" "LLeastSolutions$Grower;") ∈ lw_all := lw_g (lw_at lw_m2 154 rfl) rfl
theorem q469 : (Jvm.Cond.fieldLink "LeastSolutions" (69 : Nat) "LeastSolutions" "seeker" "LLeastSolutions$Seeker;") ∈ lw_all := lw_g (lw_at lw_m2 155 rfl) rfl
theorem q470 : (Jvm.Cond.fieldLink "LeastSolutions" (76 : Nat) "LeastSolutions" "lists" "[LLeastSolutions$Found;") ∈ lw_all := lw_g (lw_at lw_m2 156 rfl) rfl
theorem q471 : (Jvm.Cond.fieldLink "LeastSolutions" (119 : Nat) "LeastSolutions" "known" "Z") ∈ lw_all := lw_g (lw_at lw_m2 157 rfl) rfl
theorem q472 : (Jvm.Cond.fieldLink "LeastSolutions" (80 : Nat) "LeastSolutions" "wrong" "I") ∈ lw_all := lw_g (lw_at lw_m2 158 rfl) rfl
theorem q473 : (Jvm.Cond.fieldLink "LeastSolutions" (84 : Nat) "LeastSolutions" "told" "[I") ∈ lw_all := lw_g (lw_at lw_m2 159 rfl) rfl
theorem q474 : (Jvm.Cond.fieldLink "LeastSolutions" (88 : Nat) "LeastSolutions" "times" "[I") ∈ lw_all := lw_g (lw_at lw_m2 160 rfl) rfl
theorem q475 : (Jvm.Cond.fieldLink "LeastSolutions" (132 : Nat) "LeastSolutions" "divided" "Z") ∈ lw_all := lw_g (lw_at lw_m2 161 rfl) rfl
theorem q476 : (Jvm.Cond.fieldLink "LeastSolutions" (135 : Nat) "LeastSolutions" "sought" "Z") ∈ lw_all := lw_g (lw_at lw_m2 162 rfl) rfl
theorem q477 : (Jvm.Cond.fieldLink "LeastSolutions" (92 : Nat) "LeastSolutions" "below" "LLeastSolutions$Shelf;") ∈ lw_all := lw_g (lw_at lw_m2 163 rfl) rfl
theorem q478 : (Jvm.Cond.fieldLink "LeastSolutions" (96 : Nat) "LeastSolutions" "copied" "[I") ∈ lw_all := lw_g (lw_at lw_m2 164 rfl) rfl
theorem q479 : (Jvm.Cond.laysFinal "LeastSolutions" "LeastSolutions" "scanner" "LLeastSolutions$Scanner;") ∈ lw_all := lw_g (lw_at lw_m2 165 rfl) rfl
theorem q480 : (Jvm.Cond.soleField "LeastSolutions" "scanner") ∈ lw_all := lw_g (lw_at lw_m2 166 rfl) rfl
theorem q481 : (Jvm.Cond.laysFinal "LeastSolutions" "LeastSolutions" "reader" "LLeastSolutions$Reader;") ∈ lw_all := lw_g (lw_at lw_m2 167 rfl) rfl
theorem q482 : (Jvm.Cond.soleField "LeastSolutions" "reader") ∈ lw_all := lw_g (lw_at lw_m2 168 rfl) rfl
theorem q483 : (Jvm.Cond.lays "LeastSolutions" "LeastSolutions" "model" "LLeastSolutions$Model;") ∈ lw_all := lw_g (lw_at lw_m2 169 rfl) rfl
theorem q484 : (Jvm.Cond.soleField "LeastSolutions" "model") ∈ lw_all := lw_g (lw_at lw_m2 170 rfl) rfl
theorem q485 : (Jvm.Cond.lays "LeastSolutions" "LeastSolutions" "draft" "LLeastSolutions$Model;") ∈ lw_all := lw_g (lw_at lw_m2 171 rfl) rfl
theorem q486 : (Jvm.Cond.soleField "LeastSolutions" "draft") ∈ lw_all := lw_g (lw_at lw_m2 172 rfl) rfl
theorem q487 : (Jvm.Cond.laysFinal "LeastSolutions" "LeastSolutions" "lattice" "LLeastSolutions$Lattice;") ∈ lw_all := lw_g (lw_at lw_m2 173 rfl) rfl
theorem q488 : (Jvm.Cond.soleField "LeastSolutions" "lattice") ∈ lw_all := lw_g (lw_at lw_m2 174 rfl) rfl
theorem q489 : (Jvm.Cond.laysFinal "LeastSolutions" "LeastSolutions" "grower" "LLeastSolutions$Grower;") ∈ lw_all := lw_g (lw_at lw_m2 175 rfl) rfl
theorem q490 : (Jvm.Cond.soleField "LeastSolutions" "grower") ∈ lw_all := lw_g (lw_at lw_m2 176 rfl) rfl
theorem q491 : (Jvm.Cond.laysFinal "LeastSolutions" "LeastSolutions" "seeker" "LLeastSolutions$Seeker;") ∈ lw_all := lw_g (lw_at lw_m2 177 rfl) rfl
theorem q492 : (Jvm.Cond.soleField "LeastSolutions" "seeker") ∈ lw_all := lw_g (lw_at lw_m2 178 rfl) rfl
theorem q493 : (Jvm.Cond.laysFinal "LeastSolutions" "LeastSolutions" "lists" "[LLeastSolutions$Found;") ∈ lw_all := lw_g (lw_at lw_m2 179 rfl) rfl
theorem q494 : (Jvm.Cond.soleField "LeastSolutions" "lists") ∈ lw_all := lw_g (lw_at lw_m2 180 rfl) rfl
theorem q495 : (Jvm.Cond.lays "LeastSolutions" "LeastSolutions" "known" "Z") ∈ lw_all := lw_g (lw_at lw_m2 181 rfl) rfl
theorem q496 : (Jvm.Cond.soleField "LeastSolutions" "known") ∈ lw_all := lw_g (lw_at lw_m2 182 rfl) rfl
theorem q497 : (Jvm.Cond.lays "LeastSolutions" "LeastSolutions" "wrong" "I") ∈ lw_all := lw_g (lw_at lw_m2 183 rfl) rfl
theorem q498 : (Jvm.Cond.soleField "LeastSolutions" "wrong") ∈ lw_all := lw_g (lw_at lw_m2 184 rfl) rfl
theorem q499 : (Jvm.Cond.laysFinal "LeastSolutions" "LeastSolutions" "told" "[I") ∈ lw_all := lw_g (lw_at lw_m2 185 rfl) rfl
theorem q500 : (Jvm.Cond.soleField "LeastSolutions" "told") ∈ lw_all := lw_g (lw_at lw_m2 186 rfl) rfl
theorem q501 : (Jvm.Cond.laysFinal "LeastSolutions" "LeastSolutions" "times" "[I") ∈ lw_all := lw_g (lw_at lw_m2 187 rfl) rfl
theorem q502 : (Jvm.Cond.soleField "LeastSolutions" "times") ∈ lw_all := lw_g (lw_at lw_m2 188 rfl) rfl
theorem q503 : (Jvm.Cond.lays "LeastSolutions" "LeastSolutions" "divided" "Z") ∈ lw_all := lw_g (lw_at lw_m2 189 rfl) rfl
theorem q504 : (Jvm.Cond.soleField "LeastSolutions" "divided") ∈ lw_all := lw_g (lw_at lw_m2 190 rfl) rfl
theorem q505 : (Jvm.Cond.lays "LeastSolutions" "LeastSolutions" "sought" "Z") ∈ lw_all := lw_g (lw_at lw_m2 191 rfl) rfl
theorem q506 : (Jvm.Cond.soleField "LeastSolutions" "sought") ∈ lw_all := lw_g (lw_at lw_m2 192 rfl) rfl
theorem q507 : (Jvm.Cond.laysFinal "LeastSolutions" "LeastSolutions" "below" "LLeastSolutions$Shelf;") ∈ lw_all := lw_g (lw_at lw_m2 193 rfl) rfl
theorem q508 : (Jvm.Cond.soleField "LeastSolutions" "below") ∈ lw_all := lw_g (lw_at lw_m2 194 rfl) rfl
theorem q509 : (Jvm.Cond.laysFinal "LeastSolutions" "LeastSolutions" "copied" "[I") ∈ lw_all := lw_g (lw_at lw_m2 195 rfl) rfl
theorem q510 : (Jvm.Cond.soleField "LeastSolutions" "copied") ∈ lw_all := lw_g (lw_at lw_m2 196 rfl) rfl
theorem q511 : (Jvm.Cond.superclass "LeastSolutions" "java/lang/Object") ∈ lw_all := lw_g (lw_at lw_m2 197 rfl) rfl
theorem q513 : (Jvm.Cond.instanceMethod ({ cls := "LeastSolutions", name := "type", desc := "(JI)I" } : Jvm.MethodName)) ∈ lw_all := lw_g (lw_at lw_m2 199 rfl) rfl
theorem q514 : (Jvm.Cond.selects "LeastSolutions" ({ cls := "LeastSolutions", name := "type", desc := "(JI)I" } : Jvm.MethodName) ({ cls := "LeastSolutions", name := "type", desc := "(JI)I" } : Jvm.MethodName)) ∈ lw_all := lw_g (lw_at lw_m2 200 rfl) rfl
theorem q515 : (Jvm.Cond.code ({ cls := "LeastSolutions", name := "type", desc := "(JI)I" } : Jvm.MethodName) prog_1_method_3_code (8 : Nat) (Option.some Jvm.ClassFile.FieldType.int)) ∈ lw_all := lw_g (lw_at lw_m2 201 rfl) rfl
theorem q516 : (Jvm.Cond.constantLong "LeastSolutions" (102 : Nat) (255 : Int64)) ∈ lw_all := lw_g (lw_at lw_m2 202 rfl) rfl
theorem q517 : (Jvm.Cond.constantLong "LeastSolutions" (104 : Nat) (31 : Int64)) ∈ lw_all := lw_g (lw_at lw_m2 203 rfl) rfl
theorem q518 : (Jvm.Cond.constantLong "LeastSolutions" (106 : Nat) (127 : Int64)) ∈ lw_all := lw_g (lw_at lw_m2 204 rfl) rfl
theorem q520 : (Jvm.Cond.instanceMethod ({ cls := "LeastSolutions", name := "read", desc := "()I" } : Jvm.MethodName)) ∈ lw_all := lw_g (lw_at lw_m2 206 rfl) rfl
theorem q521 : (Jvm.Cond.selects "LeastSolutions" ({ cls := "LeastSolutions", name := "read", desc := "()I" } : Jvm.MethodName) ({ cls := "LeastSolutions", name := "read", desc := "()I" } : Jvm.MethodName)) ∈ lw_all := lw_g (lw_at lw_m2 207 rfl) rfl
theorem q522 : (Jvm.Cond.code ({ cls := "LeastSolutions", name := "read", desc := "()I" } : Jvm.MethodName) prog_1_method_4_code (7 : Nat) (Option.some Jvm.ClassFile.FieldType.int)) ∈ lw_all := lw_g (lw_at lw_m2 208 rfl) rfl
theorem q523 : (Jvm.Cond.methodLink "LeastSolutions" (112 : Nat) ({ cls := "LeastSolutions$Reader", name := "work", desc := "(LLeastSolutions$Model;)I" } : Jvm.MethodName)) ∈ lw_all := lw_g (lw_at lw_m2 209 rfl) rfl
theorem q625 : (Jvm.Cond.methodLink "LeastSolutions" (123 : Nat) ({ cls := "LeastSolutions$Lattice", name := "work", desc := "(LLeastSolutions$Model;)V" } : Jvm.MethodName)) ∈ lw_all := lw_g (lw_at lw_m3 71 rfl) rfl
theorem q667 : (Jvm.Cond.methodLink "LeastSolutions" (126 : Nat) ({ cls := "LeastSolutions$Found", name := "clear", desc := "()V" } : Jvm.MethodName)) ∈ lw_all := lw_g (lw_at lw_m3 113 rfl) rfl
theorem q726 : (Jvm.Cond.selects "LeastSolutions" ({ cls := "java/lang/Object", name := "getClass", desc := "()Ljava/lang/Class;" } : Jvm.MethodName) ({ cls := "java/lang/Object", name := "getClass", desc := "()Ljava/lang/Class;" } : Jvm.MethodName)) ∈ lw_all := lw_g (lw_at lw_m3 172 rfl) rfl
theorem q766 : (Jvm.Cond.instanceMethod ({ cls := "LeastSolutions", name := "place", desc := "()I" } : Jvm.MethodName)) ∈ lw_all := lw_g (lw_at lw_m3 212 rfl) rfl
theorem q767 : (Jvm.Cond.selects "LeastSolutions" ({ cls := "LeastSolutions", name := "place", desc := "()I" } : Jvm.MethodName) ({ cls := "LeastSolutions", name := "place", desc := "()I" } : Jvm.MethodName)) ∈ lw_all := lw_g (lw_at lw_m3 213 rfl) rfl
theorem q768 : (Jvm.Cond.code ({ cls := "LeastSolutions", name := "place", desc := "()I" } : Jvm.MethodName) prog_1_method_5_code (1 : Nat) (Option.some Jvm.ClassFile.FieldType.int)) ∈ lw_all := lw_g (lw_at lw_m3 214 rfl) rfl
theorem q770 : (Jvm.Cond.instanceMethod ({ cls := "LeastSolutions", name := "count", desc := "(I)I" } : Jvm.MethodName)) ∈ lw_all := lw_g (lw_at lw_m3 216 rfl) rfl
theorem q771 : (Jvm.Cond.selects "LeastSolutions" ({ cls := "LeastSolutions", name := "count", desc := "(I)I" } : Jvm.MethodName) ({ cls := "LeastSolutions", name := "count", desc := "(I)I" } : Jvm.MethodName)) ∈ lw_all := lw_g (lw_at lw_m3 217 rfl) rfl
theorem q772 : (Jvm.Cond.code ({ cls := "LeastSolutions", name := "count", desc := "(I)I" } : Jvm.MethodName) prog_1_method_6_code (2 : Nat) (Option.some Jvm.ClassFile.FieldType.int)) ∈ lw_all := lw_g (lw_at lw_m3 218 rfl) rfl
theorem q774 : (Jvm.Cond.instanceMethod ({ cls := "LeastSolutions", name := "letter", desc := "(I)I" } : Jvm.MethodName)) ∈ lw_all := lw_g (lw_at lw_m3 220 rfl) rfl
theorem q775 : (Jvm.Cond.selects "LeastSolutions" ({ cls := "LeastSolutions", name := "letter", desc := "(I)I" } : Jvm.MethodName) ({ cls := "LeastSolutions", name := "letter", desc := "(I)I" } : Jvm.MethodName)) ∈ lw_all := lw_g (lw_at lw_m3 221 rfl) rfl
theorem q776 : (Jvm.Cond.code ({ cls := "LeastSolutions", name := "letter", desc := "(I)I" } : Jvm.MethodName) prog_1_method_7_code (2 : Nat) (Option.some Jvm.ClassFile.FieldType.int)) ∈ lw_all := lw_g (lw_at lw_m3 222 rfl) rfl
theorem q778 : (Jvm.Cond.instanceMethod ({ cls := "LeastSolutions", name := "split", desc := "()I" } : Jvm.MethodName)) ∈ lw_all := lw_g (lw_at lw_m3 224 rfl) rfl
theorem q779 : (Jvm.Cond.selects "LeastSolutions" ({ cls := "LeastSolutions", name := "split", desc := "()I" } : Jvm.MethodName) ({ cls := "LeastSolutions", name := "split", desc := "()I" } : Jvm.MethodName)) ∈ lw_all := lw_g (lw_at lw_m3 225 rfl) rfl
theorem q780 : (Jvm.Cond.code ({ cls := "LeastSolutions", name := "split", desc := "()I" } : Jvm.MethodName) prog_1_method_24_code (7 : Nat) (Option.some Jvm.ClassFile.FieldType.int)) ∈ lw_all := lw_g (lw_at lw_m3 226 rfl) rfl
theorem q781 : (Jvm.Cond.methodLink "LeastSolutions" (238 : Nat) ({ cls := "LeastSolutions$Found", name := "isThere", desc := "()Z" } : Jvm.MethodName)) ∈ lw_all := lw_g (lw_at lw_m3 227 rfl) rfl
theorem q785 : (Jvm.Cond.methodLink "LeastSolutions" (246 : Nat) ({ cls := "LeastSolutions", name := "holds", desc := "()I" } : Jvm.MethodName)) ∈ lw_all := lw_g (lw_at lw_m3 231 rfl) rfl
theorem q786 : (Jvm.Cond.instanceMethod ({ cls := "LeastSolutions", name := "holds", desc := "()I" } : Jvm.MethodName)) ∈ lw_all := lw_g (lw_at lw_m3 232 rfl) rfl
theorem q787 : (Jvm.Cond.selects "LeastSolutions" ({ cls := "LeastSolutions", name := "holds", desc := "()I" } : Jvm.MethodName) ({ cls := "LeastSolutions", name := "holds", desc := "()I" } : Jvm.MethodName)) ∈ lw_all := lw_g (lw_at lw_m3 233 rfl) rfl
theorem q788 : (Jvm.Cond.code ({ cls := "LeastSolutions", name := "holds", desc := "()I" } : Jvm.MethodName) prog_1_method_23_code (8 : Nat) (Option.some Jvm.ClassFile.FieldType.int)) ∈ lw_all := lw_g (lw_at lw_m3 234 rfl) rfl
theorem q789 : (Jvm.Cond.methodLink "LeastSolutions" (163 : Nat) ({ cls := "LeastSolutions", name := "needSystem", desc := "()V" } : Jvm.MethodName)) ∈ lw_all := lw_g (lw_at lw_m3 235 rfl) rfl
theorem q790 : (Jvm.Cond.privateMethod ({ cls := "LeastSolutions", name := "needSystem", desc := "()V" } : Jvm.MethodName)) ∈ lw_tbl := lw_at lw_m3 236 rfl
theorem q791 : (Jvm.Cond.instanceMethod ({ cls := "LeastSolutions", name := "needSystem", desc := "()V" } : Jvm.MethodName)) ∈ lw_all := lw_g (lw_at lw_m3 237 rfl) rfl
theorem q792 : (Jvm.Cond.code ({ cls := "LeastSolutions", name := "needSystem", desc := "()V" } : Jvm.MethodName) prog_1_method_9_code (1 : Nat) (Option.none : Option Jvm.ClassFile.FieldType)) ∈ lw_all := lw_g (lw_at lw_m3 238 rfl) rfl
theorem q793 : (Jvm.Cond.classLink "LeastSolutions" (160 : Nat) "java/lang/IllegalStateException") ∈ lw_all := lw_g (lw_at lw_m3 239 rfl) rfl
theorem q802 : (Jvm.Cond.methodLink "LeastSolutions" (162 : Nat) ({ cls := "java/lang/IllegalStateException", name := "<init>", desc := "()V" } : Jvm.MethodName)) ∈ lw_all := lw_g (lw_at lw_m4 8 rfl) rfl
theorem q808 : (Jvm.Cond.methodLink "LeastSolutions" (249 : Nat) ({ cls := "java/lang/System", name := "arraycopy", desc := "(Ljava/lang/Object;ILjava/lang/Object;II)V" } : Jvm.MethodName)) ∈ lw_all := lw_g (lw_at lw_m4 14 rfl) rfl
theorem q809 : (Jvm.Cond.methodLink "LeastSolutions" (214 : Nat) ({ cls := "LeastSolutions$Shelf", name := "get", desc := "(I)LLeastSolutions$Ranked;" } : Jvm.MethodName)) ∈ lw_all := lw_g (lw_at lw_m4 15 rfl) rfl
theorem q813 : (Jvm.Cond.classLink "LeastSolutions" (7 : Nat) "LeastSolutions$Vector") ∈ lw_all := lw_g (lw_at lw_m4 19 rfl) rfl
theorem q814 : (Jvm.Cond.methodLink "LeastSolutions" (255 : Nat) ({ cls := "LeastSolutions$Vector", name := "isIn", desc := "([I)Z" } : Jvm.MethodName)) ∈ lw_all := lw_g (lw_at lw_m4 20 rfl) rfl
theorem q818 : (Jvm.Cond.methodLink "LeastSolutions" (259 : Nat) ({ cls := "LeastSolutions", name := "take", desc := "(LLeastSolutions$Vector;[I)V" } : Jvm.MethodName)) ∈ lw_all := lw_g (lw_at lw_m4 24 rfl) rfl
theorem q819 : (Jvm.Cond.static ({ cls := "LeastSolutions", name := "take", desc := "(LLeastSolutions$Vector;[I)V" } : Jvm.MethodName)) ∈ lw_all := lw_g (lw_at lw_m4 25 rfl) rfl
theorem q820 : (Jvm.Cond.code ({ cls := "LeastSolutions", name := "take", desc := "(LLeastSolutions$Vector;[I)V" } : Jvm.MethodName) prog_1_method_25_code (3 : Nat) (Option.none : Option Jvm.ClassFile.FieldType)) ∈ lw_all := lw_g (lw_at lw_m4 26 rfl) rfl
theorem q821 : (Jvm.Cond.methodLink "LeastSolutions" (200 : Nat) ({ cls := "LeastSolutions$Shelf", name := "size", desc := "()I" } : Jvm.MethodName)) ∈ lw_all := lw_g (lw_at lw_m4 27 rfl) rfl
theorem q826 : (Jvm.Cond.instanceMethod ({ cls := "LeastSolutions", name := "times", desc := "(I)I" } : Jvm.MethodName)) ∈ lw_all := lw_g (lw_at lw_m4 32 rfl) rfl
theorem q827 : (Jvm.Cond.selects "LeastSolutions" ({ cls := "LeastSolutions", name := "times", desc := "(I)I" } : Jvm.MethodName) ({ cls := "LeastSolutions", name := "times", desc := "(I)I" } : Jvm.MethodName)) ∈ lw_all := lw_g (lw_at lw_m4 33 rfl) rfl
theorem q828 : (Jvm.Cond.code ({ cls := "LeastSolutions", name := "times", desc := "(I)I" } : Jvm.MethodName) prog_1_method_26_code (2 : Nat) (Option.some Jvm.ClassFile.FieldType.int)) ∈ lw_all := lw_g (lw_at lw_m4 34 rfl) rfl
theorem q830 : (Jvm.Cond.instanceMethod ({ cls := "LeastSolutions", name := "bestAt", desc := "(I)I" } : Jvm.MethodName)) ∈ lw_all := lw_g (lw_at lw_m4 36 rfl) rfl
theorem q831 : (Jvm.Cond.selects "LeastSolutions" ({ cls := "LeastSolutions", name := "bestAt", desc := "(I)I" } : Jvm.MethodName) ({ cls := "LeastSolutions", name := "bestAt", desc := "(I)I" } : Jvm.MethodName)) ∈ lw_all := lw_g (lw_at lw_m4 37 rfl) rfl
theorem q832 : (Jvm.Cond.code ({ cls := "LeastSolutions", name := "bestAt", desc := "(I)I" } : Jvm.MethodName) prog_1_method_29_code (2 : Nat) (Option.some Jvm.ClassFile.FieldType.int)) ∈ lw_all := lw_g (lw_at lw_m4 38 rfl) rfl
theorem q833 : (Jvm.Cond.methodLink "LeastSolutions" (173 : Nat) ({ cls := "LeastSolutions", name := "isColumn", desc := "(I)Z" } : Jvm.MethodName)) ∈ lw_all := lw_g (lw_at lw_m4 39 rfl) rfl
theorem q834 : (Jvm.Cond.privateMethod ({ cls := "LeastSolutions", name := "isColumn", desc := "(I)Z" } : Jvm.MethodName)) ∈ lw_tbl := lw_at lw_m4 40 rfl
theorem q835 : (Jvm.Cond.instanceMethod ({ cls := "LeastSolutions", name := "isColumn", desc := "(I)Z" } : Jvm.MethodName)) ∈ lw_all := lw_g (lw_at lw_m4 41 rfl) rfl
theorem q836 : (Jvm.Cond.code ({ cls := "LeastSolutions", name := "isColumn", desc := "(I)Z" } : Jvm.MethodName) prog_1_method_13_code (2 : Nat) (Option.some Jvm.ClassFile.FieldType.boolean)) ∈ lw_all := lw_g (lw_at lw_m4 42 rfl) rfl
theorem q873 : (Jvm.Cond.instanceMethod ({ cls := "LeastSolutions", name := "number", desc := "(II)I" } : Jvm.MethodName)) ∈ lw_all := lw_g (lw_at lw_m4 79 rfl) rfl
theorem q874 : (Jvm.Cond.selects "LeastSolutions" ({ cls := "LeastSolutions", name := "number", desc := "(II)I" } : Jvm.MethodName) ({ cls := "LeastSolutions", name := "number", desc := "(II)I" } : Jvm.MethodName)) ∈ lw_all := lw_g (lw_at lw_m4 80 rfl) rfl
theorem q875 : (Jvm.Cond.code ({ cls := "LeastSolutions", name := "number", desc := "(II)I" } : Jvm.MethodName) prog_1_method_8_code (3 : Nat) (Option.some Jvm.ClassFile.FieldType.int)) ∈ lw_all := lw_g (lw_at lw_m4 81 rfl) rfl
theorem q876 : (Jvm.Cond.classLink "LeastSolutions" (150 : Nat) "java/lang/IndexOutOfBoundsException") ∈ lw_all := lw_g (lw_at lw_m4 82 rfl) rfl
theorem q885 : (Jvm.Cond.methodLink "LeastSolutions" (152 : Nat) ({ cls := "java/lang/IndexOutOfBoundsException", name := "<init>", desc := "()V" } : Jvm.MethodName)) ∈ lw_all := lw_g (lw_at lw_m4 91 rfl) rfl
theorem q896 : (Jvm.Cond.instanceMethod ({ cls := "LeastSolutions", name := "solvable", desc := "()I" } : Jvm.MethodName)) ∈ lw_all := lw_g (lw_at lw_m4 102 rfl) rfl
theorem q897 : (Jvm.Cond.selects "LeastSolutions" ({ cls := "LeastSolutions", name := "solvable", desc := "()I" } : Jvm.MethodName) ({ cls := "LeastSolutions", name := "solvable", desc := "()I" } : Jvm.MethodName)) ∈ lw_all := lw_g (lw_at lw_m4 103 rfl) rfl
theorem q898 : (Jvm.Cond.code ({ cls := "LeastSolutions", name := "solvable", desc := "()I" } : Jvm.MethodName) prog_1_method_10_code (1 : Nat) (Option.some Jvm.ClassFile.FieldType.int)) ∈ lw_all := lw_g (lw_at lw_m4 104 rfl) rfl
theorem q903 : (Jvm.Cond.instanceMethod ({ cls := "LeastSolutions", name := "kernel", desc := "()I" } : Jvm.MethodName)) ∈ lw_all := lw_g (lw_at lw_m4 109 rfl) rfl
theorem q904 : (Jvm.Cond.selects "LeastSolutions" ({ cls := "LeastSolutions", name := "kernel", desc := "()I" } : Jvm.MethodName) ({ cls := "LeastSolutions", name := "kernel", desc := "()I" } : Jvm.MethodName)) ∈ lw_all := lw_g (lw_at lw_m4 110 rfl) rfl
theorem q905 : (Jvm.Cond.code ({ cls := "LeastSolutions", name := "kernel", desc := "()I" } : Jvm.MethodName) prog_1_method_11_code (1 : Nat) (Option.some Jvm.ClassFile.FieldType.int)) ∈ lw_all := lw_g (lw_at lw_m4 111 rfl) rfl
theorem q906 : (Jvm.Cond.methodLink "LeastSolutions" (169 : Nat) ({ cls := "LeastSolutions$Lattice", name := "dimension", desc := "()I" } : Jvm.MethodName)) ∈ lw_all := lw_g (lw_at lw_m4 112 rfl) rfl
theorem q914 : (Jvm.Cond.instanceMethod ({ cls := "LeastSolutions", name := "kernelAt", desc := "(II)J" } : Jvm.MethodName)) ∈ lw_all := lw_g (lw_at lw_m4 120 rfl) rfl
theorem q915 : (Jvm.Cond.selects "LeastSolutions" ({ cls := "LeastSolutions", name := "kernelAt", desc := "(II)J" } : Jvm.MethodName) ({ cls := "LeastSolutions", name := "kernelAt", desc := "(II)J" } : Jvm.MethodName)) ∈ lw_all := lw_g (lw_at lw_m4 121 rfl) rfl
theorem q916 : (Jvm.Cond.code ({ cls := "LeastSolutions", name := "kernelAt", desc := "(II)J" } : Jvm.MethodName) prog_1_method_12_code (3 : Nat) (Option.some Jvm.ClassFile.FieldType.long)) ∈ lw_all := lw_g (lw_at lw_m4 122 rfl) rfl
theorem q917 : (Jvm.Cond.methodLink "LeastSolutions" (177 : Nat) ({ cls := "LeastSolutions$Lattice", name := "kernelAt", desc := "(II)J" } : Jvm.MethodName)) ∈ lw_all := lw_g (lw_at lw_m4 123 rfl) rfl
theorem q926 : (Jvm.Cond.instanceMethod ({ cls := "LeastSolutions", name := "work", desc := "(II)I" } : Jvm.MethodName)) ∈ lw_all := lw_g (lw_at lw_m4 132 rfl) rfl
theorem q927 : (Jvm.Cond.selects "LeastSolutions" ({ cls := "LeastSolutions", name := "work", desc := "(II)I" } : Jvm.MethodName) ({ cls := "LeastSolutions", name := "work", desc := "(II)I" } : Jvm.MethodName)) ∈ lw_all := lw_g (lw_at lw_m4 133 rfl) rfl
theorem q928 : (Jvm.Cond.code ({ cls := "LeastSolutions", name := "work", desc := "(II)I" } : Jvm.MethodName) prog_1_method_14_code (6 : Nat) (Option.some Jvm.ClassFile.FieldType.int)) ∈ lw_all := lw_g (lw_at lw_m4 134 rfl) rfl
theorem q929 : (Jvm.Cond.classLink "LeastSolutions" (181 : Nat) "java/lang/IllegalArgumentException") ∈ lw_all := lw_g (lw_at lw_m4 135 rfl) rfl
theorem q930 : (Jvm.Cond.methodLink "LeastSolutions" (183 : Nat) ({ cls := "java/lang/IllegalArgumentException", name := "<init>", desc := "()V" } : Jvm.MethodName)) ∈ lw_all := lw_g (lw_at lw_m4 136 rfl) rfl
theorem q931 : (Jvm.Cond.methodLink "LeastSolutions" (184 : Nat) ({ cls := "LeastSolutions", name := "summands", desc := "(LLeastSolutions$Found;I)Z" } : Jvm.MethodName)) ∈ lw_all := lw_g (lw_at lw_m4 137 rfl) rfl
theorem q932 : (Jvm.Cond.privateMethod ({ cls := "LeastSolutions", name := "summands", desc := "(LLeastSolutions$Found;I)Z" } : Jvm.MethodName)) ∈ lw_tbl := lw_at lw_m4 138 rfl
theorem q933 : (Jvm.Cond.instanceMethod ({ cls := "LeastSolutions", name := "summands", desc := "(LLeastSolutions$Found;I)Z" } : Jvm.MethodName)) ∈ lw_all := lw_g (lw_at lw_m4 139 rfl) rfl
theorem q934 : (Jvm.Cond.code ({ cls := "LeastSolutions", name := "summands", desc := "(LLeastSolutions$Found;I)Z" } : Jvm.MethodName) prog_1_method_15_code (5 : Nat) (Option.some Jvm.ClassFile.FieldType.boolean)) ∈ lw_all := lw_g (lw_at lw_m4 140 rfl) rfl
theorem q935 : (Jvm.Cond.methodLink "LeastSolutions" (203 : Nat) ({ cls := "LeastSolutions$Grower", name := "kernel", desc := "(LLeastSolutions$Model;II)Z" } : Jvm.MethodName)) ∈ lw_all := lw_g (lw_at lw_m4 141 rfl) rfl
theorem q974 : (Jvm.Cond.static ({ cls := "LeastSolutions", name := "keep", desc := "(LLeastSolutions$Shelf;[II)V" } : Jvm.MethodName)) ∈ lw_all := lw_g (lw_at lw_m4 180 rfl) rfl
theorem q975 : (Jvm.Cond.code ({ cls := "LeastSolutions", name := "keep", desc := "(LLeastSolutions$Shelf;[II)V" } : Jvm.MethodName) prog_1_method_1_code (4 : Nat) (Option.none : Option Jvm.ClassFile.FieldType)) ∈ lw_all := lw_g (lw_at lw_m4 181 rfl) rfl
theorem q976 : (Jvm.Cond.methodLink "LeastSolutions" (1 : Nat) ({ cls := "LeastSolutions$Shelf", name := "spare", desc := "()LLeastSolutions$Ranked;" } : Jvm.MethodName)) ∈ lw_all := lw_g (lw_at lw_m4 182 rfl) rfl
theorem q994 : (Jvm.Cond.methodLinkNest "LeastSolutions" (9 : Nat) ({ cls := "LeastSolutions$Vector", name := "<init>", desc := "()V" } : Jvm.MethodName) "LeastSolutions") ∈ lw_tbl := lw_at lw_m4 200 rfl
theorem q999 : (Jvm.Cond.fieldLinkNest "LeastSolutions" (231 : Nat) "LeastSolutions$Vector" "numbers" "[B" "LeastSolutions") ∈ lw_tbl := lw_at lw_m4 205 rfl
theorem q1006 : (Jvm.Cond.methodLink "LeastSolutions" (13 : Nat) ({ cls := "LeastSolutions$Vector", name := "be", desc := "([II)V" } : Jvm.MethodName)) ∈ lw_all := lw_g (lw_at lw_m4 212 rfl) rfl
theorem q1010 : (Jvm.Cond.methodLink "LeastSolutions" (17 : Nat) ({ cls := "LeastSolutions$Shelf", name := "put", desc := "(LLeastSolutions$Ranked;)V" } : Jvm.MethodName)) ∈ lw_all := lw_g (lw_at lw_m4 216 rfl) rfl
theorem q1288 : (Jvm.Cond.methodLink "LeastSolutions" (210 : Nat) ({ cls := "LeastSolutions", name := "copy", desc := "(ILLeastSolutions$Shelf;I)V" } : Jvm.MethodName)) ∈ lw_all := lw_g (lw_at lw_m6 14 rfl) rfl
theorem q1289 : (Jvm.Cond.privateMethod ({ cls := "LeastSolutions", name := "copy", desc := "(ILLeastSolutions$Shelf;I)V" } : Jvm.MethodName)) ∈ lw_tbl := lw_at lw_m6 15 rfl
theorem q1290 : (Jvm.Cond.instanceMethod ({ cls := "LeastSolutions", name := "copy", desc := "(ILLeastSolutions$Shelf;I)V" } : Jvm.MethodName)) ∈ lw_all := lw_g (lw_at lw_m6 16 rfl) rfl
theorem q1291 : (Jvm.Cond.code ({ cls := "LeastSolutions", name := "copy", desc := "(ILLeastSolutions$Shelf;I)V" } : Jvm.MethodName) prog_1_method_16_code (4 : Nat) (Option.none : Option Jvm.ClassFile.FieldType)) ∈ lw_all := lw_g (lw_at lw_m6 17 rfl) rfl
theorem q1292 : (Jvm.Cond.methodLink "LeastSolutions" (218 : Nat) ({ cls := "LeastSolutions$Vector", name := "show", desc := "([I)V" } : Jvm.MethodName)) ∈ lw_all := lw_g (lw_at lw_m6 18 rfl) rfl
theorem q1296 : (Jvm.Cond.methodLink "LeastSolutions" (222 : Nat) ({ cls := "LeastSolutions", name := "keep", desc := "(LLeastSolutions$Shelf;[II)V" } : Jvm.MethodName)) ∈ lw_all := lw_g (lw_at lw_m6 22 rfl) rfl
theorem q1297 : (Jvm.Cond.methodLink "LeastSolutions" (188 : Nat) ({ cls := "LeastSolutions", name := "least", desc := "(LLeastSolutions$Found;I)Z" } : Jvm.MethodName)) ∈ lw_all := lw_g (lw_at lw_m6 23 rfl) rfl
theorem q1298 : (Jvm.Cond.privateMethod ({ cls := "LeastSolutions", name := "least", desc := "(LLeastSolutions$Found;I)Z" } : Jvm.MethodName)) ∈ lw_tbl := lw_at lw_m6 24 rfl
theorem q1299 : (Jvm.Cond.instanceMethod ({ cls := "LeastSolutions", name := "least", desc := "(LLeastSolutions$Found;I)Z" } : Jvm.MethodName)) ∈ lw_all := lw_g (lw_at lw_m6 25 rfl) rfl
theorem q1300 : (Jvm.Cond.code ({ cls := "LeastSolutions", name := "least", desc := "(LLeastSolutions$Found;I)Z" } : Jvm.MethodName) prog_1_method_17_code (5 : Nat) (Option.some Jvm.ClassFile.FieldType.boolean)) ∈ lw_all := lw_g (lw_at lw_m6 26 rfl) rfl
theorem q1301 : (Jvm.Cond.methodLink "LeastSolutions" (226 : Nat) ({ cls := "LeastSolutions$Shelf", name := "clear", desc := "()V" } : Jvm.MethodName)) ∈ lw_all := lw_g (lw_at lw_m6 27 rfl) rfl
theorem q1302 : (Jvm.Cond.methodLink "LeastSolutions" (227 : Nat) ({ cls := "LeastSolutions$Grower", name := "solutions", desc := "(LLeastSolutions$Model;LLeastSolutions$Shelf;I)Z" } : Jvm.MethodName)) ∈ lw_all := lw_g (lw_at lw_m6 28 rfl) rfl
theorem q1306 : (Jvm.Cond.methodLink "LeastSolutions" (191 : Nat) ({ cls := "LeastSolutions", name := "signed", desc := "(LLeastSolutions$Found;I)Z" } : Jvm.MethodName)) ∈ lw_all := lw_g (lw_at lw_m6 32 rfl) rfl
theorem q1307 : (Jvm.Cond.privateMethod ({ cls := "LeastSolutions", name := "signed", desc := "(LLeastSolutions$Found;I)Z" } : Jvm.MethodName)) ∈ lw_tbl := lw_at lw_m6 33 rfl
theorem q1308 : (Jvm.Cond.instanceMethod ({ cls := "LeastSolutions", name := "signed", desc := "(LLeastSolutions$Found;I)Z" } : Jvm.MethodName)) ∈ lw_all := lw_g (lw_at lw_m6 34 rfl) rfl
theorem q1309 : (Jvm.Cond.code ({ cls := "LeastSolutions", name := "signed", desc := "(LLeastSolutions$Found;I)Z" } : Jvm.MethodName) prog_1_method_18_code (6 : Nat) (Option.some Jvm.ClassFile.FieldType.boolean)) ∈ lw_all := lw_g (lw_at lw_m6 35 rfl) rfl
theorem q1310 : (Jvm.Cond.methodLink "LeastSolutions" (234 : Nat) ({ cls := "LeastSolutions", name := "belongs", desc := "([BI)Z" } : Jvm.MethodName)) ∈ lw_all := lw_g (lw_at lw_m6 36 rfl) rfl
theorem q1311 : (Jvm.Cond.static ({ cls := "LeastSolutions", name := "belongs", desc := "([BI)Z" } : Jvm.MethodName)) ∈ lw_all := lw_g (lw_at lw_m6 37 rfl) rfl
theorem q1312 : (Jvm.Cond.code ({ cls := "LeastSolutions", name := "belongs", desc := "([BI)Z" } : Jvm.MethodName) prog_1_method_19_code (6 : Nat) (Option.some Jvm.ClassFile.FieldType.boolean)) ∈ lw_all := lw_g (lw_at lw_m6 38 rfl) rfl
theorem q1317 : (Jvm.Cond.instanceMethod ({ cls := "LeastSolutions", name := "at", desc := "(III)I" } : Jvm.MethodName)) ∈ lw_all := lw_g (lw_at lw_m6 43 rfl) rfl
theorem q1318 : (Jvm.Cond.selects "LeastSolutions" ({ cls := "LeastSolutions", name := "at", desc := "(III)I" } : Jvm.MethodName) ({ cls := "LeastSolutions", name := "at", desc := "(III)I" } : Jvm.MethodName)) ∈ lw_all := lw_g (lw_at lw_m6 44 rfl) rfl
theorem q1319 : (Jvm.Cond.code ({ cls := "LeastSolutions", name := "at", desc := "(III)I" } : Jvm.MethodName) prog_1_method_20_code (5 : Nat) (Option.some Jvm.ClassFile.FieldType.int)) ∈ lw_all := lw_g (lw_at lw_m6 45 rfl) rfl
theorem q1324 : (Jvm.Cond.instanceMethod ({ cls := "LeastSolutions", name := "tell", desc := "(II)V" } : Jvm.MethodName)) ∈ lw_all := lw_g (lw_at lw_m6 50 rfl) rfl
theorem q1325 : (Jvm.Cond.selects "LeastSolutions" ({ cls := "LeastSolutions", name := "tell", desc := "(II)V" } : Jvm.MethodName) ({ cls := "LeastSolutions", name := "tell", desc := "(II)V" } : Jvm.MethodName)) ∈ lw_all := lw_g (lw_at lw_m6 51 rfl) rfl
theorem q1326 : (Jvm.Cond.code ({ cls := "LeastSolutions", name := "tell", desc := "(II)V" } : Jvm.MethodName) prog_1_method_22_code (3 : Nat) (Option.none : Option Jvm.ClassFile.FieldType)) ∈ lw_all := lw_g (lw_at lw_m6 52 rfl) rfl
theorem q1327 : (Jvm.Cond.methodLink "LeastSolutions" (242 : Nat) ({ cls := "LeastSolutions", name := "needNumber", desc := "(I)V" } : Jvm.MethodName)) ∈ lw_all := lw_g (lw_at lw_m6 53 rfl) rfl
theorem q1328 : (Jvm.Cond.static ({ cls := "LeastSolutions", name := "needNumber", desc := "(I)V" } : Jvm.MethodName)) ∈ lw_all := lw_g (lw_at lw_m6 54 rfl) rfl
theorem q1329 : (Jvm.Cond.code ({ cls := "LeastSolutions", name := "needNumber", desc := "(I)V" } : Jvm.MethodName) prog_1_method_21_code (1 : Nat) (Option.none : Option Jvm.ClassFile.FieldType)) ∈ lw_all := lw_g (lw_at lw_m6 55 rfl) rfl
theorem q1338 : (Jvm.Cond.instanceMethod ({ cls := "LeastSolutions", name := "cost", desc := "(II)V" } : Jvm.MethodName)) ∈ lw_all := lw_g (lw_at lw_m6 64 rfl) rfl
theorem q1339 : (Jvm.Cond.selects "LeastSolutions" ({ cls := "LeastSolutions", name := "cost", desc := "(II)V" } : Jvm.MethodName) ({ cls := "LeastSolutions", name := "cost", desc := "(II)V" } : Jvm.MethodName)) ∈ lw_all := lw_g (lw_at lw_m6 65 rfl) rfl
theorem q1340 : (Jvm.Cond.code ({ cls := "LeastSolutions", name := "cost", desc := "(II)V" } : Jvm.MethodName) prog_1_method_27_code (3 : Nat) (Option.none : Option Jvm.ClassFile.FieldType)) ∈ lw_all := lw_g (lw_at lw_m6 66 rfl) rfl
theorem q1346 : (Jvm.Cond.instanceMethod ({ cls := "LeastSolutions", name := "best", desc := "(I)I" } : Jvm.MethodName)) ∈ lw_all := lw_g (lw_at lw_m6 72 rfl) rfl
theorem q1347 : (Jvm.Cond.selects "LeastSolutions" ({ cls := "LeastSolutions", name := "best", desc := "(I)I" } : Jvm.MethodName) ({ cls := "LeastSolutions", name := "best", desc := "(I)I" } : Jvm.MethodName)) ∈ lw_all := lw_g (lw_at lw_m6 73 rfl) rfl
theorem q1348 : (Jvm.Cond.code ({ cls := "LeastSolutions", name := "best", desc := "(I)I" } : Jvm.MethodName) prog_1_method_28_code (2 : Nat) (Option.some Jvm.ClassFile.FieldType.int)) ∈ lw_all := lw_g (lw_at lw_m6 74 rfl) rfl
theorem q1349 : (Jvm.Cond.methodLink "LeastSolutions" (263 : Nat) ({ cls := "LeastSolutions$Seeker", name := "work", desc := "(LLeastSolutions$Model;I)Z" } : Jvm.MethodName)) ∈ lw_all := lw_g (lw_at lw_m6 75 rfl) rfl
theorem q1368 : (Jvm.Cond.classLink "LeastSolutions" (266 : Nat) "java/util/NoSuchElementException") ∈ lw_all := lw_g (lw_at lw_m6 94 rfl) rfl
theorem q1377 : (Jvm.Cond.methodLink "LeastSolutions" (268 : Nat) ({ cls := "java/util/NoSuchElementException", name := "<init>", desc := "()V" } : Jvm.MethodName)) ∈ lw_all := lw_g (lw_at lw_m6 103 rfl) rfl
theorem q1708 : (Jvm.Cond.castable "LeastSolutions" "java/lang/Object") ∈ lw_tbl := lw_at lw_m7 194 rfl
theorem in_X1 : ∀ w ∈ wsX10, w ∈ lw_all := lw_in wsX10 [479, 481, 483, 485, 487, 489, 491, 493, 495, 497, 499, 501, 503, 505, 507, 509] (by decide +kernel) (by decide +kernel)
