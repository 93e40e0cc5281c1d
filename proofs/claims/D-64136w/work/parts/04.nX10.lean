/-! LeastSolutionsModel -/
set_option maxRecDepth 100000
def RX10 : String := "LeastSolutionsModel"
def TX10 : u_T := fun k => match k with
  | 0 => ("LeastSolutionsModel", "thrown", "I", false)
  | 1 => ("LeastSolutionsModel", "text", "[I", true)
  | 2 => ("LeastSolutionsModel", "length", "I", false)
  | 3 => ("LeastSolutionsModel", "wrong", "I", false)
  | 4 => ("LeastSolutionsModel", "kinds", "[I", true)
  | 5 => ("LeastSolutionsModel", "places", "[I", true)
  | 6 => ("LeastSolutionsModel", "values", "[I", true)
  | 7 => ("LeastSolutionsModel", "words", "I", false)
  | 8 => ("LeastSolutionsModel", "draftLetters", "[I", true)
  | 9 => ("LeastSolutionsModel", "draftVariables", "I", false)
  | 10 => ("LeastSolutionsModel", "draftSlacks", "I", false)
  | 11 => ("LeastSolutionsModel", "draftRows", "I", false)
  | 12 => ("LeastSolutionsModel", "draftNumbers", "[I", true)
  | 13 => ("LeastSolutionsModel", "draftSigns", "[I", true)
  | 14 => ("LeastSolutionsModel", "known", "Z", false)
  | 15 => ("LeastSolutionsModel", "rows", "I", false)
  | 16 => ("LeastSolutionsModel", "variables", "I", false)
  | 17 => ("LeastSolutionsModel", "columns", "I", false)
  | 18 => ("LeastSolutionsModel", "letters", "[I", true)
  | 19 => ("LeastSolutionsModel", "numbers", "[I", true)
  | 20 => ("LeastSolutionsModel", "isList", "[Z", true)
  | 21 => ("LeastSolutionsModel", "bounds", "[I", true)
  | 22 => ("LeastSolutionsModel", "sizes", "[I", true)
  | 23 => ("LeastSolutionsModel", "lists", "[B", true)
  | 24 => ("LeastSolutionsModel", "told", "[I", true)
  | 25 => ("LeastSolutionsModel", "costs", "[I", true)
  | 26 => ("LeastSolutionsModel", "isSplit", "Z", false)
  | 27 => ("LeastSolutionsModel", "times", "[I", true)
  | 28 => ("LeastSolutionsModel", "isBest", "Z", false)
  | 29 => ("LeastSolutionsModel", "bestOne", "[I", true)
  | 30 => ("LeastSolutionsModel", "basis", "[J", true)
  | 31 => ("LeastSolutionsModel", "vectors", "I", false)
  | 32 => ("LeastSolutionsModel", "one", "[J", true)
  | 33 => ("LeastSolutionsModel", "isOne", "Z", false)
  | 34 => ("LeastSolutionsModel", "along", "[J", true)
  | _ => ("LeastSolutionsModel", "now", "[I", true)
def tyX10 : Nat → FieldType := fun k => match k with
  | 0 => .int
  | 1 => .array .int
  | 2 => .int
  | 3 => .int
  | 4 => .array .int
  | 5 => .array .int
  | 6 => .array .int
  | 7 => .int
  | 8 => .array .int
  | 9 => .int
  | 10 => .int
  | 11 => .int
  | 12 => .array .int
  | 13 => .array .int
  | 14 => .boolean
  | 15 => .int
  | 16 => .int
  | 17 => .int
  | 18 => .array .int
  | 19 => .array .int
  | 20 => .array .boolean
  | 21 => .array .int
  | 22 => .array .int
  | 23 => .array .byte
  | 24 => .array .int
  | 25 => .array .int
  | 26 => .boolean
  | 27 => .array .int
  | 28 => .boolean
  | 29 => .array .int
  | 30 => .array .long
  | 31 => .int
  | 32 => .array .long
  | 33 => .boolean
  | 34 => .array .long
  | _ => .array .int
abbrev wsX100 : List Cond := u_ws RX10 TX10 36
set_option maxRecDepth 100000 in
theorem nmX10 : ∀ a, a < 36 → ∀ b, b < 36 → a ≠ b → (TX10 a).2.1 ≠ (TX10 b).2.1 := by decide +kernel
set_option maxRecDepth 100000 in
theorem tyX10_ok : ∀ k, k < 36 → parseFieldDescriptor (TX10 k).2.2.1 = some (tyX10 k) := by decide +kernel
abbrev cX10_init : ByteArray := prog_14_method_1_code
def yX10_init : MethodName := ⟨RX10, "<init>", "()V"⟩
def dkwX10_init_7 : List UInt8 := [188, 11, 181, 0, 75, 42, 16, 6, 188, 10, 181, 0, 78, 177]
abbrev dktX10_init_7 : List UInt8 := dkwX10_init_7 ++ []
def dkwX10_init_6 : List UInt8 := [188, 10, 181, 0, 65, 42, 16, 36, 188, 11, 181, 0, 68, 42, 16, 6, 188, 11, 181, 0, 72, 42, 16, 6]
abbrev dktX10_init_6 : List UInt8 := dkwX10_init_6 ++ dktX10_init_7
def dkwX10_init_5 : List UInt8 := [181, 0, 56, 42, 16, 6, 188, 10, 181, 0, 59, 42, 17, 7, 208, 188, 10, 181, 0, 62, 42, 16, 6]
abbrev dktX10_init_5 : List UInt8 := dkwX10_init_5 ++ dktX10_init_6
def dkwX10_init_4 : List UInt8 := [181, 0, 45, 42, 6, 188, 10, 181, 0, 48, 42, 18, 51, 188, 8, 181, 0, 52, 42, 16, 6, 188, 10]
abbrev dktX10_init_4 : List UInt8 := dkwX10_init_4 ++ dktX10_init_5
def dkwX10_init_3 : List UInt8 := [188, 10, 181, 0, 35, 42, 16, 28, 188, 10, 181, 0, 38, 42, 6, 188, 4, 181, 0, 41, 42, 6, 188, 10]
abbrev dktX10_init_3 : List UInt8 := dkwX10_init_3 ++ dktX10_init_4
def dkwX10_init_2 : List UInt8 := [188, 10, 181, 0, 26, 42, 16, 28, 188, 10, 181, 0, 29, 42, 7, 188, 10, 181, 0, 32, 42, 16, 6]
abbrev dktX10_init_2 : List UInt8 := dkwX10_init_2 ++ dktX10_init_3
def dkwX10_init_1 : List UInt8 := [181, 0, 17, 42, 17, 1, 45, 188, 10, 181, 0, 20, 42, 17, 1, 45, 188, 10, 181, 0, 23, 42, 16, 6]
abbrev dktX10_init_1 : List UInt8 := dkwX10_init_1 ++ dktX10_init_2
def dkwX10_init_0 : List UInt8 := [42, 183, 0, 1, 42, 17, 1, 44, 188, 10, 181, 0, 7, 42, 2, 181, 0, 13, 42, 17, 1, 45, 188, 10]
abbrev dktX10_init_0 : List UInt8 := dkwX10_init_0 ++ dktX10_init_1
theorem dksX10_init_0 : cX10_init.data.toList.drop 0 = dktX10_init_0 := by decide +kernel
theorem dksX10_init_1 : cX10_init.data.toList.drop 24 = dktX10_init_1 := dk_seg dksX10_init_0 24 rfl rfl
theorem dksX10_init_2 : cX10_init.data.toList.drop 48 = dktX10_init_2 := dk_seg dksX10_init_1 24 rfl rfl
theorem dksX10_init_3 : cX10_init.data.toList.drop 71 = dktX10_init_3 := dk_seg dksX10_init_2 23 rfl rfl
theorem dksX10_init_4 : cX10_init.data.toList.drop 95 = dktX10_init_4 := dk_seg dksX10_init_3 24 rfl rfl
theorem dksX10_init_5 : cX10_init.data.toList.drop 118 = dktX10_init_5 := dk_seg dksX10_init_4 23 rfl rfl
theorem dksX10_init_6 : cX10_init.data.toList.drop 141 = dktX10_init_6 := dk_seg dksX10_init_5 23 rfl rfl
theorem dksX10_init_7 : cX10_init.data.toList.drop 165 = dktX10_init_7 := dk_seg dksX10_init_6 24 rfl rfl
theorem dX10_init_0 : decode cX10_init 0 = .ok (.aload_n 0, 1) := dk_42 (dk_at dksX10_init_0 0 rfl rfl)
theorem dX10_init_1 : decode cX10_init 1 = .ok (.invokespecial 1, 3) := dk_183 0 1 (dk_at dksX10_init_0 1 rfl rfl)
theorem dX10_init_4 : decode cX10_init 4 = .ok (.aload_n 0, 1) := dk_42 (dk_at dksX10_init_0 4 rfl rfl)
theorem dX10_init_5 : decode cX10_init 5 = .ok (.sipush 300, 3) := dk_17 1 44 (dk_at dksX10_init_0 5 rfl rfl)
theorem dX10_init_8 : decode cX10_init 8 = .ok (.newarray .int, 2) := dk_188_10 (dk_at dksX10_init_0 8 rfl rfl)
theorem dX10_init_10 : decode cX10_init 10 = .ok (.putfield 7, 3) := dk_181 0 7 (dk_at dksX10_init_0 10 rfl rfl)
theorem dX10_init_13 : decode cX10_init 13 = .ok (.aload_n 0, 1) := dk_42 (dk_at dksX10_init_0 13 rfl rfl)
theorem dX10_init_14 : decode cX10_init 14 = .ok (.iconst (-1), 1) := dk_2 (dk_at dksX10_init_0 14 rfl rfl)
theorem dX10_init_15 : decode cX10_init 15 = .ok (.putfield 13, 3) := dk_181 0 13 (dk_at dksX10_init_0 15 rfl rfl)
theorem dX10_init_18 : decode cX10_init 18 = .ok (.aload_n 0, 1) := dk_42 (dk_at dksX10_init_0 18 rfl rfl)
theorem dX10_init_19 : decode cX10_init 19 = .ok (.sipush 301, 3) := dk_17 1 45 (dk_at dksX10_init_0 19 rfl rfl)
theorem dX10_init_22 : decode cX10_init 22 = .ok (.newarray .int, 2) := dk_188_10 (dk_at dksX10_init_0 22 rfl rfl)
theorem dX10_init_24 : decode cX10_init 24 = .ok (.putfield 17, 3) := dk_181 0 17 (dk_at dksX10_init_1 0 rfl rfl)
theorem dX10_init_27 : decode cX10_init 27 = .ok (.aload_n 0, 1) := dk_42 (dk_at dksX10_init_1 3 rfl rfl)
theorem dX10_init_28 : decode cX10_init 28 = .ok (.sipush 301, 3) := dk_17 1 45 (dk_at dksX10_init_1 4 rfl rfl)
theorem dX10_init_31 : decode cX10_init 31 = .ok (.newarray .int, 2) := dk_188_10 (dk_at dksX10_init_1 7 rfl rfl)
theorem dX10_init_33 : decode cX10_init 33 = .ok (.putfield 20, 3) := dk_181 0 20 (dk_at dksX10_init_1 9 rfl rfl)
theorem dX10_init_36 : decode cX10_init 36 = .ok (.aload_n 0, 1) := dk_42 (dk_at dksX10_init_1 12 rfl rfl)
theorem dX10_init_37 : decode cX10_init 37 = .ok (.sipush 301, 3) := dk_17 1 45 (dk_at dksX10_init_1 13 rfl rfl)
theorem dX10_init_40 : decode cX10_init 40 = .ok (.newarray .int, 2) := dk_188_10 (dk_at dksX10_init_1 16 rfl rfl)
theorem dX10_init_42 : decode cX10_init 42 = .ok (.putfield 23, 3) := dk_181 0 23 (dk_at dksX10_init_1 18 rfl rfl)
theorem dX10_init_45 : decode cX10_init 45 = .ok (.aload_n 0, 1) := dk_42 (dk_at dksX10_init_1 21 rfl rfl)
theorem dX10_init_46 : decode cX10_init 46 = .ok (.bipush 6, 2) := dk_16 6 (dk_at dksX10_init_1 22 rfl rfl)
theorem dX10_init_48 : decode cX10_init 48 = .ok (.newarray .int, 2) := dk_188_10 (dk_at dksX10_init_2 0 rfl rfl)
theorem dX10_init_50 : decode cX10_init 50 = .ok (.putfield 26, 3) := dk_181 0 26 (dk_at dksX10_init_2 2 rfl rfl)
theorem dX10_init_53 : decode cX10_init 53 = .ok (.aload_n 0, 1) := dk_42 (dk_at dksX10_init_2 5 rfl rfl)
theorem dX10_init_54 : decode cX10_init 54 = .ok (.bipush 28, 2) := dk_16 28 (dk_at dksX10_init_2 6 rfl rfl)
theorem dX10_init_56 : decode cX10_init 56 = .ok (.newarray .int, 2) := dk_188_10 (dk_at dksX10_init_2 8 rfl rfl)
theorem dX10_init_58 : decode cX10_init 58 = .ok (.putfield 29, 3) := dk_181 0 29 (dk_at dksX10_init_2 10 rfl rfl)
theorem dX10_init_61 : decode cX10_init 61 = .ok (.aload_n 0, 1) := dk_42 (dk_at dksX10_init_2 13 rfl rfl)
theorem dX10_init_62 : decode cX10_init 62 = .ok (.iconst 4, 1) := dk_7 (dk_at dksX10_init_2 14 rfl rfl)
theorem dX10_init_63 : decode cX10_init 63 = .ok (.newarray .int, 2) := dk_188_10 (dk_at dksX10_init_2 15 rfl rfl)
theorem dX10_init_65 : decode cX10_init 65 = .ok (.putfield 32, 3) := dk_181 0 32 (dk_at dksX10_init_2 17 rfl rfl)
theorem dX10_init_68 : decode cX10_init 68 = .ok (.aload_n 0, 1) := dk_42 (dk_at dksX10_init_2 20 rfl rfl)
theorem dX10_init_69 : decode cX10_init 69 = .ok (.bipush 6, 2) := dk_16 6 (dk_at dksX10_init_2 21 rfl rfl)
theorem dX10_init_71 : decode cX10_init 71 = .ok (.newarray .int, 2) := dk_188_10 (dk_at dksX10_init_3 0 rfl rfl)
theorem dX10_init_73 : decode cX10_init 73 = .ok (.putfield 35, 3) := dk_181 0 35 (dk_at dksX10_init_3 2 rfl rfl)
theorem dX10_init_76 : decode cX10_init 76 = .ok (.aload_n 0, 1) := dk_42 (dk_at dksX10_init_3 5 rfl rfl)
theorem dX10_init_77 : decode cX10_init 77 = .ok (.bipush 28, 2) := dk_16 28 (dk_at dksX10_init_3 6 rfl rfl)
theorem dX10_init_79 : decode cX10_init 79 = .ok (.newarray .int, 2) := dk_188_10 (dk_at dksX10_init_3 8 rfl rfl)
theorem dX10_init_81 : decode cX10_init 81 = .ok (.putfield 38, 3) := dk_181 0 38 (dk_at dksX10_init_3 10 rfl rfl)
theorem dX10_init_84 : decode cX10_init 84 = .ok (.aload_n 0, 1) := dk_42 (dk_at dksX10_init_3 13 rfl rfl)
theorem dX10_init_85 : decode cX10_init 85 = .ok (.iconst 3, 1) := dk_6 (dk_at dksX10_init_3 14 rfl rfl)
theorem dX10_init_86 : decode cX10_init 86 = .ok (.newarray .boolean, 2) := dk_188_4 (dk_at dksX10_init_3 15 rfl rfl)
theorem dX10_init_88 : decode cX10_init 88 = .ok (.putfield 41, 3) := dk_181 0 41 (dk_at dksX10_init_3 17 rfl rfl)
theorem dX10_init_91 : decode cX10_init 91 = .ok (.aload_n 0, 1) := dk_42 (dk_at dksX10_init_3 20 rfl rfl)
theorem dX10_init_92 : decode cX10_init 92 = .ok (.iconst 3, 1) := dk_6 (dk_at dksX10_init_3 21 rfl rfl)
theorem dX10_init_93 : decode cX10_init 93 = .ok (.newarray .int, 2) := dk_188_10 (dk_at dksX10_init_3 22 rfl rfl)
theorem dX10_init_95 : decode cX10_init 95 = .ok (.putfield 45, 3) := dk_181 0 45 (dk_at dksX10_init_4 0 rfl rfl)
theorem dX10_init_98 : decode cX10_init 98 = .ok (.aload_n 0, 1) := dk_42 (dk_at dksX10_init_4 3 rfl rfl)
theorem dX10_init_99 : decode cX10_init 99 = .ok (.iconst 3, 1) := dk_6 (dk_at dksX10_init_4 4 rfl rfl)
theorem dX10_init_100 : decode cX10_init 100 = .ok (.newarray .int, 2) := dk_188_10 (dk_at dksX10_init_4 5 rfl rfl)
theorem dX10_init_102 : decode cX10_init 102 = .ok (.putfield 48, 3) := dk_181 0 48 (dk_at dksX10_init_4 7 rfl rfl)
theorem dX10_init_105 : decode cX10_init 105 = .ok (.aload_n 0, 1) := dk_42 (dk_at dksX10_init_4 10 rfl rfl)
theorem dX10_init_106 : decode cX10_init 106 = .ok (.ldc 51, 2) := dk_18 51 (dk_at dksX10_init_4 11 rfl rfl)
theorem dX10_init_108 : decode cX10_init 108 = .ok (.newarray .byte, 2) := dk_188_8 (dk_at dksX10_init_4 13 rfl rfl)
theorem dX10_init_110 : decode cX10_init 110 = .ok (.putfield 52, 3) := dk_181 0 52 (dk_at dksX10_init_4 15 rfl rfl)
theorem dX10_init_113 : decode cX10_init 113 = .ok (.aload_n 0, 1) := dk_42 (dk_at dksX10_init_4 18 rfl rfl)
theorem dX10_init_114 : decode cX10_init 114 = .ok (.bipush 6, 2) := dk_16 6 (dk_at dksX10_init_4 19 rfl rfl)
theorem dX10_init_116 : decode cX10_init 116 = .ok (.newarray .int, 2) := dk_188_10 (dk_at dksX10_init_4 21 rfl rfl)
theorem dX10_init_118 : decode cX10_init 118 = .ok (.putfield 56, 3) := dk_181 0 56 (dk_at dksX10_init_5 0 rfl rfl)
theorem dX10_init_121 : decode cX10_init 121 = .ok (.aload_n 0, 1) := dk_42 (dk_at dksX10_init_5 3 rfl rfl)
theorem dX10_init_122 : decode cX10_init 122 = .ok (.bipush 6, 2) := dk_16 6 (dk_at dksX10_init_5 4 rfl rfl)
theorem dX10_init_124 : decode cX10_init 124 = .ok (.newarray .int, 2) := dk_188_10 (dk_at dksX10_init_5 6 rfl rfl)
theorem dX10_init_126 : decode cX10_init 126 = .ok (.putfield 59, 3) := dk_181 0 59 (dk_at dksX10_init_5 8 rfl rfl)
theorem dX10_init_129 : decode cX10_init 129 = .ok (.aload_n 0, 1) := dk_42 (dk_at dksX10_init_5 11 rfl rfl)
theorem dX10_init_130 : decode cX10_init 130 = .ok (.sipush 2000, 3) := dk_17 7 208 (dk_at dksX10_init_5 12 rfl rfl)
theorem dX10_init_133 : decode cX10_init 133 = .ok (.newarray .int, 2) := dk_188_10 (dk_at dksX10_init_5 15 rfl rfl)
theorem dX10_init_135 : decode cX10_init 135 = .ok (.putfield 62, 3) := dk_181 0 62 (dk_at dksX10_init_5 17 rfl rfl)
theorem dX10_init_138 : decode cX10_init 138 = .ok (.aload_n 0, 1) := dk_42 (dk_at dksX10_init_5 20 rfl rfl)
theorem dX10_init_139 : decode cX10_init 139 = .ok (.bipush 6, 2) := dk_16 6 (dk_at dksX10_init_5 21 rfl rfl)
theorem dX10_init_141 : decode cX10_init 141 = .ok (.newarray .int, 2) := dk_188_10 (dk_at dksX10_init_6 0 rfl rfl)
theorem dX10_init_143 : decode cX10_init 143 = .ok (.putfield 65, 3) := dk_181 0 65 (dk_at dksX10_init_6 2 rfl rfl)
theorem dX10_init_146 : decode cX10_init 146 = .ok (.aload_n 0, 1) := dk_42 (dk_at dksX10_init_6 5 rfl rfl)
theorem dX10_init_147 : decode cX10_init 147 = .ok (.bipush 36, 2) := dk_16 36 (dk_at dksX10_init_6 6 rfl rfl)
theorem dX10_init_149 : decode cX10_init 149 = .ok (.newarray .long, 2) := dk_188_11 (dk_at dksX10_init_6 8 rfl rfl)
theorem dX10_init_151 : decode cX10_init 151 = .ok (.putfield 68, 3) := dk_181 0 68 (dk_at dksX10_init_6 10 rfl rfl)
theorem dX10_init_154 : decode cX10_init 154 = .ok (.aload_n 0, 1) := dk_42 (dk_at dksX10_init_6 13 rfl rfl)
theorem dX10_init_155 : decode cX10_init 155 = .ok (.bipush 6, 2) := dk_16 6 (dk_at dksX10_init_6 14 rfl rfl)
theorem dX10_init_157 : decode cX10_init 157 = .ok (.newarray .long, 2) := dk_188_11 (dk_at dksX10_init_6 16 rfl rfl)
theorem dX10_init_159 : decode cX10_init 159 = .ok (.putfield 72, 3) := dk_181 0 72 (dk_at dksX10_init_6 18 rfl rfl)
theorem dX10_init_162 : decode cX10_init 162 = .ok (.aload_n 0, 1) := dk_42 (dk_at dksX10_init_6 21 rfl rfl)
theorem dX10_init_163 : decode cX10_init 163 = .ok (.bipush 6, 2) := dk_16 6 (dk_at dksX10_init_6 22 rfl rfl)
theorem dX10_init_165 : decode cX10_init 165 = .ok (.newarray .long, 2) := dk_188_11 (dk_at dksX10_init_7 0 rfl rfl)
theorem dX10_init_167 : decode cX10_init 167 = .ok (.putfield 75, 3) := dk_181 0 75 (dk_at dksX10_init_7 2 rfl rfl)
theorem dX10_init_170 : decode cX10_init 170 = .ok (.aload_n 0, 1) := dk_42 (dk_at dksX10_init_7 5 rfl rfl)
theorem dX10_init_171 : decode cX10_init 171 = .ok (.bipush 6, 2) := dk_16 6 (dk_at dksX10_init_7 6 rfl rfl)
theorem dX10_init_173 : decode cX10_init 173 = .ok (.newarray .int, 2) := dk_188_10 (dk_at dksX10_init_7 8 rfl rfl)
theorem dX10_init_175 : decode cX10_init 175 = .ok (.putfield 78, 3) := dk_181 0 78 (dk_at dksX10_init_7 10 rfl rfl)
theorem dX10_init_178 : decode cX10_init 178 = .ok (.return_, 1) := dk_177 (dk_at dksX10_init_7 13 rfl rfl)
abbrev cX10_thrown : ByteArray := prog_14_method_2_code
def yX10_thrown : MethodName := ⟨RX10, "thrown", "()I"⟩
theorem dX10_thrown_0 : decode cX10_thrown 0 = .ok (.aload_n 0, 1) := by decide +kernel
theorem dX10_thrown_1 : decode cX10_thrown 1 = .ok (.getfield 81, 3) := by decide +kernel
theorem dX10_thrown_4 : decode cX10_thrown 4 = .ok (.ireturn, 1) := by decide +kernel
abbrev cX10_type : ByteArray := prog_14_method_3_code
def yX10_type : MethodName := ⟨RX10, "type", "(JI)I"⟩
def dkwX10_type_6 : List UInt8 := [181, 0, 84, 132, 5, 255, 167, 255, 217, 42, 180, 0, 84, 172]
abbrev dktX10_type_6 : List UInt8 := dkwX10_type_6 ++ []
def dkwX10_type_5 : List UInt8 := [42, 180, 0, 84, 31, 16, 8, 21, 5, 104, 123, 20, 0, 87, 127, 136, 79, 42, 89, 180, 0, 84, 4, 96]
abbrev dktX10_type_5 : List UInt8 := dkwX10_type_5 ++ dktX10_type_6
def dkwX10_type_4 : List UInt8 := [167, 255, 204, 21, 4, 154, 0, 5, 2, 172, 29, 4, 100, 54, 5, 21, 5, 155, 0, 40, 42, 180, 0, 7]
abbrev dktX10_type_4 : List UInt8 := dkwX10_type_4 ++ dktX10_type_5
def dkwX10_type_3 : List UInt8 := [155, 0, 16, 22, 6, 20, 0, 91, 148, 157, 0, 7, 4, 167, 0, 4, 3, 54, 4, 132, 5, 1]
abbrev dktX10_type_3 : List UInt8 := dkwX10_type_3 ++ dktX10_type_4
def dkwX10_type_2 : List UInt8 := [162, 0, 47, 31, 16, 8, 21, 5, 104, 123, 20, 0, 87, 127, 55, 6, 22, 6, 20, 0, 89, 148]
abbrev dktX10_type_2 : List UInt8 := dkwX10_type_2 ++ dktX10_type_3
def dkwX10_type_1 : List UInt8 := [17, 1, 44, 163, 0, 7, 4, 167, 0, 4, 3, 54, 4, 3, 54, 5, 21, 4, 153, 0, 53, 21, 5, 29]
abbrev dktX10_type_1 : List UInt8 := dkwX10_type_1 ++ dktX10_type_2
def dkwX10_type_0 : List UInt8 := [42, 3, 181, 0, 81, 29, 4, 161, 0, 25, 29, 16, 8, 163, 0, 19, 42, 180, 0, 84, 29, 96]
abbrev dktX10_type_0 : List UInt8 := dkwX10_type_0 ++ dktX10_type_1
theorem dksX10_type_0 : cX10_type.data.toList.drop 0 = dktX10_type_0 := by decide +kernel
theorem dksX10_type_1 : cX10_type.data.toList.drop 22 = dktX10_type_1 := dk_seg dksX10_type_0 22 rfl rfl
theorem dksX10_type_2 : cX10_type.data.toList.drop 46 = dktX10_type_2 := dk_seg dksX10_type_1 24 rfl rfl
theorem dksX10_type_3 : cX10_type.data.toList.drop 68 = dktX10_type_3 := dk_seg dksX10_type_2 22 rfl rfl
theorem dksX10_type_4 : cX10_type.data.toList.drop 90 = dktX10_type_4 := dk_seg dksX10_type_3 22 rfl rfl
theorem dksX10_type_5 : cX10_type.data.toList.drop 114 = dktX10_type_5 := dk_seg dksX10_type_4 24 rfl rfl
theorem dksX10_type_6 : cX10_type.data.toList.drop 138 = dktX10_type_6 := dk_seg dksX10_type_5 24 rfl rfl
theorem dX10_type_0 : decode cX10_type 0 = .ok (.aload_n 0, 1) := dk_42 (dk_at dksX10_type_0 0 rfl rfl)
theorem dX10_type_1 : decode cX10_type 1 = .ok (.iconst 0, 1) := dk_3 (dk_at dksX10_type_0 1 rfl rfl)
theorem dX10_type_2 : decode cX10_type 2 = .ok (.putfield 81, 3) := dk_181 0 81 (dk_at dksX10_type_0 2 rfl rfl)
theorem dX10_type_5 : decode cX10_type 5 = .ok (.iload_n 3, 1) := dk_29 (dk_at dksX10_type_0 5 rfl rfl)
theorem dX10_type_6 : decode cX10_type 6 = .ok (.iconst 1, 1) := dk_4 (dk_at dksX10_type_0 6 rfl rfl)
theorem dX10_type_7 : decode cX10_type 7 = .ok (.if_icmp .lt 25, 3) := dk_161 0 25 (dk_at dksX10_type_0 7 rfl rfl)
theorem dX10_type_10 : decode cX10_type 10 = .ok (.iload_n 3, 1) := dk_29 (dk_at dksX10_type_0 10 rfl rfl)
theorem dX10_type_11 : decode cX10_type 11 = .ok (.bipush 8, 2) := dk_16 8 (dk_at dksX10_type_0 11 rfl rfl)
theorem dX10_type_13 : decode cX10_type 13 = .ok (.if_icmp .gt 19, 3) := dk_163 0 19 (dk_at dksX10_type_0 13 rfl rfl)
theorem dX10_type_16 : decode cX10_type 16 = .ok (.aload_n 0, 1) := dk_42 (dk_at dksX10_type_0 16 rfl rfl)
theorem dX10_type_17 : decode cX10_type 17 = .ok (.getfield 84, 3) := dk_180 0 84 (dk_at dksX10_type_0 17 rfl rfl)
theorem dX10_type_20 : decode cX10_type 20 = .ok (.iload_n 3, 1) := dk_29 (dk_at dksX10_type_0 20 rfl rfl)
theorem dX10_type_21 : decode cX10_type 21 = .ok (.iadd, 1) := dk_96 (dk_at dksX10_type_0 21 rfl rfl)
theorem dX10_type_22 : decode cX10_type 22 = .ok (.sipush 300, 3) := dk_17 1 44 (dk_at dksX10_type_1 0 rfl rfl)
theorem dX10_type_25 : decode cX10_type 25 = .ok (.if_icmp .gt 7, 3) := dk_163 0 7 (dk_at dksX10_type_1 3 rfl rfl)
theorem dX10_type_28 : decode cX10_type 28 = .ok (.iconst 1, 1) := dk_4 (dk_at dksX10_type_1 6 rfl rfl)
theorem dX10_type_29 : decode cX10_type 29 = .ok (.goto 4, 3) := dk_167 0 4 (dk_at dksX10_type_1 7 rfl rfl)
theorem dX10_type_32 : decode cX10_type 32 = .ok (.iconst 0, 1) := dk_3 (dk_at dksX10_type_1 10 rfl rfl)
theorem dX10_type_33 : decode cX10_type 33 = .ok (.istore 4, 2) := dk_54 4 (dk_at dksX10_type_1 11 rfl rfl)
theorem dX10_type_35 : decode cX10_type 35 = .ok (.iconst 0, 1) := dk_3 (dk_at dksX10_type_1 13 rfl rfl)
theorem dX10_type_36 : decode cX10_type 36 = .ok (.istore 5, 2) := dk_54 5 (dk_at dksX10_type_1 14 rfl rfl)
theorem dX10_type_38 : decode cX10_type 38 = .ok (.iload 4, 2) := dk_21 4 (dk_at dksX10_type_1 16 rfl rfl)
theorem dX10_type_40 : decode cX10_type 40 = .ok (.ifCond .eq 53, 3) := dk_153 0 53 (dk_at dksX10_type_1 18 rfl rfl)
theorem dX10_type_43 : decode cX10_type 43 = .ok (.iload 5, 2) := dk_21 5 (dk_at dksX10_type_1 21 rfl rfl)
theorem dX10_type_45 : decode cX10_type 45 = .ok (.iload_n 3, 1) := dk_29 (dk_at dksX10_type_1 23 rfl rfl)
theorem dX10_type_46 : decode cX10_type 46 = .ok (.if_icmp .ge 47, 3) := dk_162 0 47 (dk_at dksX10_type_2 0 rfl rfl)
theorem dX10_type_49 : decode cX10_type 49 = .ok (.lload_n 1, 1) := dk_31 (dk_at dksX10_type_2 3 rfl rfl)
theorem dX10_type_50 : decode cX10_type 50 = .ok (.bipush 8, 2) := dk_16 8 (dk_at dksX10_type_2 4 rfl rfl)
theorem dX10_type_52 : decode cX10_type 52 = .ok (.iload 5, 2) := dk_21 5 (dk_at dksX10_type_2 6 rfl rfl)
theorem dX10_type_54 : decode cX10_type 54 = .ok (.imul, 1) := dk_104 (dk_at dksX10_type_2 8 rfl rfl)
theorem dX10_type_55 : decode cX10_type 55 = .ok (.lshr, 1) := dk_123 (dk_at dksX10_type_2 9 rfl rfl)
theorem dX10_type_56 : decode cX10_type 56 = .ok (.ldc2_w 87, 3) := dk_20 0 87 (dk_at dksX10_type_2 10 rfl rfl)
theorem dX10_type_59 : decode cX10_type 59 = .ok (.land, 1) := dk_127 (dk_at dksX10_type_2 13 rfl rfl)
theorem dX10_type_60 : decode cX10_type 60 = .ok (.lstore 6, 2) := dk_55 6 (dk_at dksX10_type_2 14 rfl rfl)
theorem dX10_type_62 : decode cX10_type 62 = .ok (.lload 6, 2) := dk_22 6 (dk_at dksX10_type_2 16 rfl rfl)
theorem dX10_type_64 : decode cX10_type 64 = .ok (.ldc2_w 89, 3) := dk_20 0 89 (dk_at dksX10_type_2 18 rfl rfl)
theorem dX10_type_67 : decode cX10_type 67 = .ok (.lcmp, 1) := dk_148 (dk_at dksX10_type_2 21 rfl rfl)
theorem dX10_type_68 : decode cX10_type 68 = .ok (.ifCond .lt 16, 3) := dk_155 0 16 (dk_at dksX10_type_3 0 rfl rfl)
theorem dX10_type_71 : decode cX10_type 71 = .ok (.lload 6, 2) := dk_22 6 (dk_at dksX10_type_3 3 rfl rfl)
theorem dX10_type_73 : decode cX10_type 73 = .ok (.ldc2_w 91, 3) := dk_20 0 91 (dk_at dksX10_type_3 5 rfl rfl)
theorem dX10_type_76 : decode cX10_type 76 = .ok (.lcmp, 1) := dk_148 (dk_at dksX10_type_3 8 rfl rfl)
theorem dX10_type_77 : decode cX10_type 77 = .ok (.ifCond .gt 7, 3) := dk_157 0 7 (dk_at dksX10_type_3 9 rfl rfl)
theorem dX10_type_80 : decode cX10_type 80 = .ok (.iconst 1, 1) := dk_4 (dk_at dksX10_type_3 12 rfl rfl)
theorem dX10_type_81 : decode cX10_type 81 = .ok (.goto 4, 3) := dk_167 0 4 (dk_at dksX10_type_3 13 rfl rfl)
theorem dX10_type_84 : decode cX10_type 84 = .ok (.iconst 0, 1) := dk_3 (dk_at dksX10_type_3 16 rfl rfl)
theorem dX10_type_85 : decode cX10_type 85 = .ok (.istore 4, 2) := dk_54 4 (dk_at dksX10_type_3 17 rfl rfl)
theorem dX10_type_87 : decode cX10_type 87 = .ok (.iinc 5 1, 3) := dk_132 5 1 (dk_at dksX10_type_3 19 rfl rfl)
theorem dX10_type_90 : decode cX10_type 90 = .ok (.goto (-52), 3) := dk_167 255 204 (dk_at dksX10_type_4 0 rfl rfl)
theorem dX10_type_93 : decode cX10_type 93 = .ok (.iload 4, 2) := dk_21 4 (dk_at dksX10_type_4 3 rfl rfl)
theorem dX10_type_95 : decode cX10_type 95 = .ok (.ifCond .ne 5, 3) := dk_154 0 5 (dk_at dksX10_type_4 5 rfl rfl)
theorem dX10_type_98 : decode cX10_type 98 = .ok (.iconst (-1), 1) := dk_2 (dk_at dksX10_type_4 8 rfl rfl)
theorem dX10_type_99 : decode cX10_type 99 = .ok (.ireturn, 1) := dk_172 (dk_at dksX10_type_4 9 rfl rfl)
theorem dX10_type_100 : decode cX10_type 100 = .ok (.iload_n 3, 1) := dk_29 (dk_at dksX10_type_4 10 rfl rfl)
theorem dX10_type_101 : decode cX10_type 101 = .ok (.iconst 1, 1) := dk_4 (dk_at dksX10_type_4 11 rfl rfl)
theorem dX10_type_102 : decode cX10_type 102 = .ok (.isub, 1) := dk_100 (dk_at dksX10_type_4 12 rfl rfl)
theorem dX10_type_103 : decode cX10_type 103 = .ok (.istore 5, 2) := dk_54 5 (dk_at dksX10_type_4 13 rfl rfl)
theorem dX10_type_105 : decode cX10_type 105 = .ok (.iload 5, 2) := dk_21 5 (dk_at dksX10_type_4 15 rfl rfl)
theorem dX10_type_107 : decode cX10_type 107 = .ok (.ifCond .lt 40, 3) := dk_155 0 40 (dk_at dksX10_type_4 17 rfl rfl)
theorem dX10_type_110 : decode cX10_type 110 = .ok (.aload_n 0, 1) := dk_42 (dk_at dksX10_type_4 20 rfl rfl)
theorem dX10_type_111 : decode cX10_type 111 = .ok (.getfield 7, 3) := dk_180 0 7 (dk_at dksX10_type_4 21 rfl rfl)
theorem dX10_type_114 : decode cX10_type 114 = .ok (.aload_n 0, 1) := dk_42 (dk_at dksX10_type_5 0 rfl rfl)
theorem dX10_type_115 : decode cX10_type 115 = .ok (.getfield 84, 3) := dk_180 0 84 (dk_at dksX10_type_5 1 rfl rfl)
theorem dX10_type_118 : decode cX10_type 118 = .ok (.lload_n 1, 1) := dk_31 (dk_at dksX10_type_5 4 rfl rfl)
theorem dX10_type_119 : decode cX10_type 119 = .ok (.bipush 8, 2) := dk_16 8 (dk_at dksX10_type_5 5 rfl rfl)
theorem dX10_type_121 : decode cX10_type 121 = .ok (.iload 5, 2) := dk_21 5 (dk_at dksX10_type_5 7 rfl rfl)
theorem dX10_type_123 : decode cX10_type 123 = .ok (.imul, 1) := dk_104 (dk_at dksX10_type_5 9 rfl rfl)
theorem dX10_type_124 : decode cX10_type 124 = .ok (.lshr, 1) := dk_123 (dk_at dksX10_type_5 10 rfl rfl)
theorem dX10_type_125 : decode cX10_type 125 = .ok (.ldc2_w 87, 3) := dk_20 0 87 (dk_at dksX10_type_5 11 rfl rfl)
theorem dX10_type_128 : decode cX10_type 128 = .ok (.land, 1) := dk_127 (dk_at dksX10_type_5 14 rfl rfl)
theorem dX10_type_129 : decode cX10_type 129 = .ok (.l2i, 1) := dk_136 (dk_at dksX10_type_5 15 rfl rfl)
theorem dX10_type_130 : decode cX10_type 130 = .ok (.iastore, 1) := dk_79 (dk_at dksX10_type_5 16 rfl rfl)
theorem dX10_type_131 : decode cX10_type 131 = .ok (.aload_n 0, 1) := dk_42 (dk_at dksX10_type_5 17 rfl rfl)
theorem dX10_type_132 : decode cX10_type 132 = .ok (.dup, 1) := dk_89 (dk_at dksX10_type_5 18 rfl rfl)
theorem dX10_type_133 : decode cX10_type 133 = .ok (.getfield 84, 3) := dk_180 0 84 (dk_at dksX10_type_5 19 rfl rfl)
theorem dX10_type_136 : decode cX10_type 136 = .ok (.iconst 1, 1) := dk_4 (dk_at dksX10_type_5 22 rfl rfl)
theorem dX10_type_137 : decode cX10_type 137 = .ok (.iadd, 1) := dk_96 (dk_at dksX10_type_5 23 rfl rfl)
theorem dX10_type_138 : decode cX10_type 138 = .ok (.putfield 84, 3) := dk_181 0 84 (dk_at dksX10_type_6 0 rfl rfl)
theorem dX10_type_141 : decode cX10_type 141 = .ok (.iinc 5 (-1), 3) := dk_132 5 255 (dk_at dksX10_type_6 3 rfl rfl)
theorem dX10_type_144 : decode cX10_type 144 = .ok (.goto (-39), 3) := dk_167 255 217 (dk_at dksX10_type_6 6 rfl rfl)
theorem dX10_type_147 : decode cX10_type 147 = .ok (.aload_n 0, 1) := dk_42 (dk_at dksX10_type_6 9 rfl rfl)
theorem dX10_type_148 : decode cX10_type 148 = .ok (.getfield 84, 3) := dk_180 0 84 (dk_at dksX10_type_6 10 rfl rfl)
theorem dX10_type_151 : decode cX10_type 151 = .ok (.ireturn, 1) := dk_172 (dk_at dksX10_type_6 13 rfl rfl)
abbrev cX10_read : ByteArray := prog_14_method_11_code
def yX10_read : MethodName := ⟨RX10, "read", "()I"⟩
def dkwX10_read_2 : List UInt8 := [182, 0, 130, 3, 172]
abbrev dktX10_read_2 : List UInt8 := dkwX10_read_2 ++ []
def dkwX10_read_1 : List UInt8 := [4, 42, 180, 0, 20, 27, 46, 182, 0, 113, 172, 42, 182, 0, 127, 61, 28, 153, 0, 5, 28, 172, 42]
abbrev dktX10_read_1 : List UInt8 := dkwX10_read_1 ++ dktX10_read_2
def dkwX10_read_0 : List UInt8 := [42, 3, 181, 0, 81, 42, 182, 0, 120, 42, 3, 181, 0, 84, 42, 182, 0, 123, 60, 27, 155, 0, 15, 42]
abbrev dktX10_read_0 : List UInt8 := dkwX10_read_0 ++ dktX10_read_1
theorem dksX10_read_0 : cX10_read.data.toList.drop 0 = dktX10_read_0 := by decide +kernel
theorem dksX10_read_1 : cX10_read.data.toList.drop 24 = dktX10_read_1 := dk_seg dksX10_read_0 24 rfl rfl
theorem dksX10_read_2 : cX10_read.data.toList.drop 47 = dktX10_read_2 := dk_seg dksX10_read_1 23 rfl rfl
theorem dX10_read_0 : decode cX10_read 0 = .ok (.aload_n 0, 1) := dk_42 (dk_at dksX10_read_0 0 rfl rfl)
theorem dX10_read_1 : decode cX10_read 1 = .ok (.iconst 0, 1) := dk_3 (dk_at dksX10_read_0 1 rfl rfl)
theorem dX10_read_2 : decode cX10_read 2 = .ok (.putfield 81, 3) := dk_181 0 81 (dk_at dksX10_read_0 2 rfl rfl)
theorem dX10_read_5 : decode cX10_read 5 = .ok (.aload_n 0, 1) := dk_42 (dk_at dksX10_read_0 5 rfl rfl)
theorem dX10_read_6 : decode cX10_read 6 = .ok (.invokevirtual 120, 3) := dk_182 0 120 (dk_at dksX10_read_0 6 rfl rfl)
theorem dX10_read_9 : decode cX10_read 9 = .ok (.aload_n 0, 1) := dk_42 (dk_at dksX10_read_0 9 rfl rfl)
theorem dX10_read_10 : decode cX10_read 10 = .ok (.iconst 0, 1) := dk_3 (dk_at dksX10_read_0 10 rfl rfl)
theorem dX10_read_11 : decode cX10_read 11 = .ok (.putfield 84, 3) := dk_181 0 84 (dk_at dksX10_read_0 11 rfl rfl)
theorem dX10_read_14 : decode cX10_read 14 = .ok (.aload_n 0, 1) := dk_42 (dk_at dksX10_read_0 14 rfl rfl)
theorem dX10_read_15 : decode cX10_read 15 = .ok (.invokevirtual 123, 3) := dk_182 0 123 (dk_at dksX10_read_0 15 rfl rfl)
theorem dX10_read_18 : decode cX10_read 18 = .ok (.istore_n 1, 1) := dk_60 (dk_at dksX10_read_0 18 rfl rfl)
theorem dX10_read_19 : decode cX10_read 19 = .ok (.iload_n 1, 1) := dk_27 (dk_at dksX10_read_0 19 rfl rfl)
theorem dX10_read_20 : decode cX10_read 20 = .ok (.ifCond .lt 15, 3) := dk_155 0 15 (dk_at dksX10_read_0 20 rfl rfl)
theorem dX10_read_23 : decode cX10_read 23 = .ok (.aload_n 0, 1) := dk_42 (dk_at dksX10_read_0 23 rfl rfl)
theorem dX10_read_24 : decode cX10_read 24 = .ok (.iconst 1, 1) := dk_4 (dk_at dksX10_read_1 0 rfl rfl)
theorem dX10_read_25 : decode cX10_read 25 = .ok (.aload_n 0, 1) := dk_42 (dk_at dksX10_read_1 1 rfl rfl)
theorem dX10_read_26 : decode cX10_read 26 = .ok (.getfield 20, 3) := dk_180 0 20 (dk_at dksX10_read_1 2 rfl rfl)
theorem dX10_read_29 : decode cX10_read 29 = .ok (.iload_n 1, 1) := dk_27 (dk_at dksX10_read_1 5 rfl rfl)
theorem dX10_read_30 : decode cX10_read 30 = .ok (.iaload, 1) := dk_46 (dk_at dksX10_read_1 6 rfl rfl)
theorem dX10_read_31 : decode cX10_read 31 = .ok (.invokevirtual 113, 3) := dk_182 0 113 (dk_at dksX10_read_1 7 rfl rfl)
theorem dX10_read_34 : decode cX10_read 34 = .ok (.ireturn, 1) := dk_172 (dk_at dksX10_read_1 10 rfl rfl)
theorem dX10_read_35 : decode cX10_read 35 = .ok (.aload_n 0, 1) := dk_42 (dk_at dksX10_read_1 11 rfl rfl)
theorem dX10_read_36 : decode cX10_read 36 = .ok (.invokevirtual 127, 3) := dk_182 0 127 (dk_at dksX10_read_1 12 rfl rfl)
theorem dX10_read_39 : decode cX10_read 39 = .ok (.istore_n 2, 1) := dk_61 (dk_at dksX10_read_1 15 rfl rfl)
theorem dX10_read_40 : decode cX10_read 40 = .ok (.iload_n 2, 1) := dk_28 (dk_at dksX10_read_1 16 rfl rfl)
theorem dX10_read_41 : decode cX10_read 41 = .ok (.ifCond .eq 5, 3) := dk_153 0 5 (dk_at dksX10_read_1 17 rfl rfl)
theorem dX10_read_44 : decode cX10_read 44 = .ok (.iload_n 2, 1) := dk_28 (dk_at dksX10_read_1 20 rfl rfl)
theorem dX10_read_45 : decode cX10_read 45 = .ok (.ireturn, 1) := dk_172 (dk_at dksX10_read_1 21 rfl rfl)
theorem dX10_read_46 : decode cX10_read 46 = .ok (.aload_n 0, 1) := dk_42 (dk_at dksX10_read_1 22 rfl rfl)
theorem dX10_read_47 : decode cX10_read 47 = .ok (.invokevirtual 130, 3) := dk_182 0 130 (dk_at dksX10_read_2 0 rfl rfl)
theorem dX10_read_50 : decode cX10_read 50 = .ok (.iconst 0, 1) := dk_3 (dk_at dksX10_read_2 3 rfl rfl)
theorem dX10_read_51 : decode cX10_read 51 = .ok (.ireturn, 1) := dk_172 (dk_at dksX10_read_2 4 rfl rfl)
abbrev cX10_cut : ByteArray := prog_14_method_6_code
def yX10_cut : MethodName := ⟨RX10, "cut", "()V"⟩
def dkwX10_cut_13 : List UInt8 := [182, 0, 100, 177]
abbrev dktX10_cut_13 : List UInt8 := dkwX10_cut_13 ++ []
def dkwX10_cut_12 : List UInt8 := [4, 167, 0, 4, 3, 61, 21, 4, 60, 167, 254, 229, 28, 153, 0, 13, 42, 3, 42, 180, 0, 84, 3]
abbrev dktX10_cut_12 : List UInt8 := dkwX10_cut_12 ++ dktX10_cut_13
def dkwX10_cut_11 : List UInt8 := [54, 6, 29, 16, 32, 159, 0, 25, 42, 21, 6, 27, 21, 5, 182, 0, 100, 21, 6, 16, 10, 159, 0, 7]
abbrev dktX10_cut_11 : List UInt8 := dkwX10_cut_11 ++ dktX10_cut_12
def dkwX10_cut_10 : List UInt8 := [16, 59, 160, 0, 8, 16, 6, 167, 0, 16, 29, 16, 61, 160, 0, 8, 16, 7, 167, 0, 5, 16, 10]
abbrev dktX10_cut_10 : List UInt8 := dkwX10_cut_10 ++ dktX10_cut_11
def dkwX10_cut_9 : List UInt8 := [167, 0, 47, 29, 16, 45, 160, 0, 7, 7, 167, 0, 37, 29, 16, 42, 160, 0, 7, 8, 167, 0, 27, 29]
abbrev dktX10_cut_9 : List UInt8 := dkwX10_cut_9 ++ dktX10_cut_10
def dkwX10_cut_8 : List UInt8 := [16, 9, 167, 0, 5, 16, 10, 54, 6, 27, 5, 96, 54, 4, 167, 0, 59, 29, 16, 43, 160, 0, 7, 6]
abbrev dktX10_cut_8 : List UInt8 := dkwX10_cut_8 ++ dktX10_cut_9
def dkwX10_cut_7 : List UInt8 := [42, 27, 4, 96, 182, 0, 96, 16, 61, 160, 0, 19, 29, 16, 60, 160, 0, 8, 16, 8, 167, 0, 10]
abbrev dktX10_cut_7 : List UInt8 := dkwX10_cut_7 ++ dktX10_cut_8
def dkwX10_cut_6 : List UInt8 := [163, 0, 12, 5, 54, 6, 29, 54, 5, 167, 0, 111, 29, 16, 60, 159, 0, 9, 29, 16, 62, 160, 0, 43]
abbrev dktX10_cut_6 : List UInt8 := dkwX10_cut_6 ++ dktX10_cut_7
def dkwX10_cut_5 : List UInt8 := [7, 164, 0, 8, 16, 10, 167, 0, 4, 4, 54, 6, 167, 0, 132, 29, 16, 97, 161, 0, 18, 29, 16, 122]
abbrev dktX10_cut_5 : List UInt8 := dkwX10_cut_5 ++ dktX10_cut_6
def dkwX10_cut_4 : List UInt8 := [182, 0, 96, 96, 16, 48, 100, 167, 0, 5, 21, 5, 54, 5, 132, 4, 1, 167, 255, 201, 21, 4, 27, 100]
abbrev dktX10_cut_4 : List UInt8 := dkwX10_cut_4 ++ dktX10_cut_5
def dkwX10_cut_3 : List UInt8 := [182, 0, 96, 16, 57, 163, 0, 39, 21, 4, 27, 100, 8, 162, 0, 21, 16, 10, 21, 5, 104, 42, 21, 4]
abbrev dktX10_cut_3 : List UInt8 := dkwX10_cut_3 ++ dktX10_cut_4
def dkwX10_cut_2 : List UInt8 := [29, 16, 57, 163, 0, 83, 27, 54, 4, 42, 21, 4, 182, 0, 96, 16, 48, 161, 0, 50, 42, 21, 4]
abbrev dktX10_cut_2 : List UInt8 := dkwX10_cut_2 ++ dktX10_cut_3
def dkwX10_cut_1 : List UInt8 := [180, 0, 7, 27, 46, 62, 27, 4, 96, 54, 4, 3, 54, 5, 16, 10, 54, 6, 29, 16, 48, 161, 0, 89]
abbrev dktX10_cut_1 : List UInt8 := dkwX10_cut_1 ++ dktX10_cut_2
def dkwX10_cut_0 : List UInt8 := [42, 3, 181, 0, 93, 3, 60, 4, 61, 28, 153, 1, 29, 27, 42, 180, 0, 84, 162, 1, 21, 42]
abbrev dktX10_cut_0 : List UInt8 := dkwX10_cut_0 ++ dktX10_cut_1
theorem dksX10_cut_0 : cX10_cut.data.toList.drop 0 = dktX10_cut_0 := by decide +kernel
theorem dksX10_cut_1 : cX10_cut.data.toList.drop 22 = dktX10_cut_1 := dk_seg dksX10_cut_0 22 rfl rfl
theorem dksX10_cut_2 : cX10_cut.data.toList.drop 46 = dktX10_cut_2 := dk_seg dksX10_cut_1 24 rfl rfl
theorem dksX10_cut_3 : cX10_cut.data.toList.drop 69 = dktX10_cut_3 := dk_seg dksX10_cut_2 23 rfl rfl
theorem dksX10_cut_4 : cX10_cut.data.toList.drop 93 = dktX10_cut_4 := dk_seg dksX10_cut_3 24 rfl rfl
theorem dksX10_cut_5 : cX10_cut.data.toList.drop 117 = dktX10_cut_5 := dk_seg dksX10_cut_4 24 rfl rfl
theorem dksX10_cut_6 : cX10_cut.data.toList.drop 141 = dktX10_cut_6 := dk_seg dksX10_cut_5 24 rfl rfl
theorem dksX10_cut_7 : cX10_cut.data.toList.drop 165 = dktX10_cut_7 := dk_seg dksX10_cut_6 24 rfl rfl
theorem dksX10_cut_8 : cX10_cut.data.toList.drop 188 = dktX10_cut_8 := dk_seg dksX10_cut_7 23 rfl rfl
theorem dksX10_cut_9 : cX10_cut.data.toList.drop 212 = dktX10_cut_9 := dk_seg dksX10_cut_8 24 rfl rfl
theorem dksX10_cut_10 : cX10_cut.data.toList.drop 236 = dktX10_cut_10 := dk_seg dksX10_cut_9 24 rfl rfl
theorem dksX10_cut_11 : cX10_cut.data.toList.drop 259 = dktX10_cut_11 := dk_seg dksX10_cut_10 23 rfl rfl
theorem dksX10_cut_12 : cX10_cut.data.toList.drop 283 = dktX10_cut_12 := dk_seg dksX10_cut_11 24 rfl rfl
theorem dksX10_cut_13 : cX10_cut.data.toList.drop 306 = dktX10_cut_13 := dk_seg dksX10_cut_12 23 rfl rfl
theorem dX10_cut_0 : decode cX10_cut 0 = .ok (.aload_n 0, 1) := dk_42 (dk_at dksX10_cut_0 0 rfl rfl)
theorem dX10_cut_1 : decode cX10_cut 1 = .ok (.iconst 0, 1) := dk_3 (dk_at dksX10_cut_0 1 rfl rfl)
theorem dX10_cut_2 : decode cX10_cut 2 = .ok (.putfield 93, 3) := dk_181 0 93 (dk_at dksX10_cut_0 2 rfl rfl)
theorem dX10_cut_5 : decode cX10_cut 5 = .ok (.iconst 0, 1) := dk_3 (dk_at dksX10_cut_0 5 rfl rfl)
theorem dX10_cut_6 : decode cX10_cut 6 = .ok (.istore_n 1, 1) := dk_60 (dk_at dksX10_cut_0 6 rfl rfl)
theorem dX10_cut_7 : decode cX10_cut 7 = .ok (.iconst 1, 1) := dk_4 (dk_at dksX10_cut_0 7 rfl rfl)
theorem dX10_cut_8 : decode cX10_cut 8 = .ok (.istore_n 2, 1) := dk_61 (dk_at dksX10_cut_0 8 rfl rfl)
theorem dX10_cut_9 : decode cX10_cut 9 = .ok (.iload_n 2, 1) := dk_28 (dk_at dksX10_cut_0 9 rfl rfl)
theorem dX10_cut_10 : decode cX10_cut 10 = .ok (.ifCond .eq 285, 3) := dk_153 1 29 (dk_at dksX10_cut_0 10 rfl rfl)
theorem dX10_cut_13 : decode cX10_cut 13 = .ok (.iload_n 1, 1) := dk_27 (dk_at dksX10_cut_0 13 rfl rfl)
theorem dX10_cut_14 : decode cX10_cut 14 = .ok (.aload_n 0, 1) := dk_42 (dk_at dksX10_cut_0 14 rfl rfl)
theorem dX10_cut_15 : decode cX10_cut 15 = .ok (.getfield 84, 3) := dk_180 0 84 (dk_at dksX10_cut_0 15 rfl rfl)
theorem dX10_cut_18 : decode cX10_cut 18 = .ok (.if_icmp .ge 277, 3) := dk_162 1 21 (dk_at dksX10_cut_0 18 rfl rfl)
theorem dX10_cut_21 : decode cX10_cut 21 = .ok (.aload_n 0, 1) := dk_42 (dk_at dksX10_cut_0 21 rfl rfl)
theorem dX10_cut_22 : decode cX10_cut 22 = .ok (.getfield 7, 3) := dk_180 0 7 (dk_at dksX10_cut_1 0 rfl rfl)
theorem dX10_cut_25 : decode cX10_cut 25 = .ok (.iload_n 1, 1) := dk_27 (dk_at dksX10_cut_1 3 rfl rfl)
theorem dX10_cut_26 : decode cX10_cut 26 = .ok (.iaload, 1) := dk_46 (dk_at dksX10_cut_1 4 rfl rfl)
theorem dX10_cut_27 : decode cX10_cut 27 = .ok (.istore_n 3, 1) := dk_62 (dk_at dksX10_cut_1 5 rfl rfl)
theorem dX10_cut_28 : decode cX10_cut 28 = .ok (.iload_n 1, 1) := dk_27 (dk_at dksX10_cut_1 6 rfl rfl)
theorem dX10_cut_29 : decode cX10_cut 29 = .ok (.iconst 1, 1) := dk_4 (dk_at dksX10_cut_1 7 rfl rfl)
theorem dX10_cut_30 : decode cX10_cut 30 = .ok (.iadd, 1) := dk_96 (dk_at dksX10_cut_1 8 rfl rfl)
theorem dX10_cut_31 : decode cX10_cut 31 = .ok (.istore 4, 2) := dk_54 4 (dk_at dksX10_cut_1 9 rfl rfl)
theorem dX10_cut_33 : decode cX10_cut 33 = .ok (.iconst 0, 1) := dk_3 (dk_at dksX10_cut_1 11 rfl rfl)
theorem dX10_cut_34 : decode cX10_cut 34 = .ok (.istore 5, 2) := dk_54 5 (dk_at dksX10_cut_1 12 rfl rfl)
theorem dX10_cut_36 : decode cX10_cut 36 = .ok (.bipush 10, 2) := dk_16 10 (dk_at dksX10_cut_1 14 rfl rfl)
theorem dX10_cut_38 : decode cX10_cut 38 = .ok (.istore 6, 2) := dk_54 6 (dk_at dksX10_cut_1 16 rfl rfl)
theorem dX10_cut_40 : decode cX10_cut 40 = .ok (.iload_n 3, 1) := dk_29 (dk_at dksX10_cut_1 18 rfl rfl)
theorem dX10_cut_41 : decode cX10_cut 41 = .ok (.bipush 48, 2) := dk_16 48 (dk_at dksX10_cut_1 19 rfl rfl)
theorem dX10_cut_43 : decode cX10_cut 43 = .ok (.if_icmp .lt 89, 3) := dk_161 0 89 (dk_at dksX10_cut_1 21 rfl rfl)
theorem dX10_cut_46 : decode cX10_cut 46 = .ok (.iload_n 3, 1) := dk_29 (dk_at dksX10_cut_2 0 rfl rfl)
theorem dX10_cut_47 : decode cX10_cut 47 = .ok (.bipush 57, 2) := dk_16 57 (dk_at dksX10_cut_2 1 rfl rfl)
theorem dX10_cut_49 : decode cX10_cut 49 = .ok (.if_icmp .gt 83, 3) := dk_163 0 83 (dk_at dksX10_cut_2 3 rfl rfl)
theorem dX10_cut_52 : decode cX10_cut 52 = .ok (.iload_n 1, 1) := dk_27 (dk_at dksX10_cut_2 6 rfl rfl)
theorem dX10_cut_53 : decode cX10_cut 53 = .ok (.istore 4, 2) := dk_54 4 (dk_at dksX10_cut_2 7 rfl rfl)
theorem dX10_cut_55 : decode cX10_cut 55 = .ok (.aload_n 0, 1) := dk_42 (dk_at dksX10_cut_2 9 rfl rfl)
theorem dX10_cut_56 : decode cX10_cut 56 = .ok (.iload 4, 2) := dk_21 4 (dk_at dksX10_cut_2 10 rfl rfl)
theorem dX10_cut_58 : decode cX10_cut 58 = .ok (.invokevirtual 96, 3) := dk_182 0 96 (dk_at dksX10_cut_2 12 rfl rfl)
theorem dX10_cut_61 : decode cX10_cut 61 = .ok (.bipush 48, 2) := dk_16 48 (dk_at dksX10_cut_2 15 rfl rfl)
theorem dX10_cut_63 : decode cX10_cut 63 = .ok (.if_icmp .lt 50, 3) := dk_161 0 50 (dk_at dksX10_cut_2 17 rfl rfl)
theorem dX10_cut_66 : decode cX10_cut 66 = .ok (.aload_n 0, 1) := dk_42 (dk_at dksX10_cut_2 20 rfl rfl)
theorem dX10_cut_67 : decode cX10_cut 67 = .ok (.iload 4, 2) := dk_21 4 (dk_at dksX10_cut_2 21 rfl rfl)
theorem dX10_cut_69 : decode cX10_cut 69 = .ok (.invokevirtual 96, 3) := dk_182 0 96 (dk_at dksX10_cut_3 0 rfl rfl)
theorem dX10_cut_72 : decode cX10_cut 72 = .ok (.bipush 57, 2) := dk_16 57 (dk_at dksX10_cut_3 3 rfl rfl)
theorem dX10_cut_74 : decode cX10_cut 74 = .ok (.if_icmp .gt 39, 3) := dk_163 0 39 (dk_at dksX10_cut_3 5 rfl rfl)
theorem dX10_cut_77 : decode cX10_cut 77 = .ok (.iload 4, 2) := dk_21 4 (dk_at dksX10_cut_3 8 rfl rfl)
theorem dX10_cut_79 : decode cX10_cut 79 = .ok (.iload_n 1, 1) := dk_27 (dk_at dksX10_cut_3 10 rfl rfl)
theorem dX10_cut_80 : decode cX10_cut 80 = .ok (.isub, 1) := dk_100 (dk_at dksX10_cut_3 11 rfl rfl)
theorem dX10_cut_81 : decode cX10_cut 81 = .ok (.iconst 5, 1) := dk_8 (dk_at dksX10_cut_3 12 rfl rfl)
theorem dX10_cut_82 : decode cX10_cut 82 = .ok (.if_icmp .ge 21, 3) := dk_162 0 21 (dk_at dksX10_cut_3 13 rfl rfl)
theorem dX10_cut_85 : decode cX10_cut 85 = .ok (.bipush 10, 2) := dk_16 10 (dk_at dksX10_cut_3 16 rfl rfl)
theorem dX10_cut_87 : decode cX10_cut 87 = .ok (.iload 5, 2) := dk_21 5 (dk_at dksX10_cut_3 18 rfl rfl)
theorem dX10_cut_89 : decode cX10_cut 89 = .ok (.imul, 1) := dk_104 (dk_at dksX10_cut_3 20 rfl rfl)
theorem dX10_cut_90 : decode cX10_cut 90 = .ok (.aload_n 0, 1) := dk_42 (dk_at dksX10_cut_3 21 rfl rfl)
theorem dX10_cut_91 : decode cX10_cut 91 = .ok (.iload 4, 2) := dk_21 4 (dk_at dksX10_cut_3 22 rfl rfl)
theorem dX10_cut_93 : decode cX10_cut 93 = .ok (.invokevirtual 96, 3) := dk_182 0 96 (dk_at dksX10_cut_4 0 rfl rfl)
theorem dX10_cut_96 : decode cX10_cut 96 = .ok (.iadd, 1) := dk_96 (dk_at dksX10_cut_4 3 rfl rfl)
theorem dX10_cut_97 : decode cX10_cut 97 = .ok (.bipush 48, 2) := dk_16 48 (dk_at dksX10_cut_4 4 rfl rfl)
theorem dX10_cut_99 : decode cX10_cut 99 = .ok (.isub, 1) := dk_100 (dk_at dksX10_cut_4 6 rfl rfl)
theorem dX10_cut_100 : decode cX10_cut 100 = .ok (.goto 5, 3) := dk_167 0 5 (dk_at dksX10_cut_4 7 rfl rfl)
theorem dX10_cut_103 : decode cX10_cut 103 = .ok (.iload 5, 2) := dk_21 5 (dk_at dksX10_cut_4 10 rfl rfl)
theorem dX10_cut_105 : decode cX10_cut 105 = .ok (.istore 5, 2) := dk_54 5 (dk_at dksX10_cut_4 12 rfl rfl)
theorem dX10_cut_107 : decode cX10_cut 107 = .ok (.iinc 4 1, 3) := dk_132 4 1 (dk_at dksX10_cut_4 14 rfl rfl)
theorem dX10_cut_110 : decode cX10_cut 110 = .ok (.goto (-55), 3) := dk_167 255 201 (dk_at dksX10_cut_4 17 rfl rfl)
theorem dX10_cut_113 : decode cX10_cut 113 = .ok (.iload 4, 2) := dk_21 4 (dk_at dksX10_cut_4 20 rfl rfl)
theorem dX10_cut_115 : decode cX10_cut 115 = .ok (.iload_n 1, 1) := dk_27 (dk_at dksX10_cut_4 22 rfl rfl)
theorem dX10_cut_116 : decode cX10_cut 116 = .ok (.isub, 1) := dk_100 (dk_at dksX10_cut_4 23 rfl rfl)
theorem dX10_cut_117 : decode cX10_cut 117 = .ok (.iconst 4, 1) := dk_7 (dk_at dksX10_cut_5 0 rfl rfl)
theorem dX10_cut_118 : decode cX10_cut 118 = .ok (.if_icmp .le 8, 3) := dk_164 0 8 (dk_at dksX10_cut_5 1 rfl rfl)
theorem dX10_cut_121 : decode cX10_cut 121 = .ok (.bipush 10, 2) := dk_16 10 (dk_at dksX10_cut_5 4 rfl rfl)
theorem dX10_cut_123 : decode cX10_cut 123 = .ok (.goto 4, 3) := dk_167 0 4 (dk_at dksX10_cut_5 6 rfl rfl)
theorem dX10_cut_126 : decode cX10_cut 126 = .ok (.iconst 1, 1) := dk_4 (dk_at dksX10_cut_5 9 rfl rfl)
theorem dX10_cut_127 : decode cX10_cut 127 = .ok (.istore 6, 2) := dk_54 6 (dk_at dksX10_cut_5 10 rfl rfl)
theorem dX10_cut_129 : decode cX10_cut 129 = .ok (.goto 132, 3) := dk_167 0 132 (dk_at dksX10_cut_5 12 rfl rfl)
theorem dX10_cut_132 : decode cX10_cut 132 = .ok (.iload_n 3, 1) := dk_29 (dk_at dksX10_cut_5 15 rfl rfl)
theorem dX10_cut_133 : decode cX10_cut 133 = .ok (.bipush 97, 2) := dk_16 97 (dk_at dksX10_cut_5 16 rfl rfl)
theorem dX10_cut_135 : decode cX10_cut 135 = .ok (.if_icmp .lt 18, 3) := dk_161 0 18 (dk_at dksX10_cut_5 18 rfl rfl)
theorem dX10_cut_138 : decode cX10_cut 138 = .ok (.iload_n 3, 1) := dk_29 (dk_at dksX10_cut_5 21 rfl rfl)
theorem dX10_cut_139 : decode cX10_cut 139 = .ok (.bipush 122, 2) := dk_16 122 (dk_at dksX10_cut_5 22 rfl rfl)
theorem dX10_cut_141 : decode cX10_cut 141 = .ok (.if_icmp .gt 12, 3) := dk_163 0 12 (dk_at dksX10_cut_6 0 rfl rfl)
theorem dX10_cut_144 : decode cX10_cut 144 = .ok (.iconst 2, 1) := dk_5 (dk_at dksX10_cut_6 3 rfl rfl)
theorem dX10_cut_145 : decode cX10_cut 145 = .ok (.istore 6, 2) := dk_54 6 (dk_at dksX10_cut_6 4 rfl rfl)
theorem dX10_cut_147 : decode cX10_cut 147 = .ok (.iload_n 3, 1) := dk_29 (dk_at dksX10_cut_6 6 rfl rfl)
theorem dX10_cut_148 : decode cX10_cut 148 = .ok (.istore 5, 2) := dk_54 5 (dk_at dksX10_cut_6 7 rfl rfl)
theorem dX10_cut_150 : decode cX10_cut 150 = .ok (.goto 111, 3) := dk_167 0 111 (dk_at dksX10_cut_6 9 rfl rfl)
theorem dX10_cut_153 : decode cX10_cut 153 = .ok (.iload_n 3, 1) := dk_29 (dk_at dksX10_cut_6 12 rfl rfl)
theorem dX10_cut_154 : decode cX10_cut 154 = .ok (.bipush 60, 2) := dk_16 60 (dk_at dksX10_cut_6 13 rfl rfl)
theorem dX10_cut_156 : decode cX10_cut 156 = .ok (.if_icmp .eq 9, 3) := dk_159 0 9 (dk_at dksX10_cut_6 15 rfl rfl)
theorem dX10_cut_159 : decode cX10_cut 159 = .ok (.iload_n 3, 1) := dk_29 (dk_at dksX10_cut_6 18 rfl rfl)
theorem dX10_cut_160 : decode cX10_cut 160 = .ok (.bipush 62, 2) := dk_16 62 (dk_at dksX10_cut_6 19 rfl rfl)
theorem dX10_cut_162 : decode cX10_cut 162 = .ok (.if_icmp .ne 43, 3) := dk_160 0 43 (dk_at dksX10_cut_6 21 rfl rfl)
theorem dX10_cut_165 : decode cX10_cut 165 = .ok (.aload_n 0, 1) := dk_42 (dk_at dksX10_cut_7 0 rfl rfl)
theorem dX10_cut_166 : decode cX10_cut 166 = .ok (.iload_n 1, 1) := dk_27 (dk_at dksX10_cut_7 1 rfl rfl)
theorem dX10_cut_167 : decode cX10_cut 167 = .ok (.iconst 1, 1) := dk_4 (dk_at dksX10_cut_7 2 rfl rfl)
theorem dX10_cut_168 : decode cX10_cut 168 = .ok (.iadd, 1) := dk_96 (dk_at dksX10_cut_7 3 rfl rfl)
theorem dX10_cut_169 : decode cX10_cut 169 = .ok (.invokevirtual 96, 3) := dk_182 0 96 (dk_at dksX10_cut_7 4 rfl rfl)
theorem dX10_cut_172 : decode cX10_cut 172 = .ok (.bipush 61, 2) := dk_16 61 (dk_at dksX10_cut_7 7 rfl rfl)
theorem dX10_cut_174 : decode cX10_cut 174 = .ok (.if_icmp .ne 19, 3) := dk_160 0 19 (dk_at dksX10_cut_7 9 rfl rfl)
theorem dX10_cut_177 : decode cX10_cut 177 = .ok (.iload_n 3, 1) := dk_29 (dk_at dksX10_cut_7 12 rfl rfl)
theorem dX10_cut_178 : decode cX10_cut 178 = .ok (.bipush 60, 2) := dk_16 60 (dk_at dksX10_cut_7 13 rfl rfl)
theorem dX10_cut_180 : decode cX10_cut 180 = .ok (.if_icmp .ne 8, 3) := dk_160 0 8 (dk_at dksX10_cut_7 15 rfl rfl)
theorem dX10_cut_183 : decode cX10_cut 183 = .ok (.bipush 8, 2) := dk_16 8 (dk_at dksX10_cut_7 18 rfl rfl)
theorem dX10_cut_185 : decode cX10_cut 185 = .ok (.goto 10, 3) := dk_167 0 10 (dk_at dksX10_cut_7 20 rfl rfl)
theorem dX10_cut_188 : decode cX10_cut 188 = .ok (.bipush 9, 2) := dk_16 9 (dk_at dksX10_cut_8 0 rfl rfl)
theorem dX10_cut_190 : decode cX10_cut 190 = .ok (.goto 5, 3) := dk_167 0 5 (dk_at dksX10_cut_8 2 rfl rfl)
theorem dX10_cut_193 : decode cX10_cut 193 = .ok (.bipush 10, 2) := dk_16 10 (dk_at dksX10_cut_8 5 rfl rfl)
theorem dX10_cut_195 : decode cX10_cut 195 = .ok (.istore 6, 2) := dk_54 6 (dk_at dksX10_cut_8 7 rfl rfl)
theorem dX10_cut_197 : decode cX10_cut 197 = .ok (.iload_n 1, 1) := dk_27 (dk_at dksX10_cut_8 9 rfl rfl)
theorem dX10_cut_198 : decode cX10_cut 198 = .ok (.iconst 2, 1) := dk_5 (dk_at dksX10_cut_8 10 rfl rfl)
theorem dX10_cut_199 : decode cX10_cut 199 = .ok (.iadd, 1) := dk_96 (dk_at dksX10_cut_8 11 rfl rfl)
theorem dX10_cut_200 : decode cX10_cut 200 = .ok (.istore 4, 2) := dk_54 4 (dk_at dksX10_cut_8 12 rfl rfl)
theorem dX10_cut_202 : decode cX10_cut 202 = .ok (.goto 59, 3) := dk_167 0 59 (dk_at dksX10_cut_8 14 rfl rfl)
theorem dX10_cut_205 : decode cX10_cut 205 = .ok (.iload_n 3, 1) := dk_29 (dk_at dksX10_cut_8 17 rfl rfl)
theorem dX10_cut_206 : decode cX10_cut 206 = .ok (.bipush 43, 2) := dk_16 43 (dk_at dksX10_cut_8 18 rfl rfl)
theorem dX10_cut_208 : decode cX10_cut 208 = .ok (.if_icmp .ne 7, 3) := dk_160 0 7 (dk_at dksX10_cut_8 20 rfl rfl)
theorem dX10_cut_211 : decode cX10_cut 211 = .ok (.iconst 3, 1) := dk_6 (dk_at dksX10_cut_8 23 rfl rfl)
theorem dX10_cut_212 : decode cX10_cut 212 = .ok (.goto 47, 3) := dk_167 0 47 (dk_at dksX10_cut_9 0 rfl rfl)
theorem dX10_cut_215 : decode cX10_cut 215 = .ok (.iload_n 3, 1) := dk_29 (dk_at dksX10_cut_9 3 rfl rfl)
theorem dX10_cut_216 : decode cX10_cut 216 = .ok (.bipush 45, 2) := dk_16 45 (dk_at dksX10_cut_9 4 rfl rfl)
theorem dX10_cut_218 : decode cX10_cut 218 = .ok (.if_icmp .ne 7, 3) := dk_160 0 7 (dk_at dksX10_cut_9 6 rfl rfl)
theorem dX10_cut_221 : decode cX10_cut 221 = .ok (.iconst 4, 1) := dk_7 (dk_at dksX10_cut_9 9 rfl rfl)
theorem dX10_cut_222 : decode cX10_cut 222 = .ok (.goto 37, 3) := dk_167 0 37 (dk_at dksX10_cut_9 10 rfl rfl)
theorem dX10_cut_225 : decode cX10_cut 225 = .ok (.iload_n 3, 1) := dk_29 (dk_at dksX10_cut_9 13 rfl rfl)
theorem dX10_cut_226 : decode cX10_cut 226 = .ok (.bipush 42, 2) := dk_16 42 (dk_at dksX10_cut_9 14 rfl rfl)
theorem dX10_cut_228 : decode cX10_cut 228 = .ok (.if_icmp .ne 7, 3) := dk_160 0 7 (dk_at dksX10_cut_9 16 rfl rfl)
theorem dX10_cut_231 : decode cX10_cut 231 = .ok (.iconst 5, 1) := dk_8 (dk_at dksX10_cut_9 19 rfl rfl)
theorem dX10_cut_232 : decode cX10_cut 232 = .ok (.goto 27, 3) := dk_167 0 27 (dk_at dksX10_cut_9 20 rfl rfl)
theorem dX10_cut_235 : decode cX10_cut 235 = .ok (.iload_n 3, 1) := dk_29 (dk_at dksX10_cut_9 23 rfl rfl)
theorem dX10_cut_236 : decode cX10_cut 236 = .ok (.bipush 59, 2) := dk_16 59 (dk_at dksX10_cut_10 0 rfl rfl)
theorem dX10_cut_238 : decode cX10_cut 238 = .ok (.if_icmp .ne 8, 3) := dk_160 0 8 (dk_at dksX10_cut_10 2 rfl rfl)
theorem dX10_cut_241 : decode cX10_cut 241 = .ok (.bipush 6, 2) := dk_16 6 (dk_at dksX10_cut_10 5 rfl rfl)
theorem dX10_cut_243 : decode cX10_cut 243 = .ok (.goto 16, 3) := dk_167 0 16 (dk_at dksX10_cut_10 7 rfl rfl)
theorem dX10_cut_246 : decode cX10_cut 246 = .ok (.iload_n 3, 1) := dk_29 (dk_at dksX10_cut_10 10 rfl rfl)
theorem dX10_cut_247 : decode cX10_cut 247 = .ok (.bipush 61, 2) := dk_16 61 (dk_at dksX10_cut_10 11 rfl rfl)
theorem dX10_cut_249 : decode cX10_cut 249 = .ok (.if_icmp .ne 8, 3) := dk_160 0 8 (dk_at dksX10_cut_10 13 rfl rfl)
theorem dX10_cut_252 : decode cX10_cut 252 = .ok (.bipush 7, 2) := dk_16 7 (dk_at dksX10_cut_10 16 rfl rfl)
theorem dX10_cut_254 : decode cX10_cut 254 = .ok (.goto 5, 3) := dk_167 0 5 (dk_at dksX10_cut_10 18 rfl rfl)
theorem dX10_cut_257 : decode cX10_cut 257 = .ok (.bipush 10, 2) := dk_16 10 (dk_at dksX10_cut_10 21 rfl rfl)
theorem dX10_cut_259 : decode cX10_cut 259 = .ok (.istore 6, 2) := dk_54 6 (dk_at dksX10_cut_11 0 rfl rfl)
theorem dX10_cut_261 : decode cX10_cut 261 = .ok (.iload_n 3, 1) := dk_29 (dk_at dksX10_cut_11 2 rfl rfl)
theorem dX10_cut_262 : decode cX10_cut 262 = .ok (.bipush 32, 2) := dk_16 32 (dk_at dksX10_cut_11 3 rfl rfl)
theorem dX10_cut_264 : decode cX10_cut 264 = .ok (.if_icmp .eq 25, 3) := dk_159 0 25 (dk_at dksX10_cut_11 5 rfl rfl)
theorem dX10_cut_267 : decode cX10_cut 267 = .ok (.aload_n 0, 1) := dk_42 (dk_at dksX10_cut_11 8 rfl rfl)
theorem dX10_cut_268 : decode cX10_cut 268 = .ok (.iload 6, 2) := dk_21 6 (dk_at dksX10_cut_11 9 rfl rfl)
theorem dX10_cut_270 : decode cX10_cut 270 = .ok (.iload_n 1, 1) := dk_27 (dk_at dksX10_cut_11 11 rfl rfl)
theorem dX10_cut_271 : decode cX10_cut 271 = .ok (.iload 5, 2) := dk_21 5 (dk_at dksX10_cut_11 12 rfl rfl)
theorem dX10_cut_273 : decode cX10_cut 273 = .ok (.invokevirtual 100, 3) := dk_182 0 100 (dk_at dksX10_cut_11 14 rfl rfl)
theorem dX10_cut_276 : decode cX10_cut 276 = .ok (.iload 6, 2) := dk_21 6 (dk_at dksX10_cut_11 17 rfl rfl)
theorem dX10_cut_278 : decode cX10_cut 278 = .ok (.bipush 10, 2) := dk_16 10 (dk_at dksX10_cut_11 19 rfl rfl)
theorem dX10_cut_280 : decode cX10_cut 280 = .ok (.if_icmp .eq 7, 3) := dk_159 0 7 (dk_at dksX10_cut_11 21 rfl rfl)
theorem dX10_cut_283 : decode cX10_cut 283 = .ok (.iconst 1, 1) := dk_4 (dk_at dksX10_cut_12 0 rfl rfl)
theorem dX10_cut_284 : decode cX10_cut 284 = .ok (.goto 4, 3) := dk_167 0 4 (dk_at dksX10_cut_12 1 rfl rfl)
theorem dX10_cut_287 : decode cX10_cut 287 = .ok (.iconst 0, 1) := dk_3 (dk_at dksX10_cut_12 4 rfl rfl)
theorem dX10_cut_288 : decode cX10_cut 288 = .ok (.istore_n 2, 1) := dk_61 (dk_at dksX10_cut_12 5 rfl rfl)
theorem dX10_cut_289 : decode cX10_cut 289 = .ok (.iload 4, 2) := dk_21 4 (dk_at dksX10_cut_12 6 rfl rfl)
theorem dX10_cut_291 : decode cX10_cut 291 = .ok (.istore_n 1, 1) := dk_60 (dk_at dksX10_cut_12 8 rfl rfl)
theorem dX10_cut_292 : decode cX10_cut 292 = .ok (.goto (-283), 3) := dk_167 254 229 (dk_at dksX10_cut_12 9 rfl rfl)
theorem dX10_cut_295 : decode cX10_cut 295 = .ok (.iload_n 2, 1) := dk_28 (dk_at dksX10_cut_12 12 rfl rfl)
theorem dX10_cut_296 : decode cX10_cut 296 = .ok (.ifCond .eq 13, 3) := dk_153 0 13 (dk_at dksX10_cut_12 13 rfl rfl)
theorem dX10_cut_299 : decode cX10_cut 299 = .ok (.aload_n 0, 1) := dk_42 (dk_at dksX10_cut_12 16 rfl rfl)
theorem dX10_cut_300 : decode cX10_cut 300 = .ok (.iconst 0, 1) := dk_3 (dk_at dksX10_cut_12 17 rfl rfl)
theorem dX10_cut_301 : decode cX10_cut 301 = .ok (.aload_n 0, 1) := dk_42 (dk_at dksX10_cut_12 18 rfl rfl)
theorem dX10_cut_302 : decode cX10_cut 302 = .ok (.getfield 84, 3) := dk_180 0 84 (dk_at dksX10_cut_12 19 rfl rfl)
theorem dX10_cut_305 : decode cX10_cut 305 = .ok (.iconst 0, 1) := dk_3 (dk_at dksX10_cut_12 22 rfl rfl)
theorem dX10_cut_306 : decode cX10_cut 306 = .ok (.invokevirtual 100, 3) := dk_182 0 100 (dk_at dksX10_cut_13 0 rfl rfl)
theorem dX10_cut_309 : decode cX10_cut 309 = .ok (.return_, 1) := dk_177 (dk_at dksX10_cut_13 3 rfl rfl)
abbrev cX10_letter0 : ByteArray := prog_14_method_5_code
def yX10_letter0 : MethodName := ⟨RX10, "letter0", "(I)I"⟩
def dkwX10_letter0_0 : List UInt8 := [27, 42, 180, 0, 84, 162, 0, 12, 42, 180, 0, 7, 27, 46, 167, 0, 4, 3, 172]
abbrev dktX10_letter0_0 : List UInt8 := dkwX10_letter0_0 ++ []
theorem dksX10_letter0_0 : cX10_letter0.data.toList.drop 0 = dktX10_letter0_0 := by decide +kernel
theorem dX10_letter0_0 : decode cX10_letter0 0 = .ok (.iload_n 1, 1) := dk_27 (dk_at dksX10_letter0_0 0 rfl rfl)
theorem dX10_letter0_1 : decode cX10_letter0 1 = .ok (.aload_n 0, 1) := dk_42 (dk_at dksX10_letter0_0 1 rfl rfl)
theorem dX10_letter0_2 : decode cX10_letter0 2 = .ok (.getfield 84, 3) := dk_180 0 84 (dk_at dksX10_letter0_0 2 rfl rfl)
theorem dX10_letter0_5 : decode cX10_letter0 5 = .ok (.if_icmp .ge 12, 3) := dk_162 0 12 (dk_at dksX10_letter0_0 5 rfl rfl)
theorem dX10_letter0_8 : decode cX10_letter0 8 = .ok (.aload_n 0, 1) := dk_42 (dk_at dksX10_letter0_0 8 rfl rfl)
theorem dX10_letter0_9 : decode cX10_letter0 9 = .ok (.getfield 7, 3) := dk_180 0 7 (dk_at dksX10_letter0_0 9 rfl rfl)
theorem dX10_letter0_12 : decode cX10_letter0 12 = .ok (.iload_n 1, 1) := dk_27 (dk_at dksX10_letter0_0 12 rfl rfl)
theorem dX10_letter0_13 : decode cX10_letter0 13 = .ok (.iaload, 1) := dk_46 (dk_at dksX10_letter0_0 13 rfl rfl)
theorem dX10_letter0_14 : decode cX10_letter0 14 = .ok (.goto 4, 3) := dk_167 0 4 (dk_at dksX10_letter0_0 14 rfl rfl)
theorem dX10_letter0_17 : decode cX10_letter0 17 = .ok (.iconst 0, 1) := dk_3 (dk_at dksX10_letter0_0 17 rfl rfl)
theorem dX10_letter0_18 : decode cX10_letter0 18 = .ok (.ireturn, 1) := dk_172 (dk_at dksX10_letter0_0 18 rfl rfl)
abbrev cX10_word : ByteArray := prog_14_method_4_code
def yX10_word : MethodName := ⟨RX10, "word", "(III)V"⟩
def dkwX10_word_1 : List UInt8 := [42, 180, 0, 93, 29, 79, 42, 89, 180, 0, 93, 4, 96, 181, 0, 93, 177]
abbrev dktX10_word_1 : List UInt8 := dkwX10_word_1 ++ []
def dkwX10_word_0 : List UInt8 := [42, 180, 0, 17, 42, 180, 0, 93, 27, 79, 42, 180, 0, 20, 42, 180, 0, 93, 28, 79, 42, 180, 0, 23]
abbrev dktX10_word_0 : List UInt8 := dkwX10_word_0 ++ dktX10_word_1
theorem dksX10_word_0 : cX10_word.data.toList.drop 0 = dktX10_word_0 := by decide +kernel
theorem dksX10_word_1 : cX10_word.data.toList.drop 24 = dktX10_word_1 := dk_seg dksX10_word_0 24 rfl rfl
theorem dX10_word_0 : decode cX10_word 0 = .ok (.aload_n 0, 1) := dk_42 (dk_at dksX10_word_0 0 rfl rfl)
theorem dX10_word_1 : decode cX10_word 1 = .ok (.getfield 17, 3) := dk_180 0 17 (dk_at dksX10_word_0 1 rfl rfl)
theorem dX10_word_4 : decode cX10_word 4 = .ok (.aload_n 0, 1) := dk_42 (dk_at dksX10_word_0 4 rfl rfl)
theorem dX10_word_5 : decode cX10_word 5 = .ok (.getfield 93, 3) := dk_180 0 93 (dk_at dksX10_word_0 5 rfl rfl)
theorem dX10_word_8 : decode cX10_word 8 = .ok (.iload_n 1, 1) := dk_27 (dk_at dksX10_word_0 8 rfl rfl)
theorem dX10_word_9 : decode cX10_word 9 = .ok (.iastore, 1) := dk_79 (dk_at dksX10_word_0 9 rfl rfl)
theorem dX10_word_10 : decode cX10_word 10 = .ok (.aload_n 0, 1) := dk_42 (dk_at dksX10_word_0 10 rfl rfl)
theorem dX10_word_11 : decode cX10_word 11 = .ok (.getfield 20, 3) := dk_180 0 20 (dk_at dksX10_word_0 11 rfl rfl)
theorem dX10_word_14 : decode cX10_word 14 = .ok (.aload_n 0, 1) := dk_42 (dk_at dksX10_word_0 14 rfl rfl)
theorem dX10_word_15 : decode cX10_word 15 = .ok (.getfield 93, 3) := dk_180 0 93 (dk_at dksX10_word_0 15 rfl rfl)
theorem dX10_word_18 : decode cX10_word 18 = .ok (.iload_n 2, 1) := dk_28 (dk_at dksX10_word_0 18 rfl rfl)
theorem dX10_word_19 : decode cX10_word 19 = .ok (.iastore, 1) := dk_79 (dk_at dksX10_word_0 19 rfl rfl)
theorem dX10_word_20 : decode cX10_word 20 = .ok (.aload_n 0, 1) := dk_42 (dk_at dksX10_word_0 20 rfl rfl)
theorem dX10_word_21 : decode cX10_word 21 = .ok (.getfield 23, 3) := dk_180 0 23 (dk_at dksX10_word_0 21 rfl rfl)
theorem dX10_word_24 : decode cX10_word 24 = .ok (.aload_n 0, 1) := dk_42 (dk_at dksX10_word_1 0 rfl rfl)
theorem dX10_word_25 : decode cX10_word 25 = .ok (.getfield 93, 3) := dk_180 0 93 (dk_at dksX10_word_1 1 rfl rfl)
theorem dX10_word_28 : decode cX10_word 28 = .ok (.iload_n 3, 1) := dk_29 (dk_at dksX10_word_1 4 rfl rfl)
theorem dX10_word_29 : decode cX10_word 29 = .ok (.iastore, 1) := dk_79 (dk_at dksX10_word_1 5 rfl rfl)
theorem dX10_word_30 : decode cX10_word 30 = .ok (.aload_n 0, 1) := dk_42 (dk_at dksX10_word_1 6 rfl rfl)
theorem dX10_word_31 : decode cX10_word 31 = .ok (.dup, 1) := dk_89 (dk_at dksX10_word_1 7 rfl rfl)
theorem dX10_word_32 : decode cX10_word 32 = .ok (.getfield 93, 3) := dk_180 0 93 (dk_at dksX10_word_1 8 rfl rfl)
theorem dX10_word_35 : decode cX10_word 35 = .ok (.iconst 1, 1) := dk_4 (dk_at dksX10_word_1 11 rfl rfl)
theorem dX10_word_36 : decode cX10_word 36 = .ok (.iadd, 1) := dk_96 (dk_at dksX10_word_1 12 rfl rfl)
theorem dX10_word_37 : decode cX10_word 37 = .ok (.putfield 93, 3) := dk_181 0 93 (dk_at dksX10_word_1 13 rfl rfl)
theorem dX10_word_40 : decode cX10_word 40 = .ok (.return_, 1) := dk_177 (dk_at dksX10_word_1 16 rfl rfl)
abbrev cX10_bad : ByteArray := prog_14_method_7_code
def yX10_bad : MethodName := ⟨RX10, "bad", "()I"⟩
def dkwX10_bad_8 : List UInt8 := [21, 5, 153, 0, 12, 28, 153, 0, 8, 21, 4, 153, 0, 5, 29, 172, 132, 3, 1, 167, 255, 56, 2, 172]
abbrev dktX10_bad_8 : List UInt8 := dkwX10_bad_8 ++ []
def dkwX10_bad_7 : List UInt8 := [21, 5, 153, 0, 21, 28, 153, 0, 17, 21, 4, 16, 6, 160, 0, 10, 3, 61, 3, 60, 167, 0, 19]
abbrev dktX10_bad_7 : List UInt8 := dkwX10_bad_7 ++ dktX10_bad_8
def dkwX10_bad_6 : List UInt8 := [154, 0, 24, 21, 4, 16, 7, 161, 0, 17, 21, 4, 16, 9, 163, 0, 10, 4, 61, 3, 60, 167, 0, 42]
abbrev dktX10_bad_6 : List UInt8 := dkwX10_bad_6 ++ dktX10_bad_7
def dkwX10_bad_5 : List UInt8 := [21, 4, 6, 159, 0, 9, 21, 4, 7, 160, 0, 8, 4, 60, 167, 0, 72, 21, 5, 153, 0, 28, 28]
abbrev dktX10_bad_5 : List UInt8 := dkwX10_bad_5 ++ dktX10_bad_6
def dkwX10_bad_4 : List UInt8 := [167, 0, 110, 27, 5, 160, 0, 14, 21, 4, 8, 160, 0, 8, 6, 60, 167, 0, 94, 21, 5, 153, 0, 20]
abbrev dktX10_bad_4 : List UInt8 := dkwX10_bad_4 ++ dktX10_bad_5
def dkwX10_bad_3 : List UInt8 := [21, 4, 5, 160, 0, 8, 7, 60, 167, 0, 125, 27, 154, 0, 14, 21, 4, 7, 160, 0, 8, 4, 60]
abbrev dktX10_bad_3 : List UInt8 := dkwX10_bad_3 ++ dktX10_bad_4
def dkwX10_bad_2 : List UInt8 := [160, 0, 8, 5, 60, 167, 0, 151, 27, 5, 161, 0, 13, 27, 5, 159, 0, 8, 27, 6, 160, 0, 14]
abbrev dktX10_bad_2 : List UInt8 := dkwX10_bad_2 ++ dktX10_bad_3
def dkwX10_bad_1 : List UInt8 := [159, 0, 8, 27, 7, 160, 0, 7, 4, 167, 0, 4, 3, 54, 5, 27, 5, 162, 0, 14, 21, 4, 4]
abbrev dktX10_bad_1 : List UInt8 := dkwX10_bad_1 ++ dktX10_bad_2
def dkwX10_bad_0 : List UInt8 := [3, 60, 3, 61, 3, 62, 29, 42, 180, 0, 93, 162, 0, 198, 42, 180, 0, 17, 29, 46, 54, 4, 27, 5]
abbrev dktX10_bad_0 : List UInt8 := dkwX10_bad_0 ++ dktX10_bad_1
theorem dksX10_bad_0 : cX10_bad.data.toList.drop 0 = dktX10_bad_0 := by decide +kernel
theorem dksX10_bad_1 : cX10_bad.data.toList.drop 24 = dktX10_bad_1 := dk_seg dksX10_bad_0 24 rfl rfl
theorem dksX10_bad_2 : cX10_bad.data.toList.drop 47 = dktX10_bad_2 := dk_seg dksX10_bad_1 23 rfl rfl
theorem dksX10_bad_3 : cX10_bad.data.toList.drop 70 = dktX10_bad_3 := dk_seg dksX10_bad_2 23 rfl rfl
theorem dksX10_bad_4 : cX10_bad.data.toList.drop 93 = dktX10_bad_4 := dk_seg dksX10_bad_3 23 rfl rfl
theorem dksX10_bad_5 : cX10_bad.data.toList.drop 117 = dktX10_bad_5 := dk_seg dksX10_bad_4 24 rfl rfl
theorem dksX10_bad_6 : cX10_bad.data.toList.drop 140 = dktX10_bad_6 := dk_seg dksX10_bad_5 23 rfl rfl
theorem dksX10_bad_7 : cX10_bad.data.toList.drop 164 = dktX10_bad_7 := dk_seg dksX10_bad_6 24 rfl rfl
theorem dksX10_bad_8 : cX10_bad.data.toList.drop 187 = dktX10_bad_8 := dk_seg dksX10_bad_7 23 rfl rfl
theorem dX10_bad_0 : decode cX10_bad 0 = .ok (.iconst 0, 1) := dk_3 (dk_at dksX10_bad_0 0 rfl rfl)
theorem dX10_bad_1 : decode cX10_bad 1 = .ok (.istore_n 1, 1) := dk_60 (dk_at dksX10_bad_0 1 rfl rfl)
theorem dX10_bad_2 : decode cX10_bad 2 = .ok (.iconst 0, 1) := dk_3 (dk_at dksX10_bad_0 2 rfl rfl)
theorem dX10_bad_3 : decode cX10_bad 3 = .ok (.istore_n 2, 1) := dk_61 (dk_at dksX10_bad_0 3 rfl rfl)
theorem dX10_bad_4 : decode cX10_bad 4 = .ok (.iconst 0, 1) := dk_3 (dk_at dksX10_bad_0 4 rfl rfl)
theorem dX10_bad_5 : decode cX10_bad 5 = .ok (.istore_n 3, 1) := dk_62 (dk_at dksX10_bad_0 5 rfl rfl)
theorem dX10_bad_6 : decode cX10_bad 6 = .ok (.iload_n 3, 1) := dk_29 (dk_at dksX10_bad_0 6 rfl rfl)
theorem dX10_bad_7 : decode cX10_bad 7 = .ok (.aload_n 0, 1) := dk_42 (dk_at dksX10_bad_0 7 rfl rfl)
theorem dX10_bad_8 : decode cX10_bad 8 = .ok (.getfield 93, 3) := dk_180 0 93 (dk_at dksX10_bad_0 8 rfl rfl)
theorem dX10_bad_11 : decode cX10_bad 11 = .ok (.if_icmp .ge 198, 3) := dk_162 0 198 (dk_at dksX10_bad_0 11 rfl rfl)
theorem dX10_bad_14 : decode cX10_bad 14 = .ok (.aload_n 0, 1) := dk_42 (dk_at dksX10_bad_0 14 rfl rfl)
theorem dX10_bad_15 : decode cX10_bad 15 = .ok (.getfield 17, 3) := dk_180 0 17 (dk_at dksX10_bad_0 15 rfl rfl)
theorem dX10_bad_18 : decode cX10_bad 18 = .ok (.iload_n 3, 1) := dk_29 (dk_at dksX10_bad_0 18 rfl rfl)
theorem dX10_bad_19 : decode cX10_bad 19 = .ok (.iaload, 1) := dk_46 (dk_at dksX10_bad_0 19 rfl rfl)
theorem dX10_bad_20 : decode cX10_bad 20 = .ok (.istore 4, 2) := dk_54 4 (dk_at dksX10_bad_0 20 rfl rfl)
theorem dX10_bad_22 : decode cX10_bad 22 = .ok (.iload_n 1, 1) := dk_27 (dk_at dksX10_bad_0 22 rfl rfl)
theorem dX10_bad_23 : decode cX10_bad 23 = .ok (.iconst 2, 1) := dk_5 (dk_at dksX10_bad_0 23 rfl rfl)
theorem dX10_bad_24 : decode cX10_bad 24 = .ok (.if_icmp .eq 8, 3) := dk_159 0 8 (dk_at dksX10_bad_1 0 rfl rfl)
theorem dX10_bad_27 : decode cX10_bad 27 = .ok (.iload_n 1, 1) := dk_27 (dk_at dksX10_bad_1 3 rfl rfl)
theorem dX10_bad_28 : decode cX10_bad 28 = .ok (.iconst 4, 1) := dk_7 (dk_at dksX10_bad_1 4 rfl rfl)
theorem dX10_bad_29 : decode cX10_bad 29 = .ok (.if_icmp .ne 7, 3) := dk_160 0 7 (dk_at dksX10_bad_1 5 rfl rfl)
theorem dX10_bad_32 : decode cX10_bad 32 = .ok (.iconst 1, 1) := dk_4 (dk_at dksX10_bad_1 8 rfl rfl)
theorem dX10_bad_33 : decode cX10_bad 33 = .ok (.goto 4, 3) := dk_167 0 4 (dk_at dksX10_bad_1 9 rfl rfl)
theorem dX10_bad_36 : decode cX10_bad 36 = .ok (.iconst 0, 1) := dk_3 (dk_at dksX10_bad_1 12 rfl rfl)
theorem dX10_bad_37 : decode cX10_bad 37 = .ok (.istore 5, 2) := dk_54 5 (dk_at dksX10_bad_1 13 rfl rfl)
theorem dX10_bad_39 : decode cX10_bad 39 = .ok (.iload_n 1, 1) := dk_27 (dk_at dksX10_bad_1 15 rfl rfl)
theorem dX10_bad_40 : decode cX10_bad 40 = .ok (.iconst 2, 1) := dk_5 (dk_at dksX10_bad_1 16 rfl rfl)
theorem dX10_bad_41 : decode cX10_bad 41 = .ok (.if_icmp .ge 14, 3) := dk_162 0 14 (dk_at dksX10_bad_1 17 rfl rfl)
theorem dX10_bad_44 : decode cX10_bad 44 = .ok (.iload 4, 2) := dk_21 4 (dk_at dksX10_bad_1 20 rfl rfl)
theorem dX10_bad_46 : decode cX10_bad 46 = .ok (.iconst 1, 1) := dk_4 (dk_at dksX10_bad_1 22 rfl rfl)
theorem dX10_bad_47 : decode cX10_bad 47 = .ok (.if_icmp .ne 8, 3) := dk_160 0 8 (dk_at dksX10_bad_2 0 rfl rfl)
theorem dX10_bad_50 : decode cX10_bad 50 = .ok (.iconst 2, 1) := dk_5 (dk_at dksX10_bad_2 3 rfl rfl)
theorem dX10_bad_51 : decode cX10_bad 51 = .ok (.istore_n 1, 1) := dk_60 (dk_at dksX10_bad_2 4 rfl rfl)
theorem dX10_bad_52 : decode cX10_bad 52 = .ok (.goto 151, 3) := dk_167 0 151 (dk_at dksX10_bad_2 5 rfl rfl)
theorem dX10_bad_55 : decode cX10_bad 55 = .ok (.iload_n 1, 1) := dk_27 (dk_at dksX10_bad_2 8 rfl rfl)
theorem dX10_bad_56 : decode cX10_bad 56 = .ok (.iconst 2, 1) := dk_5 (dk_at dksX10_bad_2 9 rfl rfl)
theorem dX10_bad_57 : decode cX10_bad 57 = .ok (.if_icmp .lt 13, 3) := dk_161 0 13 (dk_at dksX10_bad_2 10 rfl rfl)
theorem dX10_bad_60 : decode cX10_bad 60 = .ok (.iload_n 1, 1) := dk_27 (dk_at dksX10_bad_2 13 rfl rfl)
theorem dX10_bad_61 : decode cX10_bad 61 = .ok (.iconst 2, 1) := dk_5 (dk_at dksX10_bad_2 14 rfl rfl)
theorem dX10_bad_62 : decode cX10_bad 62 = .ok (.if_icmp .eq 8, 3) := dk_159 0 8 (dk_at dksX10_bad_2 15 rfl rfl)
theorem dX10_bad_65 : decode cX10_bad 65 = .ok (.iload_n 1, 1) := dk_27 (dk_at dksX10_bad_2 18 rfl rfl)
theorem dX10_bad_66 : decode cX10_bad 66 = .ok (.iconst 3, 1) := dk_6 (dk_at dksX10_bad_2 19 rfl rfl)
theorem dX10_bad_67 : decode cX10_bad 67 = .ok (.if_icmp .ne 14, 3) := dk_160 0 14 (dk_at dksX10_bad_2 20 rfl rfl)
theorem dX10_bad_70 : decode cX10_bad 70 = .ok (.iload 4, 2) := dk_21 4 (dk_at dksX10_bad_3 0 rfl rfl)
theorem dX10_bad_72 : decode cX10_bad 72 = .ok (.iconst 2, 1) := dk_5 (dk_at dksX10_bad_3 2 rfl rfl)
theorem dX10_bad_73 : decode cX10_bad 73 = .ok (.if_icmp .ne 8, 3) := dk_160 0 8 (dk_at dksX10_bad_3 3 rfl rfl)
theorem dX10_bad_76 : decode cX10_bad 76 = .ok (.iconst 4, 1) := dk_7 (dk_at dksX10_bad_3 6 rfl rfl)
theorem dX10_bad_77 : decode cX10_bad 77 = .ok (.istore_n 1, 1) := dk_60 (dk_at dksX10_bad_3 7 rfl rfl)
theorem dX10_bad_78 : decode cX10_bad 78 = .ok (.goto 125, 3) := dk_167 0 125 (dk_at dksX10_bad_3 8 rfl rfl)
theorem dX10_bad_81 : decode cX10_bad 81 = .ok (.iload_n 1, 1) := dk_27 (dk_at dksX10_bad_3 11 rfl rfl)
theorem dX10_bad_82 : decode cX10_bad 82 = .ok (.ifCond .ne 14, 3) := dk_154 0 14 (dk_at dksX10_bad_3 12 rfl rfl)
theorem dX10_bad_85 : decode cX10_bad 85 = .ok (.iload 4, 2) := dk_21 4 (dk_at dksX10_bad_3 15 rfl rfl)
theorem dX10_bad_87 : decode cX10_bad 87 = .ok (.iconst 4, 1) := dk_7 (dk_at dksX10_bad_3 17 rfl rfl)
theorem dX10_bad_88 : decode cX10_bad 88 = .ok (.if_icmp .ne 8, 3) := dk_160 0 8 (dk_at dksX10_bad_3 18 rfl rfl)
theorem dX10_bad_91 : decode cX10_bad 91 = .ok (.iconst 1, 1) := dk_4 (dk_at dksX10_bad_3 21 rfl rfl)
theorem dX10_bad_92 : decode cX10_bad 92 = .ok (.istore_n 1, 1) := dk_60 (dk_at dksX10_bad_3 22 rfl rfl)
theorem dX10_bad_93 : decode cX10_bad 93 = .ok (.goto 110, 3) := dk_167 0 110 (dk_at dksX10_bad_4 0 rfl rfl)
theorem dX10_bad_96 : decode cX10_bad 96 = .ok (.iload_n 1, 1) := dk_27 (dk_at dksX10_bad_4 3 rfl rfl)
theorem dX10_bad_97 : decode cX10_bad 97 = .ok (.iconst 2, 1) := dk_5 (dk_at dksX10_bad_4 4 rfl rfl)
theorem dX10_bad_98 : decode cX10_bad 98 = .ok (.if_icmp .ne 14, 3) := dk_160 0 14 (dk_at dksX10_bad_4 5 rfl rfl)
theorem dX10_bad_101 : decode cX10_bad 101 = .ok (.iload 4, 2) := dk_21 4 (dk_at dksX10_bad_4 8 rfl rfl)
theorem dX10_bad_103 : decode cX10_bad 103 = .ok (.iconst 5, 1) := dk_8 (dk_at dksX10_bad_4 10 rfl rfl)
theorem dX10_bad_104 : decode cX10_bad 104 = .ok (.if_icmp .ne 8, 3) := dk_160 0 8 (dk_at dksX10_bad_4 11 rfl rfl)
theorem dX10_bad_107 : decode cX10_bad 107 = .ok (.iconst 3, 1) := dk_6 (dk_at dksX10_bad_4 14 rfl rfl)
theorem dX10_bad_108 : decode cX10_bad 108 = .ok (.istore_n 1, 1) := dk_60 (dk_at dksX10_bad_4 15 rfl rfl)
theorem dX10_bad_109 : decode cX10_bad 109 = .ok (.goto 94, 3) := dk_167 0 94 (dk_at dksX10_bad_4 16 rfl rfl)
theorem dX10_bad_112 : decode cX10_bad 112 = .ok (.iload 5, 2) := dk_21 5 (dk_at dksX10_bad_4 19 rfl rfl)
theorem dX10_bad_114 : decode cX10_bad 114 = .ok (.ifCond .eq 20, 3) := dk_153 0 20 (dk_at dksX10_bad_4 21 rfl rfl)
theorem dX10_bad_117 : decode cX10_bad 117 = .ok (.iload 4, 2) := dk_21 4 (dk_at dksX10_bad_5 0 rfl rfl)
theorem dX10_bad_119 : decode cX10_bad 119 = .ok (.iconst 3, 1) := dk_6 (dk_at dksX10_bad_5 2 rfl rfl)
theorem dX10_bad_120 : decode cX10_bad 120 = .ok (.if_icmp .eq 9, 3) := dk_159 0 9 (dk_at dksX10_bad_5 3 rfl rfl)
theorem dX10_bad_123 : decode cX10_bad 123 = .ok (.iload 4, 2) := dk_21 4 (dk_at dksX10_bad_5 6 rfl rfl)
theorem dX10_bad_125 : decode cX10_bad 125 = .ok (.iconst 4, 1) := dk_7 (dk_at dksX10_bad_5 8 rfl rfl)
theorem dX10_bad_126 : decode cX10_bad 126 = .ok (.if_icmp .ne 8, 3) := dk_160 0 8 (dk_at dksX10_bad_5 9 rfl rfl)
theorem dX10_bad_129 : decode cX10_bad 129 = .ok (.iconst 1, 1) := dk_4 (dk_at dksX10_bad_5 12 rfl rfl)
theorem dX10_bad_130 : decode cX10_bad 130 = .ok (.istore_n 1, 1) := dk_60 (dk_at dksX10_bad_5 13 rfl rfl)
theorem dX10_bad_131 : decode cX10_bad 131 = .ok (.goto 72, 3) := dk_167 0 72 (dk_at dksX10_bad_5 14 rfl rfl)
theorem dX10_bad_134 : decode cX10_bad 134 = .ok (.iload 5, 2) := dk_21 5 (dk_at dksX10_bad_5 17 rfl rfl)
theorem dX10_bad_136 : decode cX10_bad 136 = .ok (.ifCond .eq 28, 3) := dk_153 0 28 (dk_at dksX10_bad_5 19 rfl rfl)
theorem dX10_bad_139 : decode cX10_bad 139 = .ok (.iload_n 2, 1) := dk_28 (dk_at dksX10_bad_5 22 rfl rfl)
theorem dX10_bad_140 : decode cX10_bad 140 = .ok (.ifCond .ne 24, 3) := dk_154 0 24 (dk_at dksX10_bad_6 0 rfl rfl)
theorem dX10_bad_143 : decode cX10_bad 143 = .ok (.iload 4, 2) := dk_21 4 (dk_at dksX10_bad_6 3 rfl rfl)
theorem dX10_bad_145 : decode cX10_bad 145 = .ok (.bipush 7, 2) := dk_16 7 (dk_at dksX10_bad_6 5 rfl rfl)
theorem dX10_bad_147 : decode cX10_bad 147 = .ok (.if_icmp .lt 17, 3) := dk_161 0 17 (dk_at dksX10_bad_6 7 rfl rfl)
theorem dX10_bad_150 : decode cX10_bad 150 = .ok (.iload 4, 2) := dk_21 4 (dk_at dksX10_bad_6 10 rfl rfl)
theorem dX10_bad_152 : decode cX10_bad 152 = .ok (.bipush 9, 2) := dk_16 9 (dk_at dksX10_bad_6 12 rfl rfl)
theorem dX10_bad_154 : decode cX10_bad 154 = .ok (.if_icmp .gt 10, 3) := dk_163 0 10 (dk_at dksX10_bad_6 14 rfl rfl)
theorem dX10_bad_157 : decode cX10_bad 157 = .ok (.iconst 1, 1) := dk_4 (dk_at dksX10_bad_6 17 rfl rfl)
theorem dX10_bad_158 : decode cX10_bad 158 = .ok (.istore_n 2, 1) := dk_61 (dk_at dksX10_bad_6 18 rfl rfl)
theorem dX10_bad_159 : decode cX10_bad 159 = .ok (.iconst 0, 1) := dk_3 (dk_at dksX10_bad_6 19 rfl rfl)
theorem dX10_bad_160 : decode cX10_bad 160 = .ok (.istore_n 1, 1) := dk_60 (dk_at dksX10_bad_6 20 rfl rfl)
theorem dX10_bad_161 : decode cX10_bad 161 = .ok (.goto 42, 3) := dk_167 0 42 (dk_at dksX10_bad_6 21 rfl rfl)
theorem dX10_bad_164 : decode cX10_bad 164 = .ok (.iload 5, 2) := dk_21 5 (dk_at dksX10_bad_7 0 rfl rfl)
theorem dX10_bad_166 : decode cX10_bad 166 = .ok (.ifCond .eq 21, 3) := dk_153 0 21 (dk_at dksX10_bad_7 2 rfl rfl)
theorem dX10_bad_169 : decode cX10_bad 169 = .ok (.iload_n 2, 1) := dk_28 (dk_at dksX10_bad_7 5 rfl rfl)
theorem dX10_bad_170 : decode cX10_bad 170 = .ok (.ifCond .eq 17, 3) := dk_153 0 17 (dk_at dksX10_bad_7 6 rfl rfl)
theorem dX10_bad_173 : decode cX10_bad 173 = .ok (.iload 4, 2) := dk_21 4 (dk_at dksX10_bad_7 9 rfl rfl)
theorem dX10_bad_175 : decode cX10_bad 175 = .ok (.bipush 6, 2) := dk_16 6 (dk_at dksX10_bad_7 11 rfl rfl)
theorem dX10_bad_177 : decode cX10_bad 177 = .ok (.if_icmp .ne 10, 3) := dk_160 0 10 (dk_at dksX10_bad_7 13 rfl rfl)
theorem dX10_bad_180 : decode cX10_bad 180 = .ok (.iconst 0, 1) := dk_3 (dk_at dksX10_bad_7 16 rfl rfl)
theorem dX10_bad_181 : decode cX10_bad 181 = .ok (.istore_n 2, 1) := dk_61 (dk_at dksX10_bad_7 17 rfl rfl)
theorem dX10_bad_182 : decode cX10_bad 182 = .ok (.iconst 0, 1) := dk_3 (dk_at dksX10_bad_7 18 rfl rfl)
theorem dX10_bad_183 : decode cX10_bad 183 = .ok (.istore_n 1, 1) := dk_60 (dk_at dksX10_bad_7 19 rfl rfl)
theorem dX10_bad_184 : decode cX10_bad 184 = .ok (.goto 19, 3) := dk_167 0 19 (dk_at dksX10_bad_7 20 rfl rfl)
theorem dX10_bad_187 : decode cX10_bad 187 = .ok (.iload 5, 2) := dk_21 5 (dk_at dksX10_bad_8 0 rfl rfl)
theorem dX10_bad_189 : decode cX10_bad 189 = .ok (.ifCond .eq 12, 3) := dk_153 0 12 (dk_at dksX10_bad_8 2 rfl rfl)
theorem dX10_bad_192 : decode cX10_bad 192 = .ok (.iload_n 2, 1) := dk_28 (dk_at dksX10_bad_8 5 rfl rfl)
theorem dX10_bad_193 : decode cX10_bad 193 = .ok (.ifCond .eq 8, 3) := dk_153 0 8 (dk_at dksX10_bad_8 6 rfl rfl)
theorem dX10_bad_196 : decode cX10_bad 196 = .ok (.iload 4, 2) := dk_21 4 (dk_at dksX10_bad_8 9 rfl rfl)
theorem dX10_bad_198 : decode cX10_bad 198 = .ok (.ifCond .eq 5, 3) := dk_153 0 5 (dk_at dksX10_bad_8 11 rfl rfl)
theorem dX10_bad_201 : decode cX10_bad 201 = .ok (.iload_n 3, 1) := dk_29 (dk_at dksX10_bad_8 14 rfl rfl)
theorem dX10_bad_202 : decode cX10_bad 202 = .ok (.ireturn, 1) := dk_172 (dk_at dksX10_bad_8 15 rfl rfl)
theorem dX10_bad_203 : decode cX10_bad 203 = .ok (.iinc 3 1, 3) := dk_132 3 1 (dk_at dksX10_bad_8 16 rfl rfl)
theorem dX10_bad_206 : decode cX10_bad 206 = .ok (.goto (-200), 3) := dk_167 255 56 (dk_at dksX10_bad_8 19 rfl rfl)
theorem dX10_bad_209 : decode cX10_bad 209 = .ok (.iconst (-1), 1) := dk_2 (dk_at dksX10_bad_8 22 rfl rfl)
theorem dX10_bad_210 : decode cX10_bad 210 = .ok (.ireturn, 1) := dk_172 (dk_at dksX10_bad_8 23 rfl rfl)
abbrev cX10_fault : ByteArray := prog_14_method_8_code
def yX10_fault : MethodName := ⟨RX10, "fault", "(II)I"⟩
def dkwX10_fault_0 : List UInt8 := [42, 28, 181, 0, 13, 27, 172]
abbrev dktX10_fault_0 : List UInt8 := dkwX10_fault_0 ++ []
theorem dksX10_fault_0 : cX10_fault.data.toList.drop 0 = dktX10_fault_0 := by decide +kernel
theorem dX10_fault_0 : decode cX10_fault 0 = .ok (.aload_n 0, 1) := dk_42 (dk_at dksX10_fault_0 0 rfl rfl)
theorem dX10_fault_1 : decode cX10_fault 1 = .ok (.iload_n 2, 1) := dk_28 (dk_at dksX10_fault_0 1 rfl rfl)
theorem dX10_fault_2 : decode cX10_fault 2 = .ok (.putfield 13, 3) := dk_181 0 13 (dk_at dksX10_fault_0 2 rfl rfl)
theorem dX10_fault_5 : decode cX10_fault 5 = .ok (.iload_n 1, 1) := dk_27 (dk_at dksX10_fault_0 5 rfl rfl)
theorem dX10_fault_6 : decode cX10_fault 6 = .ok (.ireturn, 1) := dk_172 (dk_at dksX10_fault_0 6 rfl rfl)
abbrev cX10_build : ByteArray := prog_14_method_10_code
def yX10_build : MethodName := ⟨RX10, "build", "()I"⟩
def dkwX10_build_25 : List UInt8 := [27, 46, 16, 6, 160, 0, 9, 27, 4, 96, 167, 0, 4, 27, 60, 167, 253, 205, 3, 172]
abbrev dktX10_build_25 : List UInt8 := dkwX10_build_25 ++ []
def dkwX10_build_24 : List UInt8 := [182, 0, 113, 172, 132, 6, 1, 167, 255, 184, 42, 89, 180, 0, 110, 4, 96, 181, 0, 110, 42, 180, 0, 17]
abbrev dktX10_build_24 : List UInt8 := dkwX10_build_24 ++ dktX10_build_25
def dkwX10_build_23 : List UInt8 := [21, 7, 21, 8, 163, 0, 11, 21, 7, 21, 8, 116, 162, 0, 16, 42, 6, 42, 180, 0, 20, 21, 4, 46]
abbrev dktX10_build_23 : List UInt8 := dkwX10_build_23 ++ dktX10_build_24
def dkwX10_build_22 : List UInt8 := [21, 6, 96, 46, 54, 7, 21, 6, 16, 6, 160, 0, 9, 17, 0, 200, 167, 0, 5, 16, 20, 54, 8]
abbrev dktX10_build_22 : List UInt8 := dkwX10_build_22 ++ dktX10_build_23
def dkwX10_build_21 : List UInt8 := [181, 0, 107, 3, 54, 6, 21, 6, 16, 7, 162, 0, 71, 42, 180, 0, 29, 16, 7, 42, 180, 0, 110, 104]
abbrev dktX10_build_21 : List UInt8 := dkwX10_build_21 ++ dktX10_build_22
def dkwX10_build_20 : List UInt8 := [160, 0, 16, 42, 5, 42, 180, 0, 20, 21, 4, 46, 182, 0, 113, 172, 42, 89, 180, 0, 107, 4, 96]
abbrev dktX10_build_20 : List UInt8 := dkwX10_build_20 ++ dktX10_build_21
def dkwX10_build_19 : List UInt8 := [167, 0, 4, 3, 79, 21, 5, 16, 7, 159, 0, 40, 42, 180, 0, 104, 42, 180, 0, 107, 96, 16, 6]
abbrev dktX10_build_19 : List UInt8 := dkwX10_build_19 ++ dktX10_build_20
def dkwX10_build_18 : List UInt8 := [180, 0, 110, 21, 5, 16, 8, 160, 0, 7, 4, 167, 0, 15, 21, 5, 16, 9, 160, 0, 7, 2]
abbrev dktX10_build_18 : List UInt8 := dkwX10_build_18 ++ dktX10_build_19
def dkwX10_build_17 : List UInt8 := [96, 79, 132, 1, 1, 167, 254, 180, 42, 180, 0, 17, 21, 4, 46, 54, 5, 42, 180, 0, 32, 42]
abbrev dktX10_build_17 : List UInt8 := dkwX10_build_17 ++ dktX10_build_18
def dkwX10_build_16 : List UInt8 := [21, 6, 96, 42, 180, 0, 29, 16, 7, 42, 180, 0, 110, 104, 21, 6, 96, 46, 29, 28, 104, 21, 8, 104]
abbrev dktX10_build_16 : List UInt8 := dkwX10_build_16 ++ dktX10_build_17
def dkwX10_build_15 : List UInt8 := [42, 180, 0, 23, 21, 7, 46, 167, 0, 4, 4, 54, 8, 42, 180, 0, 29, 16, 7, 42, 180, 0, 110, 104]
abbrev dktX10_build_15 : List UInt8 := dkwX10_build_15 ++ dktX10_build_16
def dkwX10_build_14 : List UInt8 := [167, 0, 6, 27, 4, 100, 54, 7, 21, 7, 155, 0, 24, 42, 180, 0, 17, 21, 7, 46, 4, 160, 0, 13]
abbrev dktX10_build_14 : List UInt8 := dkwX10_build_14 ++ dktX10_build_15
def dkwX10_build_13 : List UInt8 := [96, 181, 0, 104, 27, 158, 0, 21, 42, 180, 0, 17, 27, 4, 100, 46, 8, 160, 0, 9, 27, 5, 100]
abbrev dktX10_build_13 : List UInt8 := dkwX10_build_13 ++ dktX10_build_14
def dkwX10_build_12 : List UInt8 := [180, 0, 104, 54, 6, 42, 180, 0, 26, 21, 6, 42, 180, 0, 23, 27, 46, 79, 42, 89, 180, 0, 104, 4]
abbrev dktX10_build_12 : List UInt8 := dkwX10_build_12 ++ dktX10_build_13
def dkwX10_build_11 : List UInt8 := [42, 180, 0, 107, 96, 16, 6, 160, 0, 15, 42, 5, 42, 180, 0, 20, 27, 46, 182, 0, 113, 172, 42]
abbrev dktX10_build_11 : List UInt8 := dkwX10_build_11 ++ dktX10_build_12
def dkwX10_build_10 : List UInt8 := [160, 0, 168, 42, 42, 180, 0, 23, 27, 46, 182, 0, 117, 54, 6, 21, 6, 156, 0, 58, 42, 180, 0, 104]
abbrev dktX10_build_10 : List UInt8 := dkwX10_build_10 ++ dktX10_build_11
def dkwX10_build_9 : List UInt8 := [16, 6, 96, 46, 29, 28, 104, 42, 180, 0, 23, 27, 46, 104, 100, 79, 167, 0, 174, 21, 5, 5]
abbrev dktX10_build_9 : List UInt8 := dkwX10_build_9 ++ dktX10_build_10
def dkwX10_build_8 : List UInt8 := [180, 0, 29, 16, 7, 42, 180, 0, 110, 104, 16, 6, 96, 42, 180, 0, 29, 16, 7, 42, 180, 0, 110, 104]
abbrev dktX10_build_8 : List UInt8 := dkwX10_build_8 ++ dktX10_build_9
def dkwX10_build_7 : List UInt8 := [180, 0, 17, 27, 4, 96, 46, 8, 159, 0, 7, 4, 167, 0, 4, 3, 54, 6, 21, 6, 153, 0, 44, 42]
abbrev dktX10_build_7 : List UInt8 := dkwX10_build_7 ++ dktX10_build_8
def dkwX10_build_6 : List UInt8 := [4, 61, 167, 1, 4, 21, 5, 4, 160, 0, 83, 42, 180, 0, 17, 27, 4, 96, 46, 5, 159, 0, 19, 42]
abbrev dktX10_build_6 : List UInt8 := dkwX10_build_6 ++ dktX10_build_7
def dkwX10_build_5 : List UInt8 := [160, 0, 7, 4, 167, 0, 4, 2, 61, 167, 1, 21, 21, 5, 16, 7, 161, 0, 13, 27, 54, 4, 2, 62]
abbrev dktX10_build_5 : List UInt8 := dkwX10_build_5 ++ dktX10_build_6
def dkwX10_build_4 : List UInt8 := [180, 0, 17, 27, 46, 54, 5, 21, 5, 6, 159, 0, 9, 21, 5, 7, 160, 0, 18, 21, 5, 6]
abbrev dktX10_build_4 : List UInt8 := dkwX10_build_4 ++ dktX10_build_5
def dkwX10_build_3 : List UInt8 := [54, 4, 42, 180, 0, 17, 27, 46, 16, 6, 159, 1, 71, 42, 180, 0, 17, 27, 46, 153, 1, 62, 42]
abbrev dktX10_build_3 : List UInt8 := dkwX10_build_3 ++ dktX10_build_4
def dkwX10_build_2 : List UInt8 := [180, 0, 110, 7, 160, 0, 15, 42, 5, 42, 180, 0, 20, 27, 46, 182, 0, 113, 172, 4, 61, 4, 62, 27]
abbrev dktX10_build_2 : List UInt8 := dkwX10_build_2 ++ dktX10_build_3
def dkwX10_build_1 : List UInt8 := [180, 0, 29, 27, 3, 79, 132, 1, 1, 167, 255, 240, 3, 60, 42, 180, 0, 17, 27, 46, 153, 2, 48, 42]
abbrev dktX10_build_1 : List UInt8 := dkwX10_build_1 ++ dktX10_build_2
def dkwX10_build_0 : List UInt8 := [42, 3, 181, 0, 104, 42, 3, 181, 0, 107, 42, 3, 181, 0, 110, 3, 60, 27, 16, 28, 162, 0, 16, 42]
abbrev dktX10_build_0 : List UInt8 := dkwX10_build_0 ++ dktX10_build_1
theorem dksX10_build_0 : cX10_build.data.toList.drop 0 = dktX10_build_0 := by decide +kernel
theorem dksX10_build_1 : cX10_build.data.toList.drop 24 = dktX10_build_1 := dk_seg dksX10_build_0 24 rfl rfl
theorem dksX10_build_2 : cX10_build.data.toList.drop 48 = dktX10_build_2 := dk_seg dksX10_build_1 24 rfl rfl
theorem dksX10_build_3 : cX10_build.data.toList.drop 72 = dktX10_build_3 := dk_seg dksX10_build_2 24 rfl rfl
theorem dksX10_build_4 : cX10_build.data.toList.drop 95 = dktX10_build_4 := dk_seg dksX10_build_3 23 rfl rfl
theorem dksX10_build_5 : cX10_build.data.toList.drop 117 = dktX10_build_5 := dk_seg dksX10_build_4 22 rfl rfl
theorem dksX10_build_6 : cX10_build.data.toList.drop 141 = dktX10_build_6 := dk_seg dksX10_build_5 24 rfl rfl
theorem dksX10_build_7 : cX10_build.data.toList.drop 165 = dktX10_build_7 := dk_seg dksX10_build_6 24 rfl rfl
theorem dksX10_build_8 : cX10_build.data.toList.drop 189 = dktX10_build_8 := dk_seg dksX10_build_7 24 rfl rfl
theorem dksX10_build_9 : cX10_build.data.toList.drop 213 = dktX10_build_9 := dk_seg dksX10_build_8 24 rfl rfl
theorem dksX10_build_10 : cX10_build.data.toList.drop 235 = dktX10_build_10 := dk_seg dksX10_build_9 22 rfl rfl
theorem dksX10_build_11 : cX10_build.data.toList.drop 259 = dktX10_build_11 := dk_seg dksX10_build_10 24 rfl rfl
theorem dksX10_build_12 : cX10_build.data.toList.drop 282 = dktX10_build_12 := dk_seg dksX10_build_11 23 rfl rfl
theorem dksX10_build_13 : cX10_build.data.toList.drop 306 = dktX10_build_13 := dk_seg dksX10_build_12 24 rfl rfl
theorem dksX10_build_14 : cX10_build.data.toList.drop 329 = dktX10_build_14 := dk_seg dksX10_build_13 23 rfl rfl
theorem dksX10_build_15 : cX10_build.data.toList.drop 353 = dktX10_build_15 := dk_seg dksX10_build_14 24 rfl rfl
theorem dksX10_build_16 : cX10_build.data.toList.drop 377 = dktX10_build_16 := dk_seg dksX10_build_15 24 rfl rfl
theorem dksX10_build_17 : cX10_build.data.toList.drop 401 = dktX10_build_17 := dk_seg dksX10_build_16 24 rfl rfl
theorem dksX10_build_18 : cX10_build.data.toList.drop 423 = dktX10_build_18 := dk_seg dksX10_build_17 22 rfl rfl
theorem dksX10_build_19 : cX10_build.data.toList.drop 445 = dktX10_build_19 := dk_seg dksX10_build_18 22 rfl rfl
theorem dksX10_build_20 : cX10_build.data.toList.drop 468 = dktX10_build_20 := dk_seg dksX10_build_19 23 rfl rfl
theorem dksX10_build_21 : cX10_build.data.toList.drop 491 = dktX10_build_21 := dk_seg dksX10_build_20 23 rfl rfl
theorem dksX10_build_22 : cX10_build.data.toList.drop 515 = dktX10_build_22 := dk_seg dksX10_build_21 24 rfl rfl
theorem dksX10_build_23 : cX10_build.data.toList.drop 538 = dktX10_build_23 := dk_seg dksX10_build_22 23 rfl rfl
theorem dksX10_build_24 : cX10_build.data.toList.drop 562 = dktX10_build_24 := dk_seg dksX10_build_23 24 rfl rfl
theorem dksX10_build_25 : cX10_build.data.toList.drop 586 = dktX10_build_25 := dk_seg dksX10_build_24 24 rfl rfl
theorem dX10_build_0 : decode cX10_build 0 = .ok (.aload_n 0, 1) := dk_42 (dk_at dksX10_build_0 0 rfl rfl)
theorem dX10_build_1 : decode cX10_build 1 = .ok (.iconst 0, 1) := dk_3 (dk_at dksX10_build_0 1 rfl rfl)
theorem dX10_build_2 : decode cX10_build 2 = .ok (.putfield 104, 3) := dk_181 0 104 (dk_at dksX10_build_0 2 rfl rfl)
theorem dX10_build_5 : decode cX10_build 5 = .ok (.aload_n 0, 1) := dk_42 (dk_at dksX10_build_0 5 rfl rfl)
theorem dX10_build_6 : decode cX10_build 6 = .ok (.iconst 0, 1) := dk_3 (dk_at dksX10_build_0 6 rfl rfl)
theorem dX10_build_7 : decode cX10_build 7 = .ok (.putfield 107, 3) := dk_181 0 107 (dk_at dksX10_build_0 7 rfl rfl)
theorem dX10_build_10 : decode cX10_build 10 = .ok (.aload_n 0, 1) := dk_42 (dk_at dksX10_build_0 10 rfl rfl)
theorem dX10_build_11 : decode cX10_build 11 = .ok (.iconst 0, 1) := dk_3 (dk_at dksX10_build_0 11 rfl rfl)
theorem dX10_build_12 : decode cX10_build 12 = .ok (.putfield 110, 3) := dk_181 0 110 (dk_at dksX10_build_0 12 rfl rfl)
theorem dX10_build_15 : decode cX10_build 15 = .ok (.iconst 0, 1) := dk_3 (dk_at dksX10_build_0 15 rfl rfl)
theorem dX10_build_16 : decode cX10_build 16 = .ok (.istore_n 1, 1) := dk_60 (dk_at dksX10_build_0 16 rfl rfl)
theorem dX10_build_17 : decode cX10_build 17 = .ok (.iload_n 1, 1) := dk_27 (dk_at dksX10_build_0 17 rfl rfl)
theorem dX10_build_18 : decode cX10_build 18 = .ok (.bipush 28, 2) := dk_16 28 (dk_at dksX10_build_0 18 rfl rfl)
theorem dX10_build_20 : decode cX10_build 20 = .ok (.if_icmp .ge 16, 3) := dk_162 0 16 (dk_at dksX10_build_0 20 rfl rfl)
theorem dX10_build_23 : decode cX10_build 23 = .ok (.aload_n 0, 1) := dk_42 (dk_at dksX10_build_0 23 rfl rfl)
theorem dX10_build_24 : decode cX10_build 24 = .ok (.getfield 29, 3) := dk_180 0 29 (dk_at dksX10_build_1 0 rfl rfl)
theorem dX10_build_27 : decode cX10_build 27 = .ok (.iload_n 1, 1) := dk_27 (dk_at dksX10_build_1 3 rfl rfl)
theorem dX10_build_28 : decode cX10_build 28 = .ok (.iconst 0, 1) := dk_3 (dk_at dksX10_build_1 4 rfl rfl)
theorem dX10_build_29 : decode cX10_build 29 = .ok (.iastore, 1) := dk_79 (dk_at dksX10_build_1 5 rfl rfl)
theorem dX10_build_30 : decode cX10_build 30 = .ok (.iinc 1 1, 3) := dk_132 1 1 (dk_at dksX10_build_1 6 rfl rfl)
theorem dX10_build_33 : decode cX10_build 33 = .ok (.goto (-16), 3) := dk_167 255 240 (dk_at dksX10_build_1 9 rfl rfl)
theorem dX10_build_36 : decode cX10_build 36 = .ok (.iconst 0, 1) := dk_3 (dk_at dksX10_build_1 12 rfl rfl)
theorem dX10_build_37 : decode cX10_build 37 = .ok (.istore_n 1, 1) := dk_60 (dk_at dksX10_build_1 13 rfl rfl)
theorem dX10_build_38 : decode cX10_build 38 = .ok (.aload_n 0, 1) := dk_42 (dk_at dksX10_build_1 14 rfl rfl)
theorem dX10_build_39 : decode cX10_build 39 = .ok (.getfield 17, 3) := dk_180 0 17 (dk_at dksX10_build_1 15 rfl rfl)
theorem dX10_build_42 : decode cX10_build 42 = .ok (.iload_n 1, 1) := dk_27 (dk_at dksX10_build_1 18 rfl rfl)
theorem dX10_build_43 : decode cX10_build 43 = .ok (.iaload, 1) := dk_46 (dk_at dksX10_build_1 19 rfl rfl)
theorem dX10_build_44 : decode cX10_build 44 = .ok (.ifCond .eq 560, 3) := dk_153 2 48 (dk_at dksX10_build_1 20 rfl rfl)
theorem dX10_build_47 : decode cX10_build 47 = .ok (.aload_n 0, 1) := dk_42 (dk_at dksX10_build_1 23 rfl rfl)
theorem dX10_build_48 : decode cX10_build 48 = .ok (.getfield 110, 3) := dk_180 0 110 (dk_at dksX10_build_2 0 rfl rfl)
theorem dX10_build_51 : decode cX10_build 51 = .ok (.iconst 4, 1) := dk_7 (dk_at dksX10_build_2 3 rfl rfl)
theorem dX10_build_52 : decode cX10_build 52 = .ok (.if_icmp .ne 15, 3) := dk_160 0 15 (dk_at dksX10_build_2 4 rfl rfl)
theorem dX10_build_55 : decode cX10_build 55 = .ok (.aload_n 0, 1) := dk_42 (dk_at dksX10_build_2 7 rfl rfl)
theorem dX10_build_56 : decode cX10_build 56 = .ok (.iconst 2, 1) := dk_5 (dk_at dksX10_build_2 8 rfl rfl)
theorem dX10_build_57 : decode cX10_build 57 = .ok (.aload_n 0, 1) := dk_42 (dk_at dksX10_build_2 9 rfl rfl)
theorem dX10_build_58 : decode cX10_build 58 = .ok (.getfield 20, 3) := dk_180 0 20 (dk_at dksX10_build_2 10 rfl rfl)
theorem dX10_build_61 : decode cX10_build 61 = .ok (.iload_n 1, 1) := dk_27 (dk_at dksX10_build_2 13 rfl rfl)
theorem dX10_build_62 : decode cX10_build 62 = .ok (.iaload, 1) := dk_46 (dk_at dksX10_build_2 14 rfl rfl)
theorem dX10_build_63 : decode cX10_build 63 = .ok (.invokevirtual 113, 3) := dk_182 0 113 (dk_at dksX10_build_2 15 rfl rfl)
theorem dX10_build_66 : decode cX10_build 66 = .ok (.ireturn, 1) := dk_172 (dk_at dksX10_build_2 18 rfl rfl)
theorem dX10_build_67 : decode cX10_build 67 = .ok (.iconst 1, 1) := dk_4 (dk_at dksX10_build_2 19 rfl rfl)
theorem dX10_build_68 : decode cX10_build 68 = .ok (.istore_n 2, 1) := dk_61 (dk_at dksX10_build_2 20 rfl rfl)
theorem dX10_build_69 : decode cX10_build 69 = .ok (.iconst 1, 1) := dk_4 (dk_at dksX10_build_2 21 rfl rfl)
theorem dX10_build_70 : decode cX10_build 70 = .ok (.istore_n 3, 1) := dk_62 (dk_at dksX10_build_2 22 rfl rfl)
theorem dX10_build_71 : decode cX10_build 71 = .ok (.iload_n 1, 1) := dk_27 (dk_at dksX10_build_2 23 rfl rfl)
theorem dX10_build_72 : decode cX10_build 72 = .ok (.istore 4, 2) := dk_54 4 (dk_at dksX10_build_3 0 rfl rfl)
theorem dX10_build_74 : decode cX10_build 74 = .ok (.aload_n 0, 1) := dk_42 (dk_at dksX10_build_3 2 rfl rfl)
theorem dX10_build_75 : decode cX10_build 75 = .ok (.getfield 17, 3) := dk_180 0 17 (dk_at dksX10_build_3 3 rfl rfl)
theorem dX10_build_78 : decode cX10_build 78 = .ok (.iload_n 1, 1) := dk_27 (dk_at dksX10_build_3 6 rfl rfl)
theorem dX10_build_79 : decode cX10_build 79 = .ok (.iaload, 1) := dk_46 (dk_at dksX10_build_3 7 rfl rfl)
theorem dX10_build_80 : decode cX10_build 80 = .ok (.bipush 6, 2) := dk_16 6 (dk_at dksX10_build_3 8 rfl rfl)
theorem dX10_build_82 : decode cX10_build 82 = .ok (.if_icmp .eq 327, 3) := dk_159 1 71 (dk_at dksX10_build_3 10 rfl rfl)
theorem dX10_build_85 : decode cX10_build 85 = .ok (.aload_n 0, 1) := dk_42 (dk_at dksX10_build_3 13 rfl rfl)
theorem dX10_build_86 : decode cX10_build 86 = .ok (.getfield 17, 3) := dk_180 0 17 (dk_at dksX10_build_3 14 rfl rfl)
theorem dX10_build_89 : decode cX10_build 89 = .ok (.iload_n 1, 1) := dk_27 (dk_at dksX10_build_3 17 rfl rfl)
theorem dX10_build_90 : decode cX10_build 90 = .ok (.iaload, 1) := dk_46 (dk_at dksX10_build_3 18 rfl rfl)
theorem dX10_build_91 : decode cX10_build 91 = .ok (.ifCond .eq 318, 3) := dk_153 1 62 (dk_at dksX10_build_3 19 rfl rfl)
theorem dX10_build_94 : decode cX10_build 94 = .ok (.aload_n 0, 1) := dk_42 (dk_at dksX10_build_3 22 rfl rfl)
theorem dX10_build_95 : decode cX10_build 95 = .ok (.getfield 17, 3) := dk_180 0 17 (dk_at dksX10_build_4 0 rfl rfl)
theorem dX10_build_98 : decode cX10_build 98 = .ok (.iload_n 1, 1) := dk_27 (dk_at dksX10_build_4 3 rfl rfl)
theorem dX10_build_99 : decode cX10_build 99 = .ok (.iaload, 1) := dk_46 (dk_at dksX10_build_4 4 rfl rfl)
theorem dX10_build_100 : decode cX10_build 100 = .ok (.istore 5, 2) := dk_54 5 (dk_at dksX10_build_4 5 rfl rfl)
theorem dX10_build_102 : decode cX10_build 102 = .ok (.iload 5, 2) := dk_21 5 (dk_at dksX10_build_4 7 rfl rfl)
theorem dX10_build_104 : decode cX10_build 104 = .ok (.iconst 3, 1) := dk_6 (dk_at dksX10_build_4 9 rfl rfl)
theorem dX10_build_105 : decode cX10_build 105 = .ok (.if_icmp .eq 9, 3) := dk_159 0 9 (dk_at dksX10_build_4 10 rfl rfl)
theorem dX10_build_108 : decode cX10_build 108 = .ok (.iload 5, 2) := dk_21 5 (dk_at dksX10_build_4 13 rfl rfl)
theorem dX10_build_110 : decode cX10_build 110 = .ok (.iconst 4, 1) := dk_7 (dk_at dksX10_build_4 15 rfl rfl)
theorem dX10_build_111 : decode cX10_build 111 = .ok (.if_icmp .ne 18, 3) := dk_160 0 18 (dk_at dksX10_build_4 16 rfl rfl)
theorem dX10_build_114 : decode cX10_build 114 = .ok (.iload 5, 2) := dk_21 5 (dk_at dksX10_build_4 19 rfl rfl)
theorem dX10_build_116 : decode cX10_build 116 = .ok (.iconst 3, 1) := dk_6 (dk_at dksX10_build_4 21 rfl rfl)
theorem dX10_build_117 : decode cX10_build 117 = .ok (.if_icmp .ne 7, 3) := dk_160 0 7 (dk_at dksX10_build_5 0 rfl rfl)
theorem dX10_build_120 : decode cX10_build 120 = .ok (.iconst 1, 1) := dk_4 (dk_at dksX10_build_5 3 rfl rfl)
theorem dX10_build_121 : decode cX10_build 121 = .ok (.goto 4, 3) := dk_167 0 4 (dk_at dksX10_build_5 4 rfl rfl)
theorem dX10_build_124 : decode cX10_build 124 = .ok (.iconst (-1), 1) := dk_2 (dk_at dksX10_build_5 7 rfl rfl)
theorem dX10_build_125 : decode cX10_build 125 = .ok (.istore_n 2, 1) := dk_61 (dk_at dksX10_build_5 8 rfl rfl)
theorem dX10_build_126 : decode cX10_build 126 = .ok (.goto 277, 3) := dk_167 1 21 (dk_at dksX10_build_5 9 rfl rfl)
theorem dX10_build_129 : decode cX10_build 129 = .ok (.iload 5, 2) := dk_21 5 (dk_at dksX10_build_5 12 rfl rfl)
theorem dX10_build_131 : decode cX10_build 131 = .ok (.bipush 7, 2) := dk_16 7 (dk_at dksX10_build_5 14 rfl rfl)
theorem dX10_build_133 : decode cX10_build 133 = .ok (.if_icmp .lt 13, 3) := dk_161 0 13 (dk_at dksX10_build_5 16 rfl rfl)
theorem dX10_build_136 : decode cX10_build 136 = .ok (.iload_n 1, 1) := dk_27 (dk_at dksX10_build_5 19 rfl rfl)
theorem dX10_build_137 : decode cX10_build 137 = .ok (.istore 4, 2) := dk_54 4 (dk_at dksX10_build_5 20 rfl rfl)
theorem dX10_build_139 : decode cX10_build 139 = .ok (.iconst (-1), 1) := dk_2 (dk_at dksX10_build_5 22 rfl rfl)
theorem dX10_build_140 : decode cX10_build 140 = .ok (.istore_n 3, 1) := dk_62 (dk_at dksX10_build_5 23 rfl rfl)
theorem dX10_build_141 : decode cX10_build 141 = .ok (.iconst 1, 1) := dk_4 (dk_at dksX10_build_6 0 rfl rfl)
theorem dX10_build_142 : decode cX10_build 142 = .ok (.istore_n 2, 1) := dk_61 (dk_at dksX10_build_6 1 rfl rfl)
theorem dX10_build_143 : decode cX10_build 143 = .ok (.goto 260, 3) := dk_167 1 4 (dk_at dksX10_build_6 2 rfl rfl)
theorem dX10_build_146 : decode cX10_build 146 = .ok (.iload 5, 2) := dk_21 5 (dk_at dksX10_build_6 5 rfl rfl)
theorem dX10_build_148 : decode cX10_build 148 = .ok (.iconst 1, 1) := dk_4 (dk_at dksX10_build_6 7 rfl rfl)
theorem dX10_build_149 : decode cX10_build 149 = .ok (.if_icmp .ne 83, 3) := dk_160 0 83 (dk_at dksX10_build_6 8 rfl rfl)
theorem dX10_build_152 : decode cX10_build 152 = .ok (.aload_n 0, 1) := dk_42 (dk_at dksX10_build_6 11 rfl rfl)
theorem dX10_build_153 : decode cX10_build 153 = .ok (.getfield 17, 3) := dk_180 0 17 (dk_at dksX10_build_6 12 rfl rfl)
theorem dX10_build_156 : decode cX10_build 156 = .ok (.iload_n 1, 1) := dk_27 (dk_at dksX10_build_6 15 rfl rfl)
theorem dX10_build_157 : decode cX10_build 157 = .ok (.iconst 1, 1) := dk_4 (dk_at dksX10_build_6 16 rfl rfl)
theorem dX10_build_158 : decode cX10_build 158 = .ok (.iadd, 1) := dk_96 (dk_at dksX10_build_6 17 rfl rfl)
theorem dX10_build_159 : decode cX10_build 159 = .ok (.iaload, 1) := dk_46 (dk_at dksX10_build_6 18 rfl rfl)
theorem dX10_build_160 : decode cX10_build 160 = .ok (.iconst 2, 1) := dk_5 (dk_at dksX10_build_6 19 rfl rfl)
theorem dX10_build_161 : decode cX10_build 161 = .ok (.if_icmp .eq 19, 3) := dk_159 0 19 (dk_at dksX10_build_6 20 rfl rfl)
theorem dX10_build_164 : decode cX10_build 164 = .ok (.aload_n 0, 1) := dk_42 (dk_at dksX10_build_6 23 rfl rfl)
theorem dX10_build_165 : decode cX10_build 165 = .ok (.getfield 17, 3) := dk_180 0 17 (dk_at dksX10_build_7 0 rfl rfl)
theorem dX10_build_168 : decode cX10_build 168 = .ok (.iload_n 1, 1) := dk_27 (dk_at dksX10_build_7 3 rfl rfl)
theorem dX10_build_169 : decode cX10_build 169 = .ok (.iconst 1, 1) := dk_4 (dk_at dksX10_build_7 4 rfl rfl)
theorem dX10_build_170 : decode cX10_build 170 = .ok (.iadd, 1) := dk_96 (dk_at dksX10_build_7 5 rfl rfl)
theorem dX10_build_171 : decode cX10_build 171 = .ok (.iaload, 1) := dk_46 (dk_at dksX10_build_7 6 rfl rfl)
theorem dX10_build_172 : decode cX10_build 172 = .ok (.iconst 5, 1) := dk_8 (dk_at dksX10_build_7 7 rfl rfl)
theorem dX10_build_173 : decode cX10_build 173 = .ok (.if_icmp .eq 7, 3) := dk_159 0 7 (dk_at dksX10_build_7 8 rfl rfl)
theorem dX10_build_176 : decode cX10_build 176 = .ok (.iconst 1, 1) := dk_4 (dk_at dksX10_build_7 11 rfl rfl)
theorem dX10_build_177 : decode cX10_build 177 = .ok (.goto 4, 3) := dk_167 0 4 (dk_at dksX10_build_7 12 rfl rfl)
theorem dX10_build_180 : decode cX10_build 180 = .ok (.iconst 0, 1) := dk_3 (dk_at dksX10_build_7 15 rfl rfl)
theorem dX10_build_181 : decode cX10_build 181 = .ok (.istore 6, 2) := dk_54 6 (dk_at dksX10_build_7 16 rfl rfl)
theorem dX10_build_183 : decode cX10_build 183 = .ok (.iload 6, 2) := dk_21 6 (dk_at dksX10_build_7 18 rfl rfl)
theorem dX10_build_185 : decode cX10_build 185 = .ok (.ifCond .eq 44, 3) := dk_153 0 44 (dk_at dksX10_build_7 20 rfl rfl)
theorem dX10_build_188 : decode cX10_build 188 = .ok (.aload_n 0, 1) := dk_42 (dk_at dksX10_build_7 23 rfl rfl)
theorem dX10_build_189 : decode cX10_build 189 = .ok (.getfield 29, 3) := dk_180 0 29 (dk_at dksX10_build_8 0 rfl rfl)
theorem dX10_build_192 : decode cX10_build 192 = .ok (.bipush 7, 2) := dk_16 7 (dk_at dksX10_build_8 3 rfl rfl)
theorem dX10_build_194 : decode cX10_build 194 = .ok (.aload_n 0, 1) := dk_42 (dk_at dksX10_build_8 5 rfl rfl)
theorem dX10_build_195 : decode cX10_build 195 = .ok (.getfield 110, 3) := dk_180 0 110 (dk_at dksX10_build_8 6 rfl rfl)
theorem dX10_build_198 : decode cX10_build 198 = .ok (.imul, 1) := dk_104 (dk_at dksX10_build_8 9 rfl rfl)
theorem dX10_build_199 : decode cX10_build 199 = .ok (.bipush 6, 2) := dk_16 6 (dk_at dksX10_build_8 10 rfl rfl)
theorem dX10_build_201 : decode cX10_build 201 = .ok (.iadd, 1) := dk_96 (dk_at dksX10_build_8 12 rfl rfl)
theorem dX10_build_202 : decode cX10_build 202 = .ok (.aload_n 0, 1) := dk_42 (dk_at dksX10_build_8 13 rfl rfl)
theorem dX10_build_203 : decode cX10_build 203 = .ok (.getfield 29, 3) := dk_180 0 29 (dk_at dksX10_build_8 14 rfl rfl)
theorem dX10_build_206 : decode cX10_build 206 = .ok (.bipush 7, 2) := dk_16 7 (dk_at dksX10_build_8 17 rfl rfl)
theorem dX10_build_208 : decode cX10_build 208 = .ok (.aload_n 0, 1) := dk_42 (dk_at dksX10_build_8 19 rfl rfl)
theorem dX10_build_209 : decode cX10_build 209 = .ok (.getfield 110, 3) := dk_180 0 110 (dk_at dksX10_build_8 20 rfl rfl)
theorem dX10_build_212 : decode cX10_build 212 = .ok (.imul, 1) := dk_104 (dk_at dksX10_build_8 23 rfl rfl)
theorem dX10_build_213 : decode cX10_build 213 = .ok (.bipush 6, 2) := dk_16 6 (dk_at dksX10_build_9 0 rfl rfl)
theorem dX10_build_215 : decode cX10_build 215 = .ok (.iadd, 1) := dk_96 (dk_at dksX10_build_9 2 rfl rfl)
theorem dX10_build_216 : decode cX10_build 216 = .ok (.iaload, 1) := dk_46 (dk_at dksX10_build_9 3 rfl rfl)
theorem dX10_build_217 : decode cX10_build 217 = .ok (.iload_n 3, 1) := dk_29 (dk_at dksX10_build_9 4 rfl rfl)
theorem dX10_build_218 : decode cX10_build 218 = .ok (.iload_n 2, 1) := dk_28 (dk_at dksX10_build_9 5 rfl rfl)
theorem dX10_build_219 : decode cX10_build 219 = .ok (.imul, 1) := dk_104 (dk_at dksX10_build_9 6 rfl rfl)
theorem dX10_build_220 : decode cX10_build 220 = .ok (.aload_n 0, 1) := dk_42 (dk_at dksX10_build_9 7 rfl rfl)
theorem dX10_build_221 : decode cX10_build 221 = .ok (.getfield 23, 3) := dk_180 0 23 (dk_at dksX10_build_9 8 rfl rfl)
theorem dX10_build_224 : decode cX10_build 224 = .ok (.iload_n 1, 1) := dk_27 (dk_at dksX10_build_9 11 rfl rfl)
theorem dX10_build_225 : decode cX10_build 225 = .ok (.iaload, 1) := dk_46 (dk_at dksX10_build_9 12 rfl rfl)
theorem dX10_build_226 : decode cX10_build 226 = .ok (.imul, 1) := dk_104 (dk_at dksX10_build_9 13 rfl rfl)
theorem dX10_build_227 : decode cX10_build 227 = .ok (.isub, 1) := dk_100 (dk_at dksX10_build_9 14 rfl rfl)
theorem dX10_build_228 : decode cX10_build 228 = .ok (.iastore, 1) := dk_79 (dk_at dksX10_build_9 15 rfl rfl)
theorem dX10_build_229 : decode cX10_build 229 = .ok (.goto 174, 3) := dk_167 0 174 (dk_at dksX10_build_9 16 rfl rfl)
theorem dX10_build_232 : decode cX10_build 232 = .ok (.iload 5, 2) := dk_21 5 (dk_at dksX10_build_9 19 rfl rfl)
theorem dX10_build_234 : decode cX10_build 234 = .ok (.iconst 2, 1) := dk_5 (dk_at dksX10_build_9 21 rfl rfl)
theorem dX10_build_235 : decode cX10_build 235 = .ok (.if_icmp .ne 168, 3) := dk_160 0 168 (dk_at dksX10_build_10 0 rfl rfl)
theorem dX10_build_238 : decode cX10_build 238 = .ok (.aload_n 0, 1) := dk_42 (dk_at dksX10_build_10 3 rfl rfl)
theorem dX10_build_239 : decode cX10_build 239 = .ok (.aload_n 0, 1) := dk_42 (dk_at dksX10_build_10 4 rfl rfl)
theorem dX10_build_240 : decode cX10_build 240 = .ok (.getfield 23, 3) := dk_180 0 23 (dk_at dksX10_build_10 5 rfl rfl)
theorem dX10_build_243 : decode cX10_build 243 = .ok (.iload_n 1, 1) := dk_27 (dk_at dksX10_build_10 8 rfl rfl)
theorem dX10_build_244 : decode cX10_build 244 = .ok (.iaload, 1) := dk_46 (dk_at dksX10_build_10 9 rfl rfl)
theorem dX10_build_245 : decode cX10_build 245 = .ok (.invokevirtual 117, 3) := dk_182 0 117 (dk_at dksX10_build_10 10 rfl rfl)
theorem dX10_build_248 : decode cX10_build 248 = .ok (.istore 6, 2) := dk_54 6 (dk_at dksX10_build_10 13 rfl rfl)
theorem dX10_build_250 : decode cX10_build 250 = .ok (.iload 6, 2) := dk_21 6 (dk_at dksX10_build_10 15 rfl rfl)
theorem dX10_build_252 : decode cX10_build 252 = .ok (.ifCond .ge 58, 3) := dk_156 0 58 (dk_at dksX10_build_10 17 rfl rfl)
theorem dX10_build_255 : decode cX10_build 255 = .ok (.aload_n 0, 1) := dk_42 (dk_at dksX10_build_10 20 rfl rfl)
theorem dX10_build_256 : decode cX10_build 256 = .ok (.getfield 104, 3) := dk_180 0 104 (dk_at dksX10_build_10 21 rfl rfl)
theorem dX10_build_259 : decode cX10_build 259 = .ok (.aload_n 0, 1) := dk_42 (dk_at dksX10_build_11 0 rfl rfl)
theorem dX10_build_260 : decode cX10_build 260 = .ok (.getfield 107, 3) := dk_180 0 107 (dk_at dksX10_build_11 1 rfl rfl)
theorem dX10_build_263 : decode cX10_build 263 = .ok (.iadd, 1) := dk_96 (dk_at dksX10_build_11 4 rfl rfl)
theorem dX10_build_264 : decode cX10_build 264 = .ok (.bipush 6, 2) := dk_16 6 (dk_at dksX10_build_11 5 rfl rfl)
theorem dX10_build_266 : decode cX10_build 266 = .ok (.if_icmp .ne 15, 3) := dk_160 0 15 (dk_at dksX10_build_11 7 rfl rfl)
theorem dX10_build_269 : decode cX10_build 269 = .ok (.aload_n 0, 1) := dk_42 (dk_at dksX10_build_11 10 rfl rfl)
theorem dX10_build_270 : decode cX10_build 270 = .ok (.iconst 2, 1) := dk_5 (dk_at dksX10_build_11 11 rfl rfl)
theorem dX10_build_271 : decode cX10_build 271 = .ok (.aload_n 0, 1) := dk_42 (dk_at dksX10_build_11 12 rfl rfl)
theorem dX10_build_272 : decode cX10_build 272 = .ok (.getfield 20, 3) := dk_180 0 20 (dk_at dksX10_build_11 13 rfl rfl)
theorem dX10_build_275 : decode cX10_build 275 = .ok (.iload_n 1, 1) := dk_27 (dk_at dksX10_build_11 16 rfl rfl)
theorem dX10_build_276 : decode cX10_build 276 = .ok (.iaload, 1) := dk_46 (dk_at dksX10_build_11 17 rfl rfl)
theorem dX10_build_277 : decode cX10_build 277 = .ok (.invokevirtual 113, 3) := dk_182 0 113 (dk_at dksX10_build_11 18 rfl rfl)
theorem dX10_build_280 : decode cX10_build 280 = .ok (.ireturn, 1) := dk_172 (dk_at dksX10_build_11 21 rfl rfl)
theorem dX10_build_281 : decode cX10_build 281 = .ok (.aload_n 0, 1) := dk_42 (dk_at dksX10_build_11 22 rfl rfl)
theorem dX10_build_282 : decode cX10_build 282 = .ok (.getfield 104, 3) := dk_180 0 104 (dk_at dksX10_build_12 0 rfl rfl)
theorem dX10_build_285 : decode cX10_build 285 = .ok (.istore 6, 2) := dk_54 6 (dk_at dksX10_build_12 3 rfl rfl)
theorem dX10_build_287 : decode cX10_build 287 = .ok (.aload_n 0, 1) := dk_42 (dk_at dksX10_build_12 5 rfl rfl)
theorem dX10_build_288 : decode cX10_build 288 = .ok (.getfield 26, 3) := dk_180 0 26 (dk_at dksX10_build_12 6 rfl rfl)
theorem dX10_build_291 : decode cX10_build 291 = .ok (.iload 6, 2) := dk_21 6 (dk_at dksX10_build_12 9 rfl rfl)
theorem dX10_build_293 : decode cX10_build 293 = .ok (.aload_n 0, 1) := dk_42 (dk_at dksX10_build_12 11 rfl rfl)
theorem dX10_build_294 : decode cX10_build 294 = .ok (.getfield 23, 3) := dk_180 0 23 (dk_at dksX10_build_12 12 rfl rfl)
theorem dX10_build_297 : decode cX10_build 297 = .ok (.iload_n 1, 1) := dk_27 (dk_at dksX10_build_12 15 rfl rfl)
theorem dX10_build_298 : decode cX10_build 298 = .ok (.iaload, 1) := dk_46 (dk_at dksX10_build_12 16 rfl rfl)
theorem dX10_build_299 : decode cX10_build 299 = .ok (.iastore, 1) := dk_79 (dk_at dksX10_build_12 17 rfl rfl)
theorem dX10_build_300 : decode cX10_build 300 = .ok (.aload_n 0, 1) := dk_42 (dk_at dksX10_build_12 18 rfl rfl)
theorem dX10_build_301 : decode cX10_build 301 = .ok (.dup, 1) := dk_89 (dk_at dksX10_build_12 19 rfl rfl)
theorem dX10_build_302 : decode cX10_build 302 = .ok (.getfield 104, 3) := dk_180 0 104 (dk_at dksX10_build_12 20 rfl rfl)
theorem dX10_build_305 : decode cX10_build 305 = .ok (.iconst 1, 1) := dk_4 (dk_at dksX10_build_12 23 rfl rfl)
theorem dX10_build_306 : decode cX10_build 306 = .ok (.iadd, 1) := dk_96 (dk_at dksX10_build_13 0 rfl rfl)
theorem dX10_build_307 : decode cX10_build 307 = .ok (.putfield 104, 3) := dk_181 0 104 (dk_at dksX10_build_13 1 rfl rfl)
theorem dX10_build_310 : decode cX10_build 310 = .ok (.iload_n 1, 1) := dk_27 (dk_at dksX10_build_13 4 rfl rfl)
theorem dX10_build_311 : decode cX10_build 311 = .ok (.ifCond .le 21, 3) := dk_158 0 21 (dk_at dksX10_build_13 5 rfl rfl)
theorem dX10_build_314 : decode cX10_build 314 = .ok (.aload_n 0, 1) := dk_42 (dk_at dksX10_build_13 8 rfl rfl)
theorem dX10_build_315 : decode cX10_build 315 = .ok (.getfield 17, 3) := dk_180 0 17 (dk_at dksX10_build_13 9 rfl rfl)
theorem dX10_build_318 : decode cX10_build 318 = .ok (.iload_n 1, 1) := dk_27 (dk_at dksX10_build_13 12 rfl rfl)
theorem dX10_build_319 : decode cX10_build 319 = .ok (.iconst 1, 1) := dk_4 (dk_at dksX10_build_13 13 rfl rfl)
theorem dX10_build_320 : decode cX10_build 320 = .ok (.isub, 1) := dk_100 (dk_at dksX10_build_13 14 rfl rfl)
theorem dX10_build_321 : decode cX10_build 321 = .ok (.iaload, 1) := dk_46 (dk_at dksX10_build_13 15 rfl rfl)
theorem dX10_build_322 : decode cX10_build 322 = .ok (.iconst 5, 1) := dk_8 (dk_at dksX10_build_13 16 rfl rfl)
theorem dX10_build_323 : decode cX10_build 323 = .ok (.if_icmp .ne 9, 3) := dk_160 0 9 (dk_at dksX10_build_13 17 rfl rfl)
theorem dX10_build_326 : decode cX10_build 326 = .ok (.iload_n 1, 1) := dk_27 (dk_at dksX10_build_13 20 rfl rfl)
theorem dX10_build_327 : decode cX10_build 327 = .ok (.iconst 2, 1) := dk_5 (dk_at dksX10_build_13 21 rfl rfl)
theorem dX10_build_328 : decode cX10_build 328 = .ok (.isub, 1) := dk_100 (dk_at dksX10_build_13 22 rfl rfl)
theorem dX10_build_329 : decode cX10_build 329 = .ok (.goto 6, 3) := dk_167 0 6 (dk_at dksX10_build_14 0 rfl rfl)
theorem dX10_build_332 : decode cX10_build 332 = .ok (.iload_n 1, 1) := dk_27 (dk_at dksX10_build_14 3 rfl rfl)
theorem dX10_build_333 : decode cX10_build 333 = .ok (.iconst 1, 1) := dk_4 (dk_at dksX10_build_14 4 rfl rfl)
theorem dX10_build_334 : decode cX10_build 334 = .ok (.isub, 1) := dk_100 (dk_at dksX10_build_14 5 rfl rfl)
theorem dX10_build_335 : decode cX10_build 335 = .ok (.istore 7, 2) := dk_54 7 (dk_at dksX10_build_14 6 rfl rfl)
theorem dX10_build_337 : decode cX10_build 337 = .ok (.iload 7, 2) := dk_21 7 (dk_at dksX10_build_14 8 rfl rfl)
theorem dX10_build_339 : decode cX10_build 339 = .ok (.ifCond .lt 24, 3) := dk_155 0 24 (dk_at dksX10_build_14 10 rfl rfl)
theorem dX10_build_342 : decode cX10_build 342 = .ok (.aload_n 0, 1) := dk_42 (dk_at dksX10_build_14 13 rfl rfl)
theorem dX10_build_343 : decode cX10_build 343 = .ok (.getfield 17, 3) := dk_180 0 17 (dk_at dksX10_build_14 14 rfl rfl)
theorem dX10_build_346 : decode cX10_build 346 = .ok (.iload 7, 2) := dk_21 7 (dk_at dksX10_build_14 17 rfl rfl)
theorem dX10_build_348 : decode cX10_build 348 = .ok (.iaload, 1) := dk_46 (dk_at dksX10_build_14 19 rfl rfl)
theorem dX10_build_349 : decode cX10_build 349 = .ok (.iconst 1, 1) := dk_4 (dk_at dksX10_build_14 20 rfl rfl)
theorem dX10_build_350 : decode cX10_build 350 = .ok (.if_icmp .ne 13, 3) := dk_160 0 13 (dk_at dksX10_build_14 21 rfl rfl)
theorem dX10_build_353 : decode cX10_build 353 = .ok (.aload_n 0, 1) := dk_42 (dk_at dksX10_build_15 0 rfl rfl)
theorem dX10_build_354 : decode cX10_build 354 = .ok (.getfield 23, 3) := dk_180 0 23 (dk_at dksX10_build_15 1 rfl rfl)
theorem dX10_build_357 : decode cX10_build 357 = .ok (.iload 7, 2) := dk_21 7 (dk_at dksX10_build_15 4 rfl rfl)
theorem dX10_build_359 : decode cX10_build 359 = .ok (.iaload, 1) := dk_46 (dk_at dksX10_build_15 6 rfl rfl)
theorem dX10_build_360 : decode cX10_build 360 = .ok (.goto 4, 3) := dk_167 0 4 (dk_at dksX10_build_15 7 rfl rfl)
theorem dX10_build_363 : decode cX10_build 363 = .ok (.iconst 1, 1) := dk_4 (dk_at dksX10_build_15 10 rfl rfl)
theorem dX10_build_364 : decode cX10_build 364 = .ok (.istore 8, 2) := dk_54 8 (dk_at dksX10_build_15 11 rfl rfl)
theorem dX10_build_366 : decode cX10_build 366 = .ok (.aload_n 0, 1) := dk_42 (dk_at dksX10_build_15 13 rfl rfl)
theorem dX10_build_367 : decode cX10_build 367 = .ok (.getfield 29, 3) := dk_180 0 29 (dk_at dksX10_build_15 14 rfl rfl)
theorem dX10_build_370 : decode cX10_build 370 = .ok (.bipush 7, 2) := dk_16 7 (dk_at dksX10_build_15 17 rfl rfl)
theorem dX10_build_372 : decode cX10_build 372 = .ok (.aload_n 0, 1) := dk_42 (dk_at dksX10_build_15 19 rfl rfl)
theorem dX10_build_373 : decode cX10_build 373 = .ok (.getfield 110, 3) := dk_180 0 110 (dk_at dksX10_build_15 20 rfl rfl)
theorem dX10_build_376 : decode cX10_build 376 = .ok (.imul, 1) := dk_104 (dk_at dksX10_build_15 23 rfl rfl)
theorem dX10_build_377 : decode cX10_build 377 = .ok (.iload 6, 2) := dk_21 6 (dk_at dksX10_build_16 0 rfl rfl)
theorem dX10_build_379 : decode cX10_build 379 = .ok (.iadd, 1) := dk_96 (dk_at dksX10_build_16 2 rfl rfl)
theorem dX10_build_380 : decode cX10_build 380 = .ok (.aload_n 0, 1) := dk_42 (dk_at dksX10_build_16 3 rfl rfl)
theorem dX10_build_381 : decode cX10_build 381 = .ok (.getfield 29, 3) := dk_180 0 29 (dk_at dksX10_build_16 4 rfl rfl)
theorem dX10_build_384 : decode cX10_build 384 = .ok (.bipush 7, 2) := dk_16 7 (dk_at dksX10_build_16 7 rfl rfl)
theorem dX10_build_386 : decode cX10_build 386 = .ok (.aload_n 0, 1) := dk_42 (dk_at dksX10_build_16 9 rfl rfl)
theorem dX10_build_387 : decode cX10_build 387 = .ok (.getfield 110, 3) := dk_180 0 110 (dk_at dksX10_build_16 10 rfl rfl)
theorem dX10_build_390 : decode cX10_build 390 = .ok (.imul, 1) := dk_104 (dk_at dksX10_build_16 13 rfl rfl)
theorem dX10_build_391 : decode cX10_build 391 = .ok (.iload 6, 2) := dk_21 6 (dk_at dksX10_build_16 14 rfl rfl)
theorem dX10_build_393 : decode cX10_build 393 = .ok (.iadd, 1) := dk_96 (dk_at dksX10_build_16 16 rfl rfl)
theorem dX10_build_394 : decode cX10_build 394 = .ok (.iaload, 1) := dk_46 (dk_at dksX10_build_16 17 rfl rfl)
theorem dX10_build_395 : decode cX10_build 395 = .ok (.iload_n 3, 1) := dk_29 (dk_at dksX10_build_16 18 rfl rfl)
theorem dX10_build_396 : decode cX10_build 396 = .ok (.iload_n 2, 1) := dk_28 (dk_at dksX10_build_16 19 rfl rfl)
theorem dX10_build_397 : decode cX10_build 397 = .ok (.imul, 1) := dk_104 (dk_at dksX10_build_16 20 rfl rfl)
theorem dX10_build_398 : decode cX10_build 398 = .ok (.iload 8, 2) := dk_21 8 (dk_at dksX10_build_16 21 rfl rfl)
theorem dX10_build_400 : decode cX10_build 400 = .ok (.imul, 1) := dk_104 (dk_at dksX10_build_16 23 rfl rfl)
theorem dX10_build_401 : decode cX10_build 401 = .ok (.iadd, 1) := dk_96 (dk_at dksX10_build_17 0 rfl rfl)
theorem dX10_build_402 : decode cX10_build 402 = .ok (.iastore, 1) := dk_79 (dk_at dksX10_build_17 1 rfl rfl)
theorem dX10_build_403 : decode cX10_build 403 = .ok (.iinc 1 1, 3) := dk_132 1 1 (dk_at dksX10_build_17 2 rfl rfl)
theorem dX10_build_406 : decode cX10_build 406 = .ok (.goto (-332), 3) := dk_167 254 180 (dk_at dksX10_build_17 5 rfl rfl)
theorem dX10_build_409 : decode cX10_build 409 = .ok (.aload_n 0, 1) := dk_42 (dk_at dksX10_build_17 8 rfl rfl)
theorem dX10_build_410 : decode cX10_build 410 = .ok (.getfield 17, 3) := dk_180 0 17 (dk_at dksX10_build_17 9 rfl rfl)
theorem dX10_build_413 : decode cX10_build 413 = .ok (.iload 4, 2) := dk_21 4 (dk_at dksX10_build_17 12 rfl rfl)
theorem dX10_build_415 : decode cX10_build 415 = .ok (.iaload, 1) := dk_46 (dk_at dksX10_build_17 14 rfl rfl)
theorem dX10_build_416 : decode cX10_build 416 = .ok (.istore 5, 2) := dk_54 5 (dk_at dksX10_build_17 15 rfl rfl)
theorem dX10_build_418 : decode cX10_build 418 = .ok (.aload_n 0, 1) := dk_42 (dk_at dksX10_build_17 17 rfl rfl)
theorem dX10_build_419 : decode cX10_build 419 = .ok (.getfield 32, 3) := dk_180 0 32 (dk_at dksX10_build_17 18 rfl rfl)
theorem dX10_build_422 : decode cX10_build 422 = .ok (.aload_n 0, 1) := dk_42 (dk_at dksX10_build_17 21 rfl rfl)
theorem dX10_build_423 : decode cX10_build 423 = .ok (.getfield 110, 3) := dk_180 0 110 (dk_at dksX10_build_18 0 rfl rfl)
theorem dX10_build_426 : decode cX10_build 426 = .ok (.iload 5, 2) := dk_21 5 (dk_at dksX10_build_18 3 rfl rfl)
theorem dX10_build_428 : decode cX10_build 428 = .ok (.bipush 8, 2) := dk_16 8 (dk_at dksX10_build_18 5 rfl rfl)
theorem dX10_build_430 : decode cX10_build 430 = .ok (.if_icmp .ne 7, 3) := dk_160 0 7 (dk_at dksX10_build_18 7 rfl rfl)
theorem dX10_build_433 : decode cX10_build 433 = .ok (.iconst 1, 1) := dk_4 (dk_at dksX10_build_18 10 rfl rfl)
theorem dX10_build_434 : decode cX10_build 434 = .ok (.goto 15, 3) := dk_167 0 15 (dk_at dksX10_build_18 11 rfl rfl)
theorem dX10_build_437 : decode cX10_build 437 = .ok (.iload 5, 2) := dk_21 5 (dk_at dksX10_build_18 14 rfl rfl)
theorem dX10_build_439 : decode cX10_build 439 = .ok (.bipush 9, 2) := dk_16 9 (dk_at dksX10_build_18 16 rfl rfl)
theorem dX10_build_441 : decode cX10_build 441 = .ok (.if_icmp .ne 7, 3) := dk_160 0 7 (dk_at dksX10_build_18 18 rfl rfl)
theorem dX10_build_444 : decode cX10_build 444 = .ok (.iconst (-1), 1) := dk_2 (dk_at dksX10_build_18 21 rfl rfl)
theorem dX10_build_445 : decode cX10_build 445 = .ok (.goto 4, 3) := dk_167 0 4 (dk_at dksX10_build_19 0 rfl rfl)
theorem dX10_build_448 : decode cX10_build 448 = .ok (.iconst 0, 1) := dk_3 (dk_at dksX10_build_19 3 rfl rfl)
theorem dX10_build_449 : decode cX10_build 449 = .ok (.iastore, 1) := dk_79 (dk_at dksX10_build_19 4 rfl rfl)
theorem dX10_build_450 : decode cX10_build 450 = .ok (.iload 5, 2) := dk_21 5 (dk_at dksX10_build_19 5 rfl rfl)
theorem dX10_build_452 : decode cX10_build 452 = .ok (.bipush 7, 2) := dk_16 7 (dk_at dksX10_build_19 7 rfl rfl)
theorem dX10_build_454 : decode cX10_build 454 = .ok (.if_icmp .eq 40, 3) := dk_159 0 40 (dk_at dksX10_build_19 9 rfl rfl)
theorem dX10_build_457 : decode cX10_build 457 = .ok (.aload_n 0, 1) := dk_42 (dk_at dksX10_build_19 12 rfl rfl)
theorem dX10_build_458 : decode cX10_build 458 = .ok (.getfield 104, 3) := dk_180 0 104 (dk_at dksX10_build_19 13 rfl rfl)
theorem dX10_build_461 : decode cX10_build 461 = .ok (.aload_n 0, 1) := dk_42 (dk_at dksX10_build_19 16 rfl rfl)
theorem dX10_build_462 : decode cX10_build 462 = .ok (.getfield 107, 3) := dk_180 0 107 (dk_at dksX10_build_19 17 rfl rfl)
theorem dX10_build_465 : decode cX10_build 465 = .ok (.iadd, 1) := dk_96 (dk_at dksX10_build_19 20 rfl rfl)
theorem dX10_build_466 : decode cX10_build 466 = .ok (.bipush 6, 2) := dk_16 6 (dk_at dksX10_build_19 21 rfl rfl)
theorem dX10_build_468 : decode cX10_build 468 = .ok (.if_icmp .ne 16, 3) := dk_160 0 16 (dk_at dksX10_build_20 0 rfl rfl)
theorem dX10_build_471 : decode cX10_build 471 = .ok (.aload_n 0, 1) := dk_42 (dk_at dksX10_build_20 3 rfl rfl)
theorem dX10_build_472 : decode cX10_build 472 = .ok (.iconst 2, 1) := dk_5 (dk_at dksX10_build_20 4 rfl rfl)
theorem dX10_build_473 : decode cX10_build 473 = .ok (.aload_n 0, 1) := dk_42 (dk_at dksX10_build_20 5 rfl rfl)
theorem dX10_build_474 : decode cX10_build 474 = .ok (.getfield 20, 3) := dk_180 0 20 (dk_at dksX10_build_20 6 rfl rfl)
theorem dX10_build_477 : decode cX10_build 477 = .ok (.iload 4, 2) := dk_21 4 (dk_at dksX10_build_20 9 rfl rfl)
theorem dX10_build_479 : decode cX10_build 479 = .ok (.iaload, 1) := dk_46 (dk_at dksX10_build_20 11 rfl rfl)
theorem dX10_build_480 : decode cX10_build 480 = .ok (.invokevirtual 113, 3) := dk_182 0 113 (dk_at dksX10_build_20 12 rfl rfl)
theorem dX10_build_483 : decode cX10_build 483 = .ok (.ireturn, 1) := dk_172 (dk_at dksX10_build_20 15 rfl rfl)
theorem dX10_build_484 : decode cX10_build 484 = .ok (.aload_n 0, 1) := dk_42 (dk_at dksX10_build_20 16 rfl rfl)
theorem dX10_build_485 : decode cX10_build 485 = .ok (.dup, 1) := dk_89 (dk_at dksX10_build_20 17 rfl rfl)
theorem dX10_build_486 : decode cX10_build 486 = .ok (.getfield 107, 3) := dk_180 0 107 (dk_at dksX10_build_20 18 rfl rfl)
theorem dX10_build_489 : decode cX10_build 489 = .ok (.iconst 1, 1) := dk_4 (dk_at dksX10_build_20 21 rfl rfl)
theorem dX10_build_490 : decode cX10_build 490 = .ok (.iadd, 1) := dk_96 (dk_at dksX10_build_20 22 rfl rfl)
theorem dX10_build_491 : decode cX10_build 491 = .ok (.putfield 107, 3) := dk_181 0 107 (dk_at dksX10_build_21 0 rfl rfl)
theorem dX10_build_494 : decode cX10_build 494 = .ok (.iconst 0, 1) := dk_3 (dk_at dksX10_build_21 3 rfl rfl)
theorem dX10_build_495 : decode cX10_build 495 = .ok (.istore 6, 2) := dk_54 6 (dk_at dksX10_build_21 4 rfl rfl)
theorem dX10_build_497 : decode cX10_build 497 = .ok (.iload 6, 2) := dk_21 6 (dk_at dksX10_build_21 6 rfl rfl)
theorem dX10_build_499 : decode cX10_build 499 = .ok (.bipush 7, 2) := dk_16 7 (dk_at dksX10_build_21 8 rfl rfl)
theorem dX10_build_501 : decode cX10_build 501 = .ok (.if_icmp .ge 71, 3) := dk_162 0 71 (dk_at dksX10_build_21 10 rfl rfl)
theorem dX10_build_504 : decode cX10_build 504 = .ok (.aload_n 0, 1) := dk_42 (dk_at dksX10_build_21 13 rfl rfl)
theorem dX10_build_505 : decode cX10_build 505 = .ok (.getfield 29, 3) := dk_180 0 29 (dk_at dksX10_build_21 14 rfl rfl)
theorem dX10_build_508 : decode cX10_build 508 = .ok (.bipush 7, 2) := dk_16 7 (dk_at dksX10_build_21 17 rfl rfl)
theorem dX10_build_510 : decode cX10_build 510 = .ok (.aload_n 0, 1) := dk_42 (dk_at dksX10_build_21 19 rfl rfl)
theorem dX10_build_511 : decode cX10_build 511 = .ok (.getfield 110, 3) := dk_180 0 110 (dk_at dksX10_build_21 20 rfl rfl)
theorem dX10_build_514 : decode cX10_build 514 = .ok (.imul, 1) := dk_104 (dk_at dksX10_build_21 23 rfl rfl)
theorem dX10_build_515 : decode cX10_build 515 = .ok (.iload 6, 2) := dk_21 6 (dk_at dksX10_build_22 0 rfl rfl)
theorem dX10_build_517 : decode cX10_build 517 = .ok (.iadd, 1) := dk_96 (dk_at dksX10_build_22 2 rfl rfl)
theorem dX10_build_518 : decode cX10_build 518 = .ok (.iaload, 1) := dk_46 (dk_at dksX10_build_22 3 rfl rfl)
theorem dX10_build_519 : decode cX10_build 519 = .ok (.istore 7, 2) := dk_54 7 (dk_at dksX10_build_22 4 rfl rfl)
theorem dX10_build_521 : decode cX10_build 521 = .ok (.iload 6, 2) := dk_21 6 (dk_at dksX10_build_22 6 rfl rfl)
theorem dX10_build_523 : decode cX10_build 523 = .ok (.bipush 6, 2) := dk_16 6 (dk_at dksX10_build_22 8 rfl rfl)
theorem dX10_build_525 : decode cX10_build 525 = .ok (.if_icmp .ne 9, 3) := dk_160 0 9 (dk_at dksX10_build_22 10 rfl rfl)
theorem dX10_build_528 : decode cX10_build 528 = .ok (.sipush 200, 3) := dk_17 0 200 (dk_at dksX10_build_22 13 rfl rfl)
theorem dX10_build_531 : decode cX10_build 531 = .ok (.goto 5, 3) := dk_167 0 5 (dk_at dksX10_build_22 16 rfl rfl)
theorem dX10_build_534 : decode cX10_build 534 = .ok (.bipush 20, 2) := dk_16 20 (dk_at dksX10_build_22 19 rfl rfl)
theorem dX10_build_536 : decode cX10_build 536 = .ok (.istore 8, 2) := dk_54 8 (dk_at dksX10_build_22 21 rfl rfl)
theorem dX10_build_538 : decode cX10_build 538 = .ok (.iload 7, 2) := dk_21 7 (dk_at dksX10_build_23 0 rfl rfl)
theorem dX10_build_540 : decode cX10_build 540 = .ok (.iload 8, 2) := dk_21 8 (dk_at dksX10_build_23 2 rfl rfl)
theorem dX10_build_542 : decode cX10_build 542 = .ok (.if_icmp .gt 11, 3) := dk_163 0 11 (dk_at dksX10_build_23 4 rfl rfl)
theorem dX10_build_545 : decode cX10_build 545 = .ok (.iload 7, 2) := dk_21 7 (dk_at dksX10_build_23 7 rfl rfl)
theorem dX10_build_547 : decode cX10_build 547 = .ok (.iload 8, 2) := dk_21 8 (dk_at dksX10_build_23 9 rfl rfl)
theorem dX10_build_549 : decode cX10_build 549 = .ok (.ineg, 1) := dk_116 (dk_at dksX10_build_23 11 rfl rfl)
theorem dX10_build_550 : decode cX10_build 550 = .ok (.if_icmp .ge 16, 3) := dk_162 0 16 (dk_at dksX10_build_23 12 rfl rfl)
theorem dX10_build_553 : decode cX10_build 553 = .ok (.aload_n 0, 1) := dk_42 (dk_at dksX10_build_23 15 rfl rfl)
theorem dX10_build_554 : decode cX10_build 554 = .ok (.iconst 3, 1) := dk_6 (dk_at dksX10_build_23 16 rfl rfl)
theorem dX10_build_555 : decode cX10_build 555 = .ok (.aload_n 0, 1) := dk_42 (dk_at dksX10_build_23 17 rfl rfl)
theorem dX10_build_556 : decode cX10_build 556 = .ok (.getfield 20, 3) := dk_180 0 20 (dk_at dksX10_build_23 18 rfl rfl)
theorem dX10_build_559 : decode cX10_build 559 = .ok (.iload 4, 2) := dk_21 4 (dk_at dksX10_build_23 21 rfl rfl)
theorem dX10_build_561 : decode cX10_build 561 = .ok (.iaload, 1) := dk_46 (dk_at dksX10_build_23 23 rfl rfl)
theorem dX10_build_562 : decode cX10_build 562 = .ok (.invokevirtual 113, 3) := dk_182 0 113 (dk_at dksX10_build_24 0 rfl rfl)
theorem dX10_build_565 : decode cX10_build 565 = .ok (.ireturn, 1) := dk_172 (dk_at dksX10_build_24 3 rfl rfl)
theorem dX10_build_566 : decode cX10_build 566 = .ok (.iinc 6 1, 3) := dk_132 6 1 (dk_at dksX10_build_24 4 rfl rfl)
theorem dX10_build_569 : decode cX10_build 569 = .ok (.goto (-72), 3) := dk_167 255 184 (dk_at dksX10_build_24 7 rfl rfl)
theorem dX10_build_572 : decode cX10_build 572 = .ok (.aload_n 0, 1) := dk_42 (dk_at dksX10_build_24 10 rfl rfl)
theorem dX10_build_573 : decode cX10_build 573 = .ok (.dup, 1) := dk_89 (dk_at dksX10_build_24 11 rfl rfl)
theorem dX10_build_574 : decode cX10_build 574 = .ok (.getfield 110, 3) := dk_180 0 110 (dk_at dksX10_build_24 12 rfl rfl)
theorem dX10_build_577 : decode cX10_build 577 = .ok (.iconst 1, 1) := dk_4 (dk_at dksX10_build_24 15 rfl rfl)
theorem dX10_build_578 : decode cX10_build 578 = .ok (.iadd, 1) := dk_96 (dk_at dksX10_build_24 16 rfl rfl)
theorem dX10_build_579 : decode cX10_build 579 = .ok (.putfield 110, 3) := dk_181 0 110 (dk_at dksX10_build_24 17 rfl rfl)
theorem dX10_build_582 : decode cX10_build 582 = .ok (.aload_n 0, 1) := dk_42 (dk_at dksX10_build_24 20 rfl rfl)
theorem dX10_build_583 : decode cX10_build 583 = .ok (.getfield 17, 3) := dk_180 0 17 (dk_at dksX10_build_24 21 rfl rfl)
theorem dX10_build_586 : decode cX10_build 586 = .ok (.iload_n 1, 1) := dk_27 (dk_at dksX10_build_25 0 rfl rfl)
theorem dX10_build_587 : decode cX10_build 587 = .ok (.iaload, 1) := dk_46 (dk_at dksX10_build_25 1 rfl rfl)
theorem dX10_build_588 : decode cX10_build 588 = .ok (.bipush 6, 2) := dk_16 6 (dk_at dksX10_build_25 2 rfl rfl)
theorem dX10_build_590 : decode cX10_build 590 = .ok (.if_icmp .ne 9, 3) := dk_160 0 9 (dk_at dksX10_build_25 4 rfl rfl)
theorem dX10_build_593 : decode cX10_build 593 = .ok (.iload_n 1, 1) := dk_27 (dk_at dksX10_build_25 7 rfl rfl)
theorem dX10_build_594 : decode cX10_build 594 = .ok (.iconst 1, 1) := dk_4 (dk_at dksX10_build_25 8 rfl rfl)
theorem dX10_build_595 : decode cX10_build 595 = .ok (.iadd, 1) := dk_96 (dk_at dksX10_build_25 9 rfl rfl)
theorem dX10_build_596 : decode cX10_build 596 = .ok (.goto 4, 3) := dk_167 0 4 (dk_at dksX10_build_25 10 rfl rfl)
theorem dX10_build_599 : decode cX10_build 599 = .ok (.iload_n 1, 1) := dk_27 (dk_at dksX10_build_25 13 rfl rfl)
theorem dX10_build_600 : decode cX10_build 600 = .ok (.istore_n 1, 1) := dk_60 (dk_at dksX10_build_25 14 rfl rfl)
theorem dX10_build_601 : decode cX10_build 601 = .ok (.goto (-563), 3) := dk_167 253 205 (dk_at dksX10_build_25 15 rfl rfl)
theorem dX10_build_604 : decode cX10_build 604 = .ok (.iconst 0, 1) := dk_3 (dk_at dksX10_build_25 18 rfl rfl)
theorem dX10_build_605 : decode cX10_build 605 = .ok (.ireturn, 1) := dk_172 (dk_at dksX10_build_25 19 rfl rfl)
abbrev cX10_draftColumn : ByteArray := prog_14_method_9_code
def yX10_draftColumn : MethodName := ⟨RX10, "draftColumn", "(I)I"⟩
def dkwX10_draftColumn_1 : List UInt8 := [167, 0, 4, 28, 61, 132, 3, 1, 167, 255, 229, 28, 172]
abbrev dktX10_draftColumn_1 : List UInt8 := dkwX10_draftColumn_1 ++ []
def dkwX10_draftColumn_0 : List UInt8 := [2, 61, 3, 62, 29, 42, 180, 0, 104, 162, 0, 25, 42, 180, 0, 26, 29, 46, 27, 160, 0, 7, 29]
abbrev dktX10_draftColumn_0 : List UInt8 := dkwX10_draftColumn_0 ++ dktX10_draftColumn_1
theorem dksX10_draftColumn_0 : cX10_draftColumn.data.toList.drop 0 = dktX10_draftColumn_0 := by decide +kernel
theorem dksX10_draftColumn_1 : cX10_draftColumn.data.toList.drop 23 = dktX10_draftColumn_1 := dk_seg dksX10_draftColumn_0 23 rfl rfl
theorem dX10_draftColumn_0 : decode cX10_draftColumn 0 = .ok (.iconst (-1), 1) := dk_2 (dk_at dksX10_draftColumn_0 0 rfl rfl)
theorem dX10_draftColumn_1 : decode cX10_draftColumn 1 = .ok (.istore_n 2, 1) := dk_61 (dk_at dksX10_draftColumn_0 1 rfl rfl)
theorem dX10_draftColumn_2 : decode cX10_draftColumn 2 = .ok (.iconst 0, 1) := dk_3 (dk_at dksX10_draftColumn_0 2 rfl rfl)
theorem dX10_draftColumn_3 : decode cX10_draftColumn 3 = .ok (.istore_n 3, 1) := dk_62 (dk_at dksX10_draftColumn_0 3 rfl rfl)
theorem dX10_draftColumn_4 : decode cX10_draftColumn 4 = .ok (.iload_n 3, 1) := dk_29 (dk_at dksX10_draftColumn_0 4 rfl rfl)
theorem dX10_draftColumn_5 : decode cX10_draftColumn 5 = .ok (.aload_n 0, 1) := dk_42 (dk_at dksX10_draftColumn_0 5 rfl rfl)
theorem dX10_draftColumn_6 : decode cX10_draftColumn 6 = .ok (.getfield 104, 3) := dk_180 0 104 (dk_at dksX10_draftColumn_0 6 rfl rfl)
theorem dX10_draftColumn_9 : decode cX10_draftColumn 9 = .ok (.if_icmp .ge 25, 3) := dk_162 0 25 (dk_at dksX10_draftColumn_0 9 rfl rfl)
theorem dX10_draftColumn_12 : decode cX10_draftColumn 12 = .ok (.aload_n 0, 1) := dk_42 (dk_at dksX10_draftColumn_0 12 rfl rfl)
theorem dX10_draftColumn_13 : decode cX10_draftColumn 13 = .ok (.getfield 26, 3) := dk_180 0 26 (dk_at dksX10_draftColumn_0 13 rfl rfl)
theorem dX10_draftColumn_16 : decode cX10_draftColumn 16 = .ok (.iload_n 3, 1) := dk_29 (dk_at dksX10_draftColumn_0 16 rfl rfl)
theorem dX10_draftColumn_17 : decode cX10_draftColumn 17 = .ok (.iaload, 1) := dk_46 (dk_at dksX10_draftColumn_0 17 rfl rfl)
theorem dX10_draftColumn_18 : decode cX10_draftColumn 18 = .ok (.iload_n 1, 1) := dk_27 (dk_at dksX10_draftColumn_0 18 rfl rfl)
theorem dX10_draftColumn_19 : decode cX10_draftColumn 19 = .ok (.if_icmp .ne 7, 3) := dk_160 0 7 (dk_at dksX10_draftColumn_0 19 rfl rfl)
theorem dX10_draftColumn_22 : decode cX10_draftColumn 22 = .ok (.iload_n 3, 1) := dk_29 (dk_at dksX10_draftColumn_0 22 rfl rfl)
theorem dX10_draftColumn_23 : decode cX10_draftColumn 23 = .ok (.goto 4, 3) := dk_167 0 4 (dk_at dksX10_draftColumn_1 0 rfl rfl)
theorem dX10_draftColumn_26 : decode cX10_draftColumn 26 = .ok (.iload_n 2, 1) := dk_28 (dk_at dksX10_draftColumn_1 3 rfl rfl)
theorem dX10_draftColumn_27 : decode cX10_draftColumn 27 = .ok (.istore_n 2, 1) := dk_61 (dk_at dksX10_draftColumn_1 4 rfl rfl)
theorem dX10_draftColumn_28 : decode cX10_draftColumn 28 = .ok (.iinc 3 1, 3) := dk_132 3 1 (dk_at dksX10_draftColumn_1 5 rfl rfl)
theorem dX10_draftColumn_31 : decode cX10_draftColumn 31 = .ok (.goto (-27), 3) := dk_167 255 229 (dk_at dksX10_draftColumn_1 8 rfl rfl)
theorem dX10_draftColumn_34 : decode cX10_draftColumn 34 = .ok (.iload_n 2, 1) := dk_28 (dk_at dksX10_draftColumn_1 11 rfl rfl)
theorem dX10_draftColumn_35 : decode cX10_draftColumn 35 = .ok (.ireturn, 1) := dk_172 (dk_at dksX10_draftColumn_1 12 rfl rfl)
abbrev cX10_take : ByteArray := prog_14_method_12_code
def yX10_take : MethodName := ⟨RX10, "take", "()V"⟩
def dkwX10_take_11 : List UInt8 := [3, 181, 0, 146, 42, 3, 181, 0, 149, 177]
abbrev dktX10_take_11 : List UInt8 := dkwX10_take_11 ++ []
def dkwX10_take_10 : List UInt8 := [162, 0, 23, 42, 180, 0, 41, 28, 3, 84, 42, 180, 0, 48, 28, 3, 79, 132, 2, 1, 167, 255, 234, 42]
abbrev dktX10_take_10 : List UInt8 := dkwX10_take_10 ++ dktX10_take_11
def dkwX10_take_9 : List UInt8 := [180, 0, 56, 28, 3, 79, 42, 180, 0, 59, 28, 3, 79, 132, 2, 1, 167, 255, 209, 3, 61, 28, 6]
abbrev dktX10_take_9 : List UInt8 := dkwX10_take_9 ++ dktX10_take_10
def dkwX10_take_8 : List UInt8 := [180, 0, 35, 28, 28, 42, 180, 0, 140, 162, 0, 12, 42, 180, 0, 26, 28, 46, 167, 0, 4, 2, 79, 42]
abbrev dktX10_take_8 : List UInt8 := dkwX10_take_8 ++ dktX10_take_9
def dkwX10_take_7 : List UInt8 := [28, 104, 16, 6, 96, 46, 79, 132, 2, 1, 167, 255, 126, 3, 61, 28, 16, 6, 162, 0, 47, 42]
abbrev dktX10_take_7 : List UInt8 := dkwX10_take_7 ++ dktX10_take_8
def dkwX10_take_6 : List UInt8 := [46, 79, 132, 1, 1, 42, 180, 0, 38, 16, 7, 28, 104, 42, 180, 0, 143, 96, 42, 180, 0, 29, 16, 7]
abbrev dktX10_take_6 : List UInt8 := dkwX10_take_6 ++ dktX10_take_7
def dkwX10_take_5 : List UInt8 := [42, 180, 0, 32, 28, 46, 153, 0, 23, 42, 180, 0, 38, 16, 7, 28, 104, 27, 96, 42, 180, 0, 32, 28]
abbrev dktX10_take_5 : List UInt8 := dkwX10_take_5 ++ dktX10_take_6
def dkwX10_take_4 : List UInt8 := [16, 7, 28, 104, 29, 96, 42, 180, 0, 29, 16, 7, 28, 104, 29, 96, 46, 79, 132, 3, 1, 167, 255, 223]
abbrev dktX10_take_4 : List UInt8 := dkwX10_take_4 ++ dktX10_take_5
def dkwX10_take_3 : List UInt8 := [96, 3, 79, 132, 3, 1, 167, 255, 235, 3, 62, 29, 42, 180, 0, 140, 162, 0, 31, 42, 180, 0, 38]
abbrev dktX10_take_3 : List UInt8 := dkwX10_take_3 ++ dktX10_take_4
def dkwX10_take_2 : List UInt8 := [42, 180, 0, 137, 162, 0, 128, 3, 62, 29, 16, 7, 162, 0, 21, 42, 180, 0, 38, 16, 7, 28, 104, 29]
abbrev dktX10_take_2 : List UInt8 := dkwX10_take_2 ++ dktX10_take_3
def dkwX10_take_1 : List UInt8 := [181, 0, 140, 42, 42, 180, 0, 104, 42, 180, 0, 107, 96, 181, 0, 143, 42, 180, 0, 104, 60, 3, 61, 28]
abbrev dktX10_take_1 : List UInt8 := dkwX10_take_1 ++ dktX10_take_2
def dkwX10_take_0 : List UInt8 := [42, 2, 181, 0, 13, 42, 4, 181, 0, 133, 42, 42, 180, 0, 110, 181, 0, 137, 42, 42, 180, 0, 104]
abbrev dktX10_take_0 : List UInt8 := dkwX10_take_0 ++ dktX10_take_1
theorem dksX10_take_0 : cX10_take.data.toList.drop 0 = dktX10_take_0 := by decide +kernel
theorem dksX10_take_1 : cX10_take.data.toList.drop 23 = dktX10_take_1 := dk_seg dksX10_take_0 23 rfl rfl
theorem dksX10_take_2 : cX10_take.data.toList.drop 47 = dktX10_take_2 := dk_seg dksX10_take_1 24 rfl rfl
theorem dksX10_take_3 : cX10_take.data.toList.drop 71 = dktX10_take_3 := dk_seg dksX10_take_2 24 rfl rfl
theorem dksX10_take_4 : cX10_take.data.toList.drop 94 = dktX10_take_4 := dk_seg dksX10_take_3 23 rfl rfl
theorem dksX10_take_5 : cX10_take.data.toList.drop 118 = dktX10_take_5 := dk_seg dksX10_take_4 24 rfl rfl
theorem dksX10_take_6 : cX10_take.data.toList.drop 142 = dktX10_take_6 := dk_seg dksX10_take_5 24 rfl rfl
theorem dksX10_take_7 : cX10_take.data.toList.drop 166 = dktX10_take_7 := dk_seg dksX10_take_6 24 rfl rfl
theorem dksX10_take_8 : cX10_take.data.toList.drop 188 = dktX10_take_8 := dk_seg dksX10_take_7 22 rfl rfl
theorem dksX10_take_9 : cX10_take.data.toList.drop 212 = dktX10_take_9 := dk_seg dksX10_take_8 24 rfl rfl
theorem dksX10_take_10 : cX10_take.data.toList.drop 235 = dktX10_take_10 := dk_seg dksX10_take_9 23 rfl rfl
theorem dksX10_take_11 : cX10_take.data.toList.drop 259 = dktX10_take_11 := dk_seg dksX10_take_10 24 rfl rfl
theorem dX10_take_0 : decode cX10_take 0 = .ok (.aload_n 0, 1) := dk_42 (dk_at dksX10_take_0 0 rfl rfl)
theorem dX10_take_1 : decode cX10_take 1 = .ok (.iconst (-1), 1) := dk_2 (dk_at dksX10_take_0 1 rfl rfl)
theorem dX10_take_2 : decode cX10_take 2 = .ok (.putfield 13, 3) := dk_181 0 13 (dk_at dksX10_take_0 2 rfl rfl)
theorem dX10_take_5 : decode cX10_take 5 = .ok (.aload_n 0, 1) := dk_42 (dk_at dksX10_take_0 5 rfl rfl)
theorem dX10_take_6 : decode cX10_take 6 = .ok (.iconst 1, 1) := dk_4 (dk_at dksX10_take_0 6 rfl rfl)
theorem dX10_take_7 : decode cX10_take 7 = .ok (.putfield 133, 3) := dk_181 0 133 (dk_at dksX10_take_0 7 rfl rfl)
theorem dX10_take_10 : decode cX10_take 10 = .ok (.aload_n 0, 1) := dk_42 (dk_at dksX10_take_0 10 rfl rfl)
theorem dX10_take_11 : decode cX10_take 11 = .ok (.aload_n 0, 1) := dk_42 (dk_at dksX10_take_0 11 rfl rfl)
theorem dX10_take_12 : decode cX10_take 12 = .ok (.getfield 110, 3) := dk_180 0 110 (dk_at dksX10_take_0 12 rfl rfl)
theorem dX10_take_15 : decode cX10_take 15 = .ok (.putfield 137, 3) := dk_181 0 137 (dk_at dksX10_take_0 15 rfl rfl)
theorem dX10_take_18 : decode cX10_take 18 = .ok (.aload_n 0, 1) := dk_42 (dk_at dksX10_take_0 18 rfl rfl)
theorem dX10_take_19 : decode cX10_take 19 = .ok (.aload_n 0, 1) := dk_42 (dk_at dksX10_take_0 19 rfl rfl)
theorem dX10_take_20 : decode cX10_take 20 = .ok (.getfield 104, 3) := dk_180 0 104 (dk_at dksX10_take_0 20 rfl rfl)
theorem dX10_take_23 : decode cX10_take 23 = .ok (.putfield 140, 3) := dk_181 0 140 (dk_at dksX10_take_1 0 rfl rfl)
theorem dX10_take_26 : decode cX10_take 26 = .ok (.aload_n 0, 1) := dk_42 (dk_at dksX10_take_1 3 rfl rfl)
theorem dX10_take_27 : decode cX10_take 27 = .ok (.aload_n 0, 1) := dk_42 (dk_at dksX10_take_1 4 rfl rfl)
theorem dX10_take_28 : decode cX10_take 28 = .ok (.getfield 104, 3) := dk_180 0 104 (dk_at dksX10_take_1 5 rfl rfl)
theorem dX10_take_31 : decode cX10_take 31 = .ok (.aload_n 0, 1) := dk_42 (dk_at dksX10_take_1 8 rfl rfl)
theorem dX10_take_32 : decode cX10_take 32 = .ok (.getfield 107, 3) := dk_180 0 107 (dk_at dksX10_take_1 9 rfl rfl)
theorem dX10_take_35 : decode cX10_take 35 = .ok (.iadd, 1) := dk_96 (dk_at dksX10_take_1 12 rfl rfl)
theorem dX10_take_36 : decode cX10_take 36 = .ok (.putfield 143, 3) := dk_181 0 143 (dk_at dksX10_take_1 13 rfl rfl)
theorem dX10_take_39 : decode cX10_take 39 = .ok (.aload_n 0, 1) := dk_42 (dk_at dksX10_take_1 16 rfl rfl)
theorem dX10_take_40 : decode cX10_take 40 = .ok (.getfield 104, 3) := dk_180 0 104 (dk_at dksX10_take_1 17 rfl rfl)
theorem dX10_take_43 : decode cX10_take 43 = .ok (.istore_n 1, 1) := dk_60 (dk_at dksX10_take_1 20 rfl rfl)
theorem dX10_take_44 : decode cX10_take 44 = .ok (.iconst 0, 1) := dk_3 (dk_at dksX10_take_1 21 rfl rfl)
theorem dX10_take_45 : decode cX10_take 45 = .ok (.istore_n 2, 1) := dk_61 (dk_at dksX10_take_1 22 rfl rfl)
theorem dX10_take_46 : decode cX10_take 46 = .ok (.iload_n 2, 1) := dk_28 (dk_at dksX10_take_1 23 rfl rfl)
theorem dX10_take_47 : decode cX10_take 47 = .ok (.aload_n 0, 1) := dk_42 (dk_at dksX10_take_2 0 rfl rfl)
theorem dX10_take_48 : decode cX10_take 48 = .ok (.getfield 137, 3) := dk_180 0 137 (dk_at dksX10_take_2 1 rfl rfl)
theorem dX10_take_51 : decode cX10_take 51 = .ok (.if_icmp .ge 128, 3) := dk_162 0 128 (dk_at dksX10_take_2 4 rfl rfl)
theorem dX10_take_54 : decode cX10_take 54 = .ok (.iconst 0, 1) := dk_3 (dk_at dksX10_take_2 7 rfl rfl)
theorem dX10_take_55 : decode cX10_take 55 = .ok (.istore_n 3, 1) := dk_62 (dk_at dksX10_take_2 8 rfl rfl)
theorem dX10_take_56 : decode cX10_take 56 = .ok (.iload_n 3, 1) := dk_29 (dk_at dksX10_take_2 9 rfl rfl)
theorem dX10_take_57 : decode cX10_take 57 = .ok (.bipush 7, 2) := dk_16 7 (dk_at dksX10_take_2 10 rfl rfl)
theorem dX10_take_59 : decode cX10_take 59 = .ok (.if_icmp .ge 21, 3) := dk_162 0 21 (dk_at dksX10_take_2 12 rfl rfl)
theorem dX10_take_62 : decode cX10_take 62 = .ok (.aload_n 0, 1) := dk_42 (dk_at dksX10_take_2 15 rfl rfl)
theorem dX10_take_63 : decode cX10_take 63 = .ok (.getfield 38, 3) := dk_180 0 38 (dk_at dksX10_take_2 16 rfl rfl)
theorem dX10_take_66 : decode cX10_take 66 = .ok (.bipush 7, 2) := dk_16 7 (dk_at dksX10_take_2 19 rfl rfl)
theorem dX10_take_68 : decode cX10_take 68 = .ok (.iload_n 2, 1) := dk_28 (dk_at dksX10_take_2 21 rfl rfl)
theorem dX10_take_69 : decode cX10_take 69 = .ok (.imul, 1) := dk_104 (dk_at dksX10_take_2 22 rfl rfl)
theorem dX10_take_70 : decode cX10_take 70 = .ok (.iload_n 3, 1) := dk_29 (dk_at dksX10_take_2 23 rfl rfl)
theorem dX10_take_71 : decode cX10_take 71 = .ok (.iadd, 1) := dk_96 (dk_at dksX10_take_3 0 rfl rfl)
theorem dX10_take_72 : decode cX10_take 72 = .ok (.iconst 0, 1) := dk_3 (dk_at dksX10_take_3 1 rfl rfl)
theorem dX10_take_73 : decode cX10_take 73 = .ok (.iastore, 1) := dk_79 (dk_at dksX10_take_3 2 rfl rfl)
theorem dX10_take_74 : decode cX10_take 74 = .ok (.iinc 3 1, 3) := dk_132 3 1 (dk_at dksX10_take_3 3 rfl rfl)
theorem dX10_take_77 : decode cX10_take 77 = .ok (.goto (-21), 3) := dk_167 255 235 (dk_at dksX10_take_3 6 rfl rfl)
theorem dX10_take_80 : decode cX10_take 80 = .ok (.iconst 0, 1) := dk_3 (dk_at dksX10_take_3 9 rfl rfl)
theorem dX10_take_81 : decode cX10_take 81 = .ok (.istore_n 3, 1) := dk_62 (dk_at dksX10_take_3 10 rfl rfl)
theorem dX10_take_82 : decode cX10_take 82 = .ok (.iload_n 3, 1) := dk_29 (dk_at dksX10_take_3 11 rfl rfl)
theorem dX10_take_83 : decode cX10_take 83 = .ok (.aload_n 0, 1) := dk_42 (dk_at dksX10_take_3 12 rfl rfl)
theorem dX10_take_84 : decode cX10_take 84 = .ok (.getfield 140, 3) := dk_180 0 140 (dk_at dksX10_take_3 13 rfl rfl)
theorem dX10_take_87 : decode cX10_take 87 = .ok (.if_icmp .ge 31, 3) := dk_162 0 31 (dk_at dksX10_take_3 16 rfl rfl)
theorem dX10_take_90 : decode cX10_take 90 = .ok (.aload_n 0, 1) := dk_42 (dk_at dksX10_take_3 19 rfl rfl)
theorem dX10_take_91 : decode cX10_take 91 = .ok (.getfield 38, 3) := dk_180 0 38 (dk_at dksX10_take_3 20 rfl rfl)
theorem dX10_take_94 : decode cX10_take 94 = .ok (.bipush 7, 2) := dk_16 7 (dk_at dksX10_take_4 0 rfl rfl)
theorem dX10_take_96 : decode cX10_take 96 = .ok (.iload_n 2, 1) := dk_28 (dk_at dksX10_take_4 2 rfl rfl)
theorem dX10_take_97 : decode cX10_take 97 = .ok (.imul, 1) := dk_104 (dk_at dksX10_take_4 3 rfl rfl)
theorem dX10_take_98 : decode cX10_take 98 = .ok (.iload_n 3, 1) := dk_29 (dk_at dksX10_take_4 4 rfl rfl)
theorem dX10_take_99 : decode cX10_take 99 = .ok (.iadd, 1) := dk_96 (dk_at dksX10_take_4 5 rfl rfl)
theorem dX10_take_100 : decode cX10_take 100 = .ok (.aload_n 0, 1) := dk_42 (dk_at dksX10_take_4 6 rfl rfl)
theorem dX10_take_101 : decode cX10_take 101 = .ok (.getfield 29, 3) := dk_180 0 29 (dk_at dksX10_take_4 7 rfl rfl)
theorem dX10_take_104 : decode cX10_take 104 = .ok (.bipush 7, 2) := dk_16 7 (dk_at dksX10_take_4 10 rfl rfl)
theorem dX10_take_106 : decode cX10_take 106 = .ok (.iload_n 2, 1) := dk_28 (dk_at dksX10_take_4 12 rfl rfl)
theorem dX10_take_107 : decode cX10_take 107 = .ok (.imul, 1) := dk_104 (dk_at dksX10_take_4 13 rfl rfl)
theorem dX10_take_108 : decode cX10_take 108 = .ok (.iload_n 3, 1) := dk_29 (dk_at dksX10_take_4 14 rfl rfl)
theorem dX10_take_109 : decode cX10_take 109 = .ok (.iadd, 1) := dk_96 (dk_at dksX10_take_4 15 rfl rfl)
theorem dX10_take_110 : decode cX10_take 110 = .ok (.iaload, 1) := dk_46 (dk_at dksX10_take_4 16 rfl rfl)
theorem dX10_take_111 : decode cX10_take 111 = .ok (.iastore, 1) := dk_79 (dk_at dksX10_take_4 17 rfl rfl)
theorem dX10_take_112 : decode cX10_take 112 = .ok (.iinc 3 1, 3) := dk_132 3 1 (dk_at dksX10_take_4 18 rfl rfl)
theorem dX10_take_115 : decode cX10_take 115 = .ok (.goto (-33), 3) := dk_167 255 223 (dk_at dksX10_take_4 21 rfl rfl)
theorem dX10_take_118 : decode cX10_take 118 = .ok (.aload_n 0, 1) := dk_42 (dk_at dksX10_take_5 0 rfl rfl)
theorem dX10_take_119 : decode cX10_take 119 = .ok (.getfield 32, 3) := dk_180 0 32 (dk_at dksX10_take_5 1 rfl rfl)
theorem dX10_take_122 : decode cX10_take 122 = .ok (.iload_n 2, 1) := dk_28 (dk_at dksX10_take_5 4 rfl rfl)
theorem dX10_take_123 : decode cX10_take 123 = .ok (.iaload, 1) := dk_46 (dk_at dksX10_take_5 5 rfl rfl)
theorem dX10_take_124 : decode cX10_take 124 = .ok (.ifCond .eq 23, 3) := dk_153 0 23 (dk_at dksX10_take_5 6 rfl rfl)
theorem dX10_take_127 : decode cX10_take 127 = .ok (.aload_n 0, 1) := dk_42 (dk_at dksX10_take_5 9 rfl rfl)
theorem dX10_take_128 : decode cX10_take 128 = .ok (.getfield 38, 3) := dk_180 0 38 (dk_at dksX10_take_5 10 rfl rfl)
theorem dX10_take_131 : decode cX10_take 131 = .ok (.bipush 7, 2) := dk_16 7 (dk_at dksX10_take_5 13 rfl rfl)
theorem dX10_take_133 : decode cX10_take 133 = .ok (.iload_n 2, 1) := dk_28 (dk_at dksX10_take_5 15 rfl rfl)
theorem dX10_take_134 : decode cX10_take 134 = .ok (.imul, 1) := dk_104 (dk_at dksX10_take_5 16 rfl rfl)
theorem dX10_take_135 : decode cX10_take 135 = .ok (.iload_n 1, 1) := dk_27 (dk_at dksX10_take_5 17 rfl rfl)
theorem dX10_take_136 : decode cX10_take 136 = .ok (.iadd, 1) := dk_96 (dk_at dksX10_take_5 18 rfl rfl)
theorem dX10_take_137 : decode cX10_take 137 = .ok (.aload_n 0, 1) := dk_42 (dk_at dksX10_take_5 19 rfl rfl)
theorem dX10_take_138 : decode cX10_take 138 = .ok (.getfield 32, 3) := dk_180 0 32 (dk_at dksX10_take_5 20 rfl rfl)
theorem dX10_take_141 : decode cX10_take 141 = .ok (.iload_n 2, 1) := dk_28 (dk_at dksX10_take_5 23 rfl rfl)
theorem dX10_take_142 : decode cX10_take 142 = .ok (.iaload, 1) := dk_46 (dk_at dksX10_take_6 0 rfl rfl)
theorem dX10_take_143 : decode cX10_take 143 = .ok (.iastore, 1) := dk_79 (dk_at dksX10_take_6 1 rfl rfl)
theorem dX10_take_144 : decode cX10_take 144 = .ok (.iinc 1 1, 3) := dk_132 1 1 (dk_at dksX10_take_6 2 rfl rfl)
theorem dX10_take_147 : decode cX10_take 147 = .ok (.aload_n 0, 1) := dk_42 (dk_at dksX10_take_6 5 rfl rfl)
theorem dX10_take_148 : decode cX10_take 148 = .ok (.getfield 38, 3) := dk_180 0 38 (dk_at dksX10_take_6 6 rfl rfl)
theorem dX10_take_151 : decode cX10_take 151 = .ok (.bipush 7, 2) := dk_16 7 (dk_at dksX10_take_6 9 rfl rfl)
theorem dX10_take_153 : decode cX10_take 153 = .ok (.iload_n 2, 1) := dk_28 (dk_at dksX10_take_6 11 rfl rfl)
theorem dX10_take_154 : decode cX10_take 154 = .ok (.imul, 1) := dk_104 (dk_at dksX10_take_6 12 rfl rfl)
theorem dX10_take_155 : decode cX10_take 155 = .ok (.aload_n 0, 1) := dk_42 (dk_at dksX10_take_6 13 rfl rfl)
theorem dX10_take_156 : decode cX10_take 156 = .ok (.getfield 143, 3) := dk_180 0 143 (dk_at dksX10_take_6 14 rfl rfl)
theorem dX10_take_159 : decode cX10_take 159 = .ok (.iadd, 1) := dk_96 (dk_at dksX10_take_6 17 rfl rfl)
theorem dX10_take_160 : decode cX10_take 160 = .ok (.aload_n 0, 1) := dk_42 (dk_at dksX10_take_6 18 rfl rfl)
theorem dX10_take_161 : decode cX10_take 161 = .ok (.getfield 29, 3) := dk_180 0 29 (dk_at dksX10_take_6 19 rfl rfl)
theorem dX10_take_164 : decode cX10_take 164 = .ok (.bipush 7, 2) := dk_16 7 (dk_at dksX10_take_6 22 rfl rfl)
theorem dX10_take_166 : decode cX10_take 166 = .ok (.iload_n 2, 1) := dk_28 (dk_at dksX10_take_7 0 rfl rfl)
theorem dX10_take_167 : decode cX10_take 167 = .ok (.imul, 1) := dk_104 (dk_at dksX10_take_7 1 rfl rfl)
theorem dX10_take_168 : decode cX10_take 168 = .ok (.bipush 6, 2) := dk_16 6 (dk_at dksX10_take_7 2 rfl rfl)
theorem dX10_take_170 : decode cX10_take 170 = .ok (.iadd, 1) := dk_96 (dk_at dksX10_take_7 4 rfl rfl)
theorem dX10_take_171 : decode cX10_take 171 = .ok (.iaload, 1) := dk_46 (dk_at dksX10_take_7 5 rfl rfl)
theorem dX10_take_172 : decode cX10_take 172 = .ok (.iastore, 1) := dk_79 (dk_at dksX10_take_7 6 rfl rfl)
theorem dX10_take_173 : decode cX10_take 173 = .ok (.iinc 2 1, 3) := dk_132 2 1 (dk_at dksX10_take_7 7 rfl rfl)
theorem dX10_take_176 : decode cX10_take 176 = .ok (.goto (-130), 3) := dk_167 255 126 (dk_at dksX10_take_7 10 rfl rfl)
theorem dX10_take_179 : decode cX10_take 179 = .ok (.iconst 0, 1) := dk_3 (dk_at dksX10_take_7 13 rfl rfl)
theorem dX10_take_180 : decode cX10_take 180 = .ok (.istore_n 2, 1) := dk_61 (dk_at dksX10_take_7 14 rfl rfl)
theorem dX10_take_181 : decode cX10_take 181 = .ok (.iload_n 2, 1) := dk_28 (dk_at dksX10_take_7 15 rfl rfl)
theorem dX10_take_182 : decode cX10_take 182 = .ok (.bipush 6, 2) := dk_16 6 (dk_at dksX10_take_7 16 rfl rfl)
theorem dX10_take_184 : decode cX10_take 184 = .ok (.if_icmp .ge 47, 3) := dk_162 0 47 (dk_at dksX10_take_7 18 rfl rfl)
theorem dX10_take_187 : decode cX10_take 187 = .ok (.aload_n 0, 1) := dk_42 (dk_at dksX10_take_7 21 rfl rfl)
theorem dX10_take_188 : decode cX10_take 188 = .ok (.getfield 35, 3) := dk_180 0 35 (dk_at dksX10_take_8 0 rfl rfl)
theorem dX10_take_191 : decode cX10_take 191 = .ok (.iload_n 2, 1) := dk_28 (dk_at dksX10_take_8 3 rfl rfl)
theorem dX10_take_192 : decode cX10_take 192 = .ok (.iload_n 2, 1) := dk_28 (dk_at dksX10_take_8 4 rfl rfl)
theorem dX10_take_193 : decode cX10_take 193 = .ok (.aload_n 0, 1) := dk_42 (dk_at dksX10_take_8 5 rfl rfl)
theorem dX10_take_194 : decode cX10_take 194 = .ok (.getfield 140, 3) := dk_180 0 140 (dk_at dksX10_take_8 6 rfl rfl)
theorem dX10_take_197 : decode cX10_take 197 = .ok (.if_icmp .ge 12, 3) := dk_162 0 12 (dk_at dksX10_take_8 9 rfl rfl)
theorem dX10_take_200 : decode cX10_take 200 = .ok (.aload_n 0, 1) := dk_42 (dk_at dksX10_take_8 12 rfl rfl)
theorem dX10_take_201 : decode cX10_take 201 = .ok (.getfield 26, 3) := dk_180 0 26 (dk_at dksX10_take_8 13 rfl rfl)
theorem dX10_take_204 : decode cX10_take 204 = .ok (.iload_n 2, 1) := dk_28 (dk_at dksX10_take_8 16 rfl rfl)
theorem dX10_take_205 : decode cX10_take 205 = .ok (.iaload, 1) := dk_46 (dk_at dksX10_take_8 17 rfl rfl)
theorem dX10_take_206 : decode cX10_take 206 = .ok (.goto 4, 3) := dk_167 0 4 (dk_at dksX10_take_8 18 rfl rfl)
theorem dX10_take_209 : decode cX10_take 209 = .ok (.iconst (-1), 1) := dk_2 (dk_at dksX10_take_8 21 rfl rfl)
theorem dX10_take_210 : decode cX10_take 210 = .ok (.iastore, 1) := dk_79 (dk_at dksX10_take_8 22 rfl rfl)
theorem dX10_take_211 : decode cX10_take 211 = .ok (.aload_n 0, 1) := dk_42 (dk_at dksX10_take_8 23 rfl rfl)
theorem dX10_take_212 : decode cX10_take 212 = .ok (.getfield 56, 3) := dk_180 0 56 (dk_at dksX10_take_9 0 rfl rfl)
theorem dX10_take_215 : decode cX10_take 215 = .ok (.iload_n 2, 1) := dk_28 (dk_at dksX10_take_9 3 rfl rfl)
theorem dX10_take_216 : decode cX10_take 216 = .ok (.iconst 0, 1) := dk_3 (dk_at dksX10_take_9 4 rfl rfl)
theorem dX10_take_217 : decode cX10_take 217 = .ok (.iastore, 1) := dk_79 (dk_at dksX10_take_9 5 rfl rfl)
theorem dX10_take_218 : decode cX10_take 218 = .ok (.aload_n 0, 1) := dk_42 (dk_at dksX10_take_9 6 rfl rfl)
theorem dX10_take_219 : decode cX10_take 219 = .ok (.getfield 59, 3) := dk_180 0 59 (dk_at dksX10_take_9 7 rfl rfl)
theorem dX10_take_222 : decode cX10_take 222 = .ok (.iload_n 2, 1) := dk_28 (dk_at dksX10_take_9 10 rfl rfl)
theorem dX10_take_223 : decode cX10_take 223 = .ok (.iconst 0, 1) := dk_3 (dk_at dksX10_take_9 11 rfl rfl)
theorem dX10_take_224 : decode cX10_take 224 = .ok (.iastore, 1) := dk_79 (dk_at dksX10_take_9 12 rfl rfl)
theorem dX10_take_225 : decode cX10_take 225 = .ok (.iinc 2 1, 3) := dk_132 2 1 (dk_at dksX10_take_9 13 rfl rfl)
theorem dX10_take_228 : decode cX10_take 228 = .ok (.goto (-47), 3) := dk_167 255 209 (dk_at dksX10_take_9 16 rfl rfl)
theorem dX10_take_231 : decode cX10_take 231 = .ok (.iconst 0, 1) := dk_3 (dk_at dksX10_take_9 19 rfl rfl)
theorem dX10_take_232 : decode cX10_take 232 = .ok (.istore_n 2, 1) := dk_61 (dk_at dksX10_take_9 20 rfl rfl)
theorem dX10_take_233 : decode cX10_take 233 = .ok (.iload_n 2, 1) := dk_28 (dk_at dksX10_take_9 21 rfl rfl)
theorem dX10_take_234 : decode cX10_take 234 = .ok (.iconst 3, 1) := dk_6 (dk_at dksX10_take_9 22 rfl rfl)
theorem dX10_take_235 : decode cX10_take 235 = .ok (.if_icmp .ge 23, 3) := dk_162 0 23 (dk_at dksX10_take_10 0 rfl rfl)
theorem dX10_take_238 : decode cX10_take 238 = .ok (.aload_n 0, 1) := dk_42 (dk_at dksX10_take_10 3 rfl rfl)
theorem dX10_take_239 : decode cX10_take 239 = .ok (.getfield 41, 3) := dk_180 0 41 (dk_at dksX10_take_10 4 rfl rfl)
theorem dX10_take_242 : decode cX10_take 242 = .ok (.iload_n 2, 1) := dk_28 (dk_at dksX10_take_10 7 rfl rfl)
theorem dX10_take_243 : decode cX10_take 243 = .ok (.iconst 0, 1) := dk_3 (dk_at dksX10_take_10 8 rfl rfl)
theorem dX10_take_244 : decode cX10_take 244 = .ok (.bastore, 1) := dk_84 (dk_at dksX10_take_10 9 rfl rfl)
theorem dX10_take_245 : decode cX10_take 245 = .ok (.aload_n 0, 1) := dk_42 (dk_at dksX10_take_10 10 rfl rfl)
theorem dX10_take_246 : decode cX10_take 246 = .ok (.getfield 48, 3) := dk_180 0 48 (dk_at dksX10_take_10 11 rfl rfl)
theorem dX10_take_249 : decode cX10_take 249 = .ok (.iload_n 2, 1) := dk_28 (dk_at dksX10_take_10 14 rfl rfl)
theorem dX10_take_250 : decode cX10_take 250 = .ok (.iconst 0, 1) := dk_3 (dk_at dksX10_take_10 15 rfl rfl)
theorem dX10_take_251 : decode cX10_take 251 = .ok (.iastore, 1) := dk_79 (dk_at dksX10_take_10 16 rfl rfl)
theorem dX10_take_252 : decode cX10_take 252 = .ok (.iinc 2 1, 3) := dk_132 2 1 (dk_at dksX10_take_10 17 rfl rfl)
theorem dX10_take_255 : decode cX10_take 255 = .ok (.goto (-22), 3) := dk_167 255 234 (dk_at dksX10_take_10 20 rfl rfl)
theorem dX10_take_258 : decode cX10_take 258 = .ok (.aload_n 0, 1) := dk_42 (dk_at dksX10_take_10 23 rfl rfl)
theorem dX10_take_259 : decode cX10_take 259 = .ok (.iconst 0, 1) := dk_3 (dk_at dksX10_take_11 0 rfl rfl)
theorem dX10_take_260 : decode cX10_take 260 = .ok (.putfield 146, 3) := dk_181 0 146 (dk_at dksX10_take_11 1 rfl rfl)
theorem dX10_take_263 : decode cX10_take 263 = .ok (.aload_n 0, 1) := dk_42 (dk_at dksX10_take_11 4 rfl rfl)
theorem dX10_take_264 : decode cX10_take 264 = .ok (.iconst 0, 1) := dk_3 (dk_at dksX10_take_11 5 rfl rfl)
theorem dX10_take_265 : decode cX10_take 265 = .ok (.putfield 149, 3) := dk_181 0 149 (dk_at dksX10_take_11 6 rfl rfl)
theorem dX10_take_268 : decode cX10_take 268 = .ok (.return_, 1) := dk_177 (dk_at dksX10_take_11 9 rfl rfl)
abbrev cX10_place : ByteArray := prog_14_method_13_code
def yX10_place : MethodName := ⟨RX10, "place", "()I"⟩
def dkwX10_place_0 : List UInt8 := [42, 3, 181, 0, 81, 42, 180, 0, 13, 172]
abbrev dktX10_place_0 : List UInt8 := dkwX10_place_0 ++ []
theorem dksX10_place_0 : cX10_place.data.toList.drop 0 = dktX10_place_0 := by decide +kernel
theorem dX10_place_0 : decode cX10_place 0 = .ok (.aload_n 0, 1) := dk_42 (dk_at dksX10_place_0 0 rfl rfl)
theorem dX10_place_1 : decode cX10_place 1 = .ok (.iconst 0, 1) := dk_3 (dk_at dksX10_place_0 1 rfl rfl)
theorem dX10_place_2 : decode cX10_place 2 = .ok (.putfield 81, 3) := dk_181 0 81 (dk_at dksX10_place_0 2 rfl rfl)
theorem dX10_place_5 : decode cX10_place 5 = .ok (.aload_n 0, 1) := dk_42 (dk_at dksX10_place_0 5 rfl rfl)
theorem dX10_place_6 : decode cX10_place 6 = .ok (.getfield 13, 3) := dk_180 0 13 (dk_at dksX10_place_0 6 rfl rfl)
theorem dX10_place_9 : decode cX10_place 9 = .ok (.ireturn, 1) := dk_172 (dk_at dksX10_place_0 9 rfl rfl)
abbrev cX10_count : ByteArray := prog_14_method_14_code
def yX10_count : MethodName := ⟨RX10, "count", "(I)I"⟩
def dkwX10_count_2 : List UInt8 := [167, 0, 4, 2, 172]
abbrev dktX10_count_2 : List UInt8 := dkwX10_count_2 ++ []
def dkwX10_count_1 : List UInt8 := [167, 0, 28, 27, 4, 160, 0, 10, 42, 180, 0, 143, 167, 0, 16, 27, 5, 160, 0, 10, 42, 180, 0, 140]
abbrev dktX10_count_1 : List UInt8 := dkwX10_count_1 ++ dktX10_count_2
def dkwX10_count_0 : List UInt8 := [42, 3, 181, 0, 81, 42, 180, 0, 133, 154, 0, 7, 2, 167, 0, 39, 27, 154, 0, 10, 42, 180, 0, 137]
abbrev dktX10_count_0 : List UInt8 := dkwX10_count_0 ++ dktX10_count_1
theorem dksX10_count_0 : cX10_count.data.toList.drop 0 = dktX10_count_0 := by decide +kernel
theorem dksX10_count_1 : cX10_count.data.toList.drop 24 = dktX10_count_1 := dk_seg dksX10_count_0 24 rfl rfl
theorem dksX10_count_2 : cX10_count.data.toList.drop 48 = dktX10_count_2 := dk_seg dksX10_count_1 24 rfl rfl
theorem dX10_count_0 : decode cX10_count 0 = .ok (.aload_n 0, 1) := dk_42 (dk_at dksX10_count_0 0 rfl rfl)
theorem dX10_count_1 : decode cX10_count 1 = .ok (.iconst 0, 1) := dk_3 (dk_at dksX10_count_0 1 rfl rfl)
theorem dX10_count_2 : decode cX10_count 2 = .ok (.putfield 81, 3) := dk_181 0 81 (dk_at dksX10_count_0 2 rfl rfl)
theorem dX10_count_5 : decode cX10_count 5 = .ok (.aload_n 0, 1) := dk_42 (dk_at dksX10_count_0 5 rfl rfl)
theorem dX10_count_6 : decode cX10_count 6 = .ok (.getfield 133, 3) := dk_180 0 133 (dk_at dksX10_count_0 6 rfl rfl)
theorem dX10_count_9 : decode cX10_count 9 = .ok (.ifCond .ne 7, 3) := dk_154 0 7 (dk_at dksX10_count_0 9 rfl rfl)
theorem dX10_count_12 : decode cX10_count 12 = .ok (.iconst (-1), 1) := dk_2 (dk_at dksX10_count_0 12 rfl rfl)
theorem dX10_count_13 : decode cX10_count 13 = .ok (.goto 39, 3) := dk_167 0 39 (dk_at dksX10_count_0 13 rfl rfl)
theorem dX10_count_16 : decode cX10_count 16 = .ok (.iload_n 1, 1) := dk_27 (dk_at dksX10_count_0 16 rfl rfl)
theorem dX10_count_17 : decode cX10_count 17 = .ok (.ifCond .ne 10, 3) := dk_154 0 10 (dk_at dksX10_count_0 17 rfl rfl)
theorem dX10_count_20 : decode cX10_count 20 = .ok (.aload_n 0, 1) := dk_42 (dk_at dksX10_count_0 20 rfl rfl)
theorem dX10_count_21 : decode cX10_count 21 = .ok (.getfield 137, 3) := dk_180 0 137 (dk_at dksX10_count_0 21 rfl rfl)
theorem dX10_count_24 : decode cX10_count 24 = .ok (.goto 28, 3) := dk_167 0 28 (dk_at dksX10_count_1 0 rfl rfl)
theorem dX10_count_27 : decode cX10_count 27 = .ok (.iload_n 1, 1) := dk_27 (dk_at dksX10_count_1 3 rfl rfl)
theorem dX10_count_28 : decode cX10_count 28 = .ok (.iconst 1, 1) := dk_4 (dk_at dksX10_count_1 4 rfl rfl)
theorem dX10_count_29 : decode cX10_count 29 = .ok (.if_icmp .ne 10, 3) := dk_160 0 10 (dk_at dksX10_count_1 5 rfl rfl)
theorem dX10_count_32 : decode cX10_count 32 = .ok (.aload_n 0, 1) := dk_42 (dk_at dksX10_count_1 8 rfl rfl)
theorem dX10_count_33 : decode cX10_count 33 = .ok (.getfield 143, 3) := dk_180 0 143 (dk_at dksX10_count_1 9 rfl rfl)
theorem dX10_count_36 : decode cX10_count 36 = .ok (.goto 16, 3) := dk_167 0 16 (dk_at dksX10_count_1 12 rfl rfl)
theorem dX10_count_39 : decode cX10_count 39 = .ok (.iload_n 1, 1) := dk_27 (dk_at dksX10_count_1 15 rfl rfl)
theorem dX10_count_40 : decode cX10_count 40 = .ok (.iconst 2, 1) := dk_5 (dk_at dksX10_count_1 16 rfl rfl)
theorem dX10_count_41 : decode cX10_count 41 = .ok (.if_icmp .ne 10, 3) := dk_160 0 10 (dk_at dksX10_count_1 17 rfl rfl)
theorem dX10_count_44 : decode cX10_count 44 = .ok (.aload_n 0, 1) := dk_42 (dk_at dksX10_count_1 20 rfl rfl)
theorem dX10_count_45 : decode cX10_count 45 = .ok (.getfield 140, 3) := dk_180 0 140 (dk_at dksX10_count_1 21 rfl rfl)
theorem dX10_count_48 : decode cX10_count 48 = .ok (.goto 4, 3) := dk_167 0 4 (dk_at dksX10_count_2 0 rfl rfl)
theorem dX10_count_51 : decode cX10_count 51 = .ok (.iconst (-1), 1) := dk_2 (dk_at dksX10_count_2 3 rfl rfl)
theorem dX10_count_52 : decode cX10_count 52 = .ok (.ireturn, 1) := dk_172 (dk_at dksX10_count_2 4 rfl rfl)
abbrev cX10_letter : ByteArray := prog_14_method_15_code
def yX10_letter : MethodName := ⟨RX10, "letter", "(I)I"⟩
def dkwX10_letter_1 : List UInt8 := [42, 180, 0, 35, 27, 46, 167, 0, 4, 2, 172]
abbrev dktX10_letter_1 : List UInt8 := dkwX10_letter_1 ++ []
def dkwX10_letter_0 : List UInt8 := [42, 3, 181, 0, 81, 42, 180, 0, 133, 153, 0, 24, 27, 155, 0, 20, 27, 42, 180, 0, 140, 162, 0, 12]
abbrev dktX10_letter_0 : List UInt8 := dkwX10_letter_0 ++ dktX10_letter_1
theorem dksX10_letter_0 : cX10_letter.data.toList.drop 0 = dktX10_letter_0 := by decide +kernel
theorem dksX10_letter_1 : cX10_letter.data.toList.drop 24 = dktX10_letter_1 := dk_seg dksX10_letter_0 24 rfl rfl
theorem dX10_letter_0 : decode cX10_letter 0 = .ok (.aload_n 0, 1) := dk_42 (dk_at dksX10_letter_0 0 rfl rfl)
theorem dX10_letter_1 : decode cX10_letter 1 = .ok (.iconst 0, 1) := dk_3 (dk_at dksX10_letter_0 1 rfl rfl)
theorem dX10_letter_2 : decode cX10_letter 2 = .ok (.putfield 81, 3) := dk_181 0 81 (dk_at dksX10_letter_0 2 rfl rfl)
theorem dX10_letter_5 : decode cX10_letter 5 = .ok (.aload_n 0, 1) := dk_42 (dk_at dksX10_letter_0 5 rfl rfl)
theorem dX10_letter_6 : decode cX10_letter 6 = .ok (.getfield 133, 3) := dk_180 0 133 (dk_at dksX10_letter_0 6 rfl rfl)
theorem dX10_letter_9 : decode cX10_letter 9 = .ok (.ifCond .eq 24, 3) := dk_153 0 24 (dk_at dksX10_letter_0 9 rfl rfl)
theorem dX10_letter_12 : decode cX10_letter 12 = .ok (.iload_n 1, 1) := dk_27 (dk_at dksX10_letter_0 12 rfl rfl)
theorem dX10_letter_13 : decode cX10_letter 13 = .ok (.ifCond .lt 20, 3) := dk_155 0 20 (dk_at dksX10_letter_0 13 rfl rfl)
theorem dX10_letter_16 : decode cX10_letter 16 = .ok (.iload_n 1, 1) := dk_27 (dk_at dksX10_letter_0 16 rfl rfl)
theorem dX10_letter_17 : decode cX10_letter 17 = .ok (.aload_n 0, 1) := dk_42 (dk_at dksX10_letter_0 17 rfl rfl)
theorem dX10_letter_18 : decode cX10_letter 18 = .ok (.getfield 140, 3) := dk_180 0 140 (dk_at dksX10_letter_0 18 rfl rfl)
theorem dX10_letter_21 : decode cX10_letter 21 = .ok (.if_icmp .ge 12, 3) := dk_162 0 12 (dk_at dksX10_letter_0 21 rfl rfl)
theorem dX10_letter_24 : decode cX10_letter 24 = .ok (.aload_n 0, 1) := dk_42 (dk_at dksX10_letter_1 0 rfl rfl)
theorem dX10_letter_25 : decode cX10_letter 25 = .ok (.getfield 35, 3) := dk_180 0 35 (dk_at dksX10_letter_1 1 rfl rfl)
theorem dX10_letter_28 : decode cX10_letter 28 = .ok (.iload_n 1, 1) := dk_27 (dk_at dksX10_letter_1 4 rfl rfl)
theorem dX10_letter_29 : decode cX10_letter 29 = .ok (.iaload, 1) := dk_46 (dk_at dksX10_letter_1 5 rfl rfl)
theorem dX10_letter_30 : decode cX10_letter 30 = .ok (.goto 4, 3) := dk_167 0 4 (dk_at dksX10_letter_1 6 rfl rfl)
theorem dX10_letter_33 : decode cX10_letter 33 = .ok (.iconst (-1), 1) := dk_2 (dk_at dksX10_letter_1 9 rfl rfl)
theorem dX10_letter_34 : decode cX10_letter 34 = .ok (.ireturn, 1) := dk_172 (dk_at dksX10_letter_1 10 rfl rfl)
abbrev cX10_number : ByteArray := prog_14_method_17_code
def yX10_number : MethodName := ⟨RX10, "number", "(II)I"⟩
def dkwX10_number_2 : List UInt8 := [180, 0, 38, 16, 7, 27, 104, 28, 96, 46, 167, 0, 4, 3, 172]
abbrev dktX10_number_2 : List UInt8 := dkwX10_number_2 ++ []
def dkwX10_number_1 : List UInt8 := [28, 42, 180, 0, 143, 163, 0, 7, 3, 167, 0, 4, 4, 181, 0, 81, 42, 180, 0, 81, 154, 0, 17, 42]
abbrev dktX10_number_1 : List UInt8 := dkwX10_number_1 ++ dktX10_number_2
def dkwX10_number_0 : List UInt8 := [42, 42, 180, 0, 133, 153, 0, 31, 27, 155, 0, 27, 27, 42, 180, 0, 137, 162, 0, 19, 28, 155, 0, 15]
abbrev dktX10_number_0 : List UInt8 := dkwX10_number_0 ++ dktX10_number_1
theorem dksX10_number_0 : cX10_number.data.toList.drop 0 = dktX10_number_0 := by decide +kernel
theorem dksX10_number_1 : cX10_number.data.toList.drop 24 = dktX10_number_1 := dk_seg dksX10_number_0 24 rfl rfl
theorem dksX10_number_2 : cX10_number.data.toList.drop 48 = dktX10_number_2 := dk_seg dksX10_number_1 24 rfl rfl
theorem dX10_number_0 : decode cX10_number 0 = .ok (.aload_n 0, 1) := dk_42 (dk_at dksX10_number_0 0 rfl rfl)
theorem dX10_number_1 : decode cX10_number 1 = .ok (.aload_n 0, 1) := dk_42 (dk_at dksX10_number_0 1 rfl rfl)
theorem dX10_number_2 : decode cX10_number 2 = .ok (.getfield 133, 3) := dk_180 0 133 (dk_at dksX10_number_0 2 rfl rfl)
theorem dX10_number_5 : decode cX10_number 5 = .ok (.ifCond .eq 31, 3) := dk_153 0 31 (dk_at dksX10_number_0 5 rfl rfl)
theorem dX10_number_8 : decode cX10_number 8 = .ok (.iload_n 1, 1) := dk_27 (dk_at dksX10_number_0 8 rfl rfl)
theorem dX10_number_9 : decode cX10_number 9 = .ok (.ifCond .lt 27, 3) := dk_155 0 27 (dk_at dksX10_number_0 9 rfl rfl)
theorem dX10_number_12 : decode cX10_number 12 = .ok (.iload_n 1, 1) := dk_27 (dk_at dksX10_number_0 12 rfl rfl)
theorem dX10_number_13 : decode cX10_number 13 = .ok (.aload_n 0, 1) := dk_42 (dk_at dksX10_number_0 13 rfl rfl)
theorem dX10_number_14 : decode cX10_number 14 = .ok (.getfield 137, 3) := dk_180 0 137 (dk_at dksX10_number_0 14 rfl rfl)
theorem dX10_number_17 : decode cX10_number 17 = .ok (.if_icmp .ge 19, 3) := dk_162 0 19 (dk_at dksX10_number_0 17 rfl rfl)
theorem dX10_number_20 : decode cX10_number 20 = .ok (.iload_n 2, 1) := dk_28 (dk_at dksX10_number_0 20 rfl rfl)
theorem dX10_number_21 : decode cX10_number 21 = .ok (.ifCond .lt 15, 3) := dk_155 0 15 (dk_at dksX10_number_0 21 rfl rfl)
theorem dX10_number_24 : decode cX10_number 24 = .ok (.iload_n 2, 1) := dk_28 (dk_at dksX10_number_1 0 rfl rfl)
theorem dX10_number_25 : decode cX10_number 25 = .ok (.aload_n 0, 1) := dk_42 (dk_at dksX10_number_1 1 rfl rfl)
theorem dX10_number_26 : decode cX10_number 26 = .ok (.getfield 143, 3) := dk_180 0 143 (dk_at dksX10_number_1 2 rfl rfl)
theorem dX10_number_29 : decode cX10_number 29 = .ok (.if_icmp .gt 7, 3) := dk_163 0 7 (dk_at dksX10_number_1 5 rfl rfl)
theorem dX10_number_32 : decode cX10_number 32 = .ok (.iconst 0, 1) := dk_3 (dk_at dksX10_number_1 8 rfl rfl)
theorem dX10_number_33 : decode cX10_number 33 = .ok (.goto 4, 3) := dk_167 0 4 (dk_at dksX10_number_1 9 rfl rfl)
theorem dX10_number_36 : decode cX10_number 36 = .ok (.iconst 1, 1) := dk_4 (dk_at dksX10_number_1 12 rfl rfl)
theorem dX10_number_37 : decode cX10_number 37 = .ok (.putfield 81, 3) := dk_181 0 81 (dk_at dksX10_number_1 13 rfl rfl)
theorem dX10_number_40 : decode cX10_number 40 = .ok (.aload_n 0, 1) := dk_42 (dk_at dksX10_number_1 16 rfl rfl)
theorem dX10_number_41 : decode cX10_number 41 = .ok (.getfield 81, 3) := dk_180 0 81 (dk_at dksX10_number_1 17 rfl rfl)
theorem dX10_number_44 : decode cX10_number 44 = .ok (.ifCond .ne 17, 3) := dk_154 0 17 (dk_at dksX10_number_1 20 rfl rfl)
theorem dX10_number_47 : decode cX10_number 47 = .ok (.aload_n 0, 1) := dk_42 (dk_at dksX10_number_1 23 rfl rfl)
theorem dX10_number_48 : decode cX10_number 48 = .ok (.getfield 38, 3) := dk_180 0 38 (dk_at dksX10_number_2 0 rfl rfl)
theorem dX10_number_51 : decode cX10_number 51 = .ok (.bipush 7, 2) := dk_16 7 (dk_at dksX10_number_2 3 rfl rfl)
theorem dX10_number_53 : decode cX10_number 53 = .ok (.iload_n 1, 1) := dk_27 (dk_at dksX10_number_2 5 rfl rfl)
theorem dX10_number_54 : decode cX10_number 54 = .ok (.imul, 1) := dk_104 (dk_at dksX10_number_2 6 rfl rfl)
theorem dX10_number_55 : decode cX10_number 55 = .ok (.iload_n 2, 1) := dk_28 (dk_at dksX10_number_2 7 rfl rfl)
theorem dX10_number_56 : decode cX10_number 56 = .ok (.iadd, 1) := dk_96 (dk_at dksX10_number_2 8 rfl rfl)
theorem dX10_number_57 : decode cX10_number 57 = .ok (.iaload, 1) := dk_46 (dk_at dksX10_number_2 9 rfl rfl)
theorem dX10_number_58 : decode cX10_number 58 = .ok (.goto 4, 3) := dk_167 0 4 (dk_at dksX10_number_2 10 rfl rfl)
theorem dX10_number_61 : decode cX10_number 61 = .ok (.iconst 0, 1) := dk_3 (dk_at dksX10_number_2 13 rfl rfl)
theorem dX10_number_62 : decode cX10_number 62 = .ok (.ireturn, 1) := dk_172 (dk_at dksX10_number_2 14 rfl rfl)
abbrev cX10_solvable : ByteArray := prog_14_method_28_code
def yX10_solvable : MethodName := ⟨RX10, "solvable", "()I"⟩
def dkwX10_solvable_1 : List UInt8 := [172, 42, 182, 0, 191, 42, 180, 0, 179, 153, 0, 7, 4, 167, 0, 4, 3, 172]
abbrev dktX10_solvable_1 : List UInt8 := dkwX10_solvable_1 ++ []
def dkwX10_solvable_0 : List UInt8 := [42, 42, 180, 0, 133, 153, 0, 7, 3, 167, 0, 4, 4, 181, 0, 81, 42, 180, 0, 81, 158, 0, 5, 3]
abbrev dktX10_solvable_0 : List UInt8 := dkwX10_solvable_0 ++ dktX10_solvable_1
theorem dksX10_solvable_0 : cX10_solvable.data.toList.drop 0 = dktX10_solvable_0 := by decide +kernel
theorem dksX10_solvable_1 : cX10_solvable.data.toList.drop 24 = dktX10_solvable_1 := dk_seg dksX10_solvable_0 24 rfl rfl
theorem dX10_solvable_0 : decode cX10_solvable 0 = .ok (.aload_n 0, 1) := dk_42 (dk_at dksX10_solvable_0 0 rfl rfl)
theorem dX10_solvable_1 : decode cX10_solvable 1 = .ok (.aload_n 0, 1) := dk_42 (dk_at dksX10_solvable_0 1 rfl rfl)
theorem dX10_solvable_2 : decode cX10_solvable 2 = .ok (.getfield 133, 3) := dk_180 0 133 (dk_at dksX10_solvable_0 2 rfl rfl)
theorem dX10_solvable_5 : decode cX10_solvable 5 = .ok (.ifCond .eq 7, 3) := dk_153 0 7 (dk_at dksX10_solvable_0 5 rfl rfl)
theorem dX10_solvable_8 : decode cX10_solvable 8 = .ok (.iconst 0, 1) := dk_3 (dk_at dksX10_solvable_0 8 rfl rfl)
theorem dX10_solvable_9 : decode cX10_solvable 9 = .ok (.goto 4, 3) := dk_167 0 4 (dk_at dksX10_solvable_0 9 rfl rfl)
theorem dX10_solvable_12 : decode cX10_solvable 12 = .ok (.iconst 1, 1) := dk_4 (dk_at dksX10_solvable_0 12 rfl rfl)
theorem dX10_solvable_13 : decode cX10_solvable 13 = .ok (.putfield 81, 3) := dk_181 0 81 (dk_at dksX10_solvable_0 13 rfl rfl)
theorem dX10_solvable_16 : decode cX10_solvable 16 = .ok (.aload_n 0, 1) := dk_42 (dk_at dksX10_solvable_0 16 rfl rfl)
theorem dX10_solvable_17 : decode cX10_solvable 17 = .ok (.getfield 81, 3) := dk_180 0 81 (dk_at dksX10_solvable_0 17 rfl rfl)
theorem dX10_solvable_20 : decode cX10_solvable 20 = .ok (.ifCond .le 5, 3) := dk_158 0 5 (dk_at dksX10_solvable_0 20 rfl rfl)
theorem dX10_solvable_23 : decode cX10_solvable 23 = .ok (.iconst 0, 1) := dk_3 (dk_at dksX10_solvable_0 23 rfl rfl)
theorem dX10_solvable_24 : decode cX10_solvable 24 = .ok (.ireturn, 1) := dk_172 (dk_at dksX10_solvable_1 0 rfl rfl)
theorem dX10_solvable_25 : decode cX10_solvable 25 = .ok (.aload_n 0, 1) := dk_42 (dk_at dksX10_solvable_1 1 rfl rfl)
theorem dX10_solvable_26 : decode cX10_solvable 26 = .ok (.invokevirtual 191, 3) := dk_182 0 191 (dk_at dksX10_solvable_1 2 rfl rfl)
theorem dX10_solvable_29 : decode cX10_solvable 29 = .ok (.aload_n 0, 1) := dk_42 (dk_at dksX10_solvable_1 5 rfl rfl)
theorem dX10_solvable_30 : decode cX10_solvable 30 = .ok (.getfield 179, 3) := dk_180 0 179 (dk_at dksX10_solvable_1 6 rfl rfl)
theorem dX10_solvable_33 : decode cX10_solvable 33 = .ok (.ifCond .eq 7, 3) := dk_153 0 7 (dk_at dksX10_solvable_1 9 rfl rfl)
theorem dX10_solvable_36 : decode cX10_solvable 36 = .ok (.iconst 1, 1) := dk_4 (dk_at dksX10_solvable_1 12 rfl rfl)
theorem dX10_solvable_37 : decode cX10_solvable 37 = .ok (.goto 4, 3) := dk_167 0 4 (dk_at dksX10_solvable_1 13 rfl rfl)
theorem dX10_solvable_40 : decode cX10_solvable 40 = .ok (.iconst 0, 1) := dk_3 (dk_at dksX10_solvable_1 16 rfl rfl)
theorem dX10_solvable_41 : decode cX10_solvable 41 = .ok (.ireturn, 1) := dk_172 (dk_at dksX10_solvable_1 17 rfl rfl)
abbrev cX10_solveWhole : ByteArray := prog_14_method_27_code
def yX10_solveWhole : MethodName := ⟨RX10, "solveWhole", "()V"⟩
def dkwX10_solveWhole_4 : List UInt8 := [132, 1, 1, 167, 255, 232, 177]
abbrev dktX10_solveWhole_4 : List UInt8 := dkwX10_solveWhole_4 ++ []
def dkwX10_solveWhole_3 : List UInt8 := [3, 60, 27, 42, 180, 0, 137, 162, 0, 22, 42, 27, 182, 0, 182, 42, 182, 0, 185, 42, 182, 0, 188]
abbrev dktX10_solveWhole_3 : List UInt8 := dkwX10_solveWhole_3 ++ dktX10_solveWhole_4
def dkwX10_solveWhole_2 : List UInt8 := [167, 255, 225, 3, 60, 27, 16, 6, 162, 0, 16, 42, 180, 0, 72, 27, 9, 80, 132, 1, 1, 167, 255, 240]
abbrev dktX10_solveWhole_2 : List UInt8 := dkwX10_solveWhole_2 ++ dktX10_solveWhole_3
def dkwX10_solveWhole_1 : List UInt8 := [180, 0, 68, 27, 27, 16, 6, 112, 27, 16, 6, 108, 160, 0, 7, 10, 167, 0, 4, 9, 80, 132, 1, 1]
abbrev dktX10_solveWhole_1 : List UInt8 := dkwX10_solveWhole_1 ++ dktX10_solveWhole_2
def dkwX10_solveWhole_0 : List UInt8 := [42, 42, 180, 0, 143, 181, 0, 152, 42, 4, 181, 0, 179, 3, 60, 27, 16, 36, 162, 0, 31, 42]
abbrev dktX10_solveWhole_0 : List UInt8 := dkwX10_solveWhole_0 ++ dktX10_solveWhole_1
theorem dksX10_solveWhole_0 : cX10_solveWhole.data.toList.drop 0 = dktX10_solveWhole_0 := by decide +kernel
theorem dksX10_solveWhole_1 : cX10_solveWhole.data.toList.drop 22 = dktX10_solveWhole_1 := dk_seg dksX10_solveWhole_0 22 rfl rfl
theorem dksX10_solveWhole_2 : cX10_solveWhole.data.toList.drop 46 = dktX10_solveWhole_2 := dk_seg dksX10_solveWhole_1 24 rfl rfl
theorem dksX10_solveWhole_3 : cX10_solveWhole.data.toList.drop 70 = dktX10_solveWhole_3 := dk_seg dksX10_solveWhole_2 24 rfl rfl
theorem dksX10_solveWhole_4 : cX10_solveWhole.data.toList.drop 93 = dktX10_solveWhole_4 := dk_seg dksX10_solveWhole_3 23 rfl rfl
theorem dX10_solveWhole_0 : decode cX10_solveWhole 0 = .ok (.aload_n 0, 1) := dk_42 (dk_at dksX10_solveWhole_0 0 rfl rfl)
theorem dX10_solveWhole_1 : decode cX10_solveWhole 1 = .ok (.aload_n 0, 1) := dk_42 (dk_at dksX10_solveWhole_0 1 rfl rfl)
theorem dX10_solveWhole_2 : decode cX10_solveWhole 2 = .ok (.getfield 143, 3) := dk_180 0 143 (dk_at dksX10_solveWhole_0 2 rfl rfl)
theorem dX10_solveWhole_5 : decode cX10_solveWhole 5 = .ok (.putfield 152, 3) := dk_181 0 152 (dk_at dksX10_solveWhole_0 5 rfl rfl)
theorem dX10_solveWhole_8 : decode cX10_solveWhole 8 = .ok (.aload_n 0, 1) := dk_42 (dk_at dksX10_solveWhole_0 8 rfl rfl)
theorem dX10_solveWhole_9 : decode cX10_solveWhole 9 = .ok (.iconst 1, 1) := dk_4 (dk_at dksX10_solveWhole_0 9 rfl rfl)
theorem dX10_solveWhole_10 : decode cX10_solveWhole 10 = .ok (.putfield 179, 3) := dk_181 0 179 (dk_at dksX10_solveWhole_0 10 rfl rfl)
theorem dX10_solveWhole_13 : decode cX10_solveWhole 13 = .ok (.iconst 0, 1) := dk_3 (dk_at dksX10_solveWhole_0 13 rfl rfl)
theorem dX10_solveWhole_14 : decode cX10_solveWhole 14 = .ok (.istore_n 1, 1) := dk_60 (dk_at dksX10_solveWhole_0 14 rfl rfl)
theorem dX10_solveWhole_15 : decode cX10_solveWhole 15 = .ok (.iload_n 1, 1) := dk_27 (dk_at dksX10_solveWhole_0 15 rfl rfl)
theorem dX10_solveWhole_16 : decode cX10_solveWhole 16 = .ok (.bipush 36, 2) := dk_16 36 (dk_at dksX10_solveWhole_0 16 rfl rfl)
theorem dX10_solveWhole_18 : decode cX10_solveWhole 18 = .ok (.if_icmp .ge 31, 3) := dk_162 0 31 (dk_at dksX10_solveWhole_0 18 rfl rfl)
theorem dX10_solveWhole_21 : decode cX10_solveWhole 21 = .ok (.aload_n 0, 1) := dk_42 (dk_at dksX10_solveWhole_0 21 rfl rfl)
theorem dX10_solveWhole_22 : decode cX10_solveWhole 22 = .ok (.getfield 68, 3) := dk_180 0 68 (dk_at dksX10_solveWhole_1 0 rfl rfl)
theorem dX10_solveWhole_25 : decode cX10_solveWhole 25 = .ok (.iload_n 1, 1) := dk_27 (dk_at dksX10_solveWhole_1 3 rfl rfl)
theorem dX10_solveWhole_26 : decode cX10_solveWhole 26 = .ok (.iload_n 1, 1) := dk_27 (dk_at dksX10_solveWhole_1 4 rfl rfl)
theorem dX10_solveWhole_27 : decode cX10_solveWhole 27 = .ok (.bipush 6, 2) := dk_16 6 (dk_at dksX10_solveWhole_1 5 rfl rfl)
theorem dX10_solveWhole_29 : decode cX10_solveWhole 29 = .ok (.irem, 1) := dk_112 (dk_at dksX10_solveWhole_1 7 rfl rfl)
theorem dX10_solveWhole_30 : decode cX10_solveWhole 30 = .ok (.iload_n 1, 1) := dk_27 (dk_at dksX10_solveWhole_1 8 rfl rfl)
theorem dX10_solveWhole_31 : decode cX10_solveWhole 31 = .ok (.bipush 6, 2) := dk_16 6 (dk_at dksX10_solveWhole_1 9 rfl rfl)
theorem dX10_solveWhole_33 : decode cX10_solveWhole 33 = .ok (.idiv, 1) := dk_108 (dk_at dksX10_solveWhole_1 11 rfl rfl)
theorem dX10_solveWhole_34 : decode cX10_solveWhole 34 = .ok (.if_icmp .ne 7, 3) := dk_160 0 7 (dk_at dksX10_solveWhole_1 12 rfl rfl)
theorem dX10_solveWhole_37 : decode cX10_solveWhole 37 = .ok (.lconst 1, 1) := dk_10 (dk_at dksX10_solveWhole_1 15 rfl rfl)
theorem dX10_solveWhole_38 : decode cX10_solveWhole 38 = .ok (.goto 4, 3) := dk_167 0 4 (dk_at dksX10_solveWhole_1 16 rfl rfl)
theorem dX10_solveWhole_41 : decode cX10_solveWhole 41 = .ok (.lconst 0, 1) := dk_9 (dk_at dksX10_solveWhole_1 19 rfl rfl)
theorem dX10_solveWhole_42 : decode cX10_solveWhole 42 = .ok (.lastore, 1) := dk_80 (dk_at dksX10_solveWhole_1 20 rfl rfl)
theorem dX10_solveWhole_43 : decode cX10_solveWhole 43 = .ok (.iinc 1 1, 3) := dk_132 1 1 (dk_at dksX10_solveWhole_1 21 rfl rfl)
theorem dX10_solveWhole_46 : decode cX10_solveWhole 46 = .ok (.goto (-31), 3) := dk_167 255 225 (dk_at dksX10_solveWhole_2 0 rfl rfl)
theorem dX10_solveWhole_49 : decode cX10_solveWhole 49 = .ok (.iconst 0, 1) := dk_3 (dk_at dksX10_solveWhole_2 3 rfl rfl)
theorem dX10_solveWhole_50 : decode cX10_solveWhole 50 = .ok (.istore_n 1, 1) := dk_60 (dk_at dksX10_solveWhole_2 4 rfl rfl)
theorem dX10_solveWhole_51 : decode cX10_solveWhole 51 = .ok (.iload_n 1, 1) := dk_27 (dk_at dksX10_solveWhole_2 5 rfl rfl)
theorem dX10_solveWhole_52 : decode cX10_solveWhole 52 = .ok (.bipush 6, 2) := dk_16 6 (dk_at dksX10_solveWhole_2 6 rfl rfl)
theorem dX10_solveWhole_54 : decode cX10_solveWhole 54 = .ok (.if_icmp .ge 16, 3) := dk_162 0 16 (dk_at dksX10_solveWhole_2 8 rfl rfl)
theorem dX10_solveWhole_57 : decode cX10_solveWhole 57 = .ok (.aload_n 0, 1) := dk_42 (dk_at dksX10_solveWhole_2 11 rfl rfl)
theorem dX10_solveWhole_58 : decode cX10_solveWhole 58 = .ok (.getfield 72, 3) := dk_180 0 72 (dk_at dksX10_solveWhole_2 12 rfl rfl)
theorem dX10_solveWhole_61 : decode cX10_solveWhole 61 = .ok (.iload_n 1, 1) := dk_27 (dk_at dksX10_solveWhole_2 15 rfl rfl)
theorem dX10_solveWhole_62 : decode cX10_solveWhole 62 = .ok (.lconst 0, 1) := dk_9 (dk_at dksX10_solveWhole_2 16 rfl rfl)
theorem dX10_solveWhole_63 : decode cX10_solveWhole 63 = .ok (.lastore, 1) := dk_80 (dk_at dksX10_solveWhole_2 17 rfl rfl)
theorem dX10_solveWhole_64 : decode cX10_solveWhole 64 = .ok (.iinc 1 1, 3) := dk_132 1 1 (dk_at dksX10_solveWhole_2 18 rfl rfl)
theorem dX10_solveWhole_67 : decode cX10_solveWhole 67 = .ok (.goto (-16), 3) := dk_167 255 240 (dk_at dksX10_solveWhole_2 21 rfl rfl)
theorem dX10_solveWhole_70 : decode cX10_solveWhole 70 = .ok (.iconst 0, 1) := dk_3 (dk_at dksX10_solveWhole_3 0 rfl rfl)
theorem dX10_solveWhole_71 : decode cX10_solveWhole 71 = .ok (.istore_n 1, 1) := dk_60 (dk_at dksX10_solveWhole_3 1 rfl rfl)
theorem dX10_solveWhole_72 : decode cX10_solveWhole 72 = .ok (.iload_n 1, 1) := dk_27 (dk_at dksX10_solveWhole_3 2 rfl rfl)
theorem dX10_solveWhole_73 : decode cX10_solveWhole 73 = .ok (.aload_n 0, 1) := dk_42 (dk_at dksX10_solveWhole_3 3 rfl rfl)
theorem dX10_solveWhole_74 : decode cX10_solveWhole 74 = .ok (.getfield 137, 3) := dk_180 0 137 (dk_at dksX10_solveWhole_3 4 rfl rfl)
theorem dX10_solveWhole_77 : decode cX10_solveWhole 77 = .ok (.if_icmp .ge 22, 3) := dk_162 0 22 (dk_at dksX10_solveWhole_3 7 rfl rfl)
theorem dX10_solveWhole_80 : decode cX10_solveWhole 80 = .ok (.aload_n 0, 1) := dk_42 (dk_at dksX10_solveWhole_3 10 rfl rfl)
theorem dX10_solveWhole_81 : decode cX10_solveWhole 81 = .ok (.iload_n 1, 1) := dk_27 (dk_at dksX10_solveWhole_3 11 rfl rfl)
theorem dX10_solveWhole_82 : decode cX10_solveWhole 82 = .ok (.invokevirtual 182, 3) := dk_182 0 182 (dk_at dksX10_solveWhole_3 12 rfl rfl)
theorem dX10_solveWhole_85 : decode cX10_solveWhole 85 = .ok (.aload_n 0, 1) := dk_42 (dk_at dksX10_solveWhole_3 15 rfl rfl)
theorem dX10_solveWhole_86 : decode cX10_solveWhole 86 = .ok (.invokevirtual 185, 3) := dk_182 0 185 (dk_at dksX10_solveWhole_3 16 rfl rfl)
theorem dX10_solveWhole_89 : decode cX10_solveWhole 89 = .ok (.aload_n 0, 1) := dk_42 (dk_at dksX10_solveWhole_3 19 rfl rfl)
theorem dX10_solveWhole_90 : decode cX10_solveWhole 90 = .ok (.invokevirtual 188, 3) := dk_182 0 188 (dk_at dksX10_solveWhole_3 20 rfl rfl)
theorem dX10_solveWhole_93 : decode cX10_solveWhole 93 = .ok (.iinc 1 1, 3) := dk_132 1 1 (dk_at dksX10_solveWhole_4 0 rfl rfl)
theorem dX10_solveWhole_96 : decode cX10_solveWhole 96 = .ok (.goto (-24), 3) := dk_167 255 232 (dk_at dksX10_solveWhole_4 3 rfl rfl)
theorem dX10_solveWhole_99 : decode cX10_solveWhole 99 = .ok (.return_, 1) := dk_177 (dk_at dksX10_solveWhole_4 6 rfl rfl)
abbrev cX10_narrow : ByteArray := prog_14_method_25_code
def yX10_narrow : MethodName := ⟨RX10, "narrow", "(I)V"⟩
def dkwX10_narrow_15 : List UInt8 := [180, 0, 68, 21, 8, 42, 180, 0, 68, 21, 8, 16, 6, 96, 47, 80, 132, 8, 1, 167, 255, 224, 177]
abbrev dktX10_narrow_15 : List UInt8 := dkwX10_narrow_15 ++ []
def dkwX10_narrow_14 : List UInt8 := [180, 0, 152, 4, 100, 181, 0, 152, 3, 54, 8, 21, 8, 16, 6, 42, 180, 0, 152, 104, 162, 0, 26, 42]
abbrev dktX10_narrow_14 : List UInt8 := dkwX10_narrow_14 ++ dktX10_narrow_15
def dkwX10_narrow_13 : List UInt8 := [22, 4, 22, 6, 109, 42, 180, 0, 68, 21, 8, 47, 105, 97, 80, 132, 8, 1, 167, 255, 209, 42, 89]
abbrev dktX10_narrow_13 : List UInt8 := dkwX10_narrow_13 ++ dktX10_narrow_14
def dkwX10_narrow_12 : List UInt8 := [162, 0, 44, 42, 180, 0, 179, 153, 0, 37, 42, 180, 0, 72, 21, 8, 42, 180, 0, 72, 21, 8, 47]
abbrev dktX10_narrow_12 : List UInt8 := dkwX10_narrow_12 ++ dktX10_narrow_13
def dkwX10_narrow_11 : List UInt8 := [9, 148, 154, 0, 7, 4, 167, 0, 4, 3, 181, 0, 179, 3, 54, 8, 21, 8, 42, 180, 0, 143]
abbrev dktX10_narrow_11 : List UInt8 := dkwX10_narrow_11 ++ dktX10_narrow_12
def dkwX10_narrow_10 : List UInt8 := [27, 42, 180, 0, 68, 3, 182, 0, 175, 55, 6, 42, 42, 180, 0, 179, 153, 0, 17, 22, 4, 22, 6, 113]
abbrev dktX10_narrow_10 : List UInt8 := dkwX10_narrow_10 ++ dktX10_narrow_11
def dkwX10_narrow_9 : List UInt8 := [42, 180, 0, 179, 153, 0, 14, 22, 4, 9, 148, 154, 0, 7, 4, 167, 0, 4, 3, 181, 0, 179, 177, 42]
abbrev dktX10_narrow_9 : List UInt8 := dkwX10_narrow_9 ++ dktX10_narrow_10
def dkwX10_narrow_8 : List UInt8 := [180, 0, 143, 96, 46, 133, 42, 27, 42, 180, 0, 72, 3, 182, 0, 175, 101, 55, 4, 29, 154, 0, 27, 42]
abbrev dktX10_narrow_8 : List UInt8 := dkwX10_narrow_8 ++ dktX10_narrow_9
def dkwX10_narrow_7 : List UInt8 := [4, 164, 0, 7, 4, 167, 0, 4, 3, 61, 167, 255, 87, 42, 180, 0, 38, 16, 7, 27, 104, 42]
abbrev dktX10_narrow_7 : List UInt8 := dkwX10_narrow_7 ++ dktX10_narrow_8
def dkwX10_narrow_6 : List UInt8 := [180, 0, 68, 16, 6, 21, 7, 104, 182, 0, 175, 22, 5, 109, 182, 0, 167, 132, 7, 1, 167, 255, 220, 29]
abbrev dktX10_narrow_6 : List UInt8 := dkwX10_narrow_6 ++ dktX10_narrow_7
def dkwX10_narrow_5 : List UInt8 := [182, 0, 175, 55, 5, 4, 54, 7, 21, 7, 42, 180, 0, 152, 162, 0, 33, 42, 21, 7, 3, 42, 27, 42]
abbrev dktX10_narrow_5 : List UInt8 := dkwX10_narrow_5 ++ dktX10_narrow_6
def dkwX10_narrow_4 : List UInt8 := [132, 5, 1, 167, 255, 178, 29, 158, 0, 64, 42, 3, 21, 4, 182, 0, 159, 42, 27, 42, 180, 0, 68, 3]
abbrev dktX10_narrow_4 : List UInt8 := dkwX10_narrow_4 ++ dktX10_narrow_5
def dkwX10_narrow_3 : List UInt8 := [21, 4, 104, 182, 0, 175, 184, 0, 155, 148, 156, 0, 8, 21, 5, 167, 0, 5, 21, 4, 54, 4]
abbrev dktX10_narrow_3 : List UInt8 := dkwX10_narrow_3 ++ dktX10_narrow_4
def dkwX10_narrow_2 : List UInt8 := [9, 148, 153, 0, 43, 132, 3, 1, 21, 4, 155, 0, 26, 22, 6, 42, 27, 42, 180, 0, 68, 16, 6]
abbrev dktX10_narrow_2 : List UInt8 := dkwX10_narrow_2 ++ dktX10_narrow_3
def dkwX10_narrow_1 : List UInt8 := [162, 0, 75, 42, 27, 42, 180, 0, 68, 16, 6, 21, 5, 104, 182, 0, 175, 184, 0, 155, 55, 6, 22, 6]
abbrev dktX10_narrow_1 : List UInt8 := dkwX10_narrow_1 ++ dktX10_narrow_2
def dkwX10_narrow_0 : List UInt8 := [4, 61, 3, 62, 28, 153, 0, 171, 2, 54, 4, 3, 62, 3, 54, 5, 21, 5, 42, 180, 0, 152]
abbrev dktX10_narrow_0 : List UInt8 := dkwX10_narrow_0 ++ dktX10_narrow_1
theorem dksX10_narrow_0 : cX10_narrow.data.toList.drop 0 = dktX10_narrow_0 := by decide +kernel
theorem dksX10_narrow_1 : cX10_narrow.data.toList.drop 22 = dktX10_narrow_1 := dk_seg dksX10_narrow_0 22 rfl rfl
theorem dksX10_narrow_2 : cX10_narrow.data.toList.drop 46 = dktX10_narrow_2 := dk_seg dksX10_narrow_1 24 rfl rfl
theorem dksX10_narrow_3 : cX10_narrow.data.toList.drop 69 = dktX10_narrow_3 := dk_seg dksX10_narrow_2 23 rfl rfl
theorem dksX10_narrow_4 : cX10_narrow.data.toList.drop 91 = dktX10_narrow_4 := dk_seg dksX10_narrow_3 22 rfl rfl
theorem dksX10_narrow_5 : cX10_narrow.data.toList.drop 115 = dktX10_narrow_5 := dk_seg dksX10_narrow_4 24 rfl rfl
theorem dksX10_narrow_6 : cX10_narrow.data.toList.drop 139 = dktX10_narrow_6 := dk_seg dksX10_narrow_5 24 rfl rfl
theorem dksX10_narrow_7 : cX10_narrow.data.toList.drop 163 = dktX10_narrow_7 := dk_seg dksX10_narrow_6 24 rfl rfl
theorem dksX10_narrow_8 : cX10_narrow.data.toList.drop 185 = dktX10_narrow_8 := dk_seg dksX10_narrow_7 22 rfl rfl
theorem dksX10_narrow_9 : cX10_narrow.data.toList.drop 209 = dktX10_narrow_9 := dk_seg dksX10_narrow_8 24 rfl rfl
theorem dksX10_narrow_10 : cX10_narrow.data.toList.drop 233 = dktX10_narrow_10 := dk_seg dksX10_narrow_9 24 rfl rfl
theorem dksX10_narrow_11 : cX10_narrow.data.toList.drop 257 = dktX10_narrow_11 := dk_seg dksX10_narrow_10 24 rfl rfl
theorem dksX10_narrow_12 : cX10_narrow.data.toList.drop 279 = dktX10_narrow_12 := dk_seg dksX10_narrow_11 22 rfl rfl
theorem dksX10_narrow_13 : cX10_narrow.data.toList.drop 302 = dktX10_narrow_13 := dk_seg dksX10_narrow_12 23 rfl rfl
theorem dksX10_narrow_14 : cX10_narrow.data.toList.drop 325 = dktX10_narrow_14 := dk_seg dksX10_narrow_13 23 rfl rfl
theorem dksX10_narrow_15 : cX10_narrow.data.toList.drop 349 = dktX10_narrow_15 := dk_seg dksX10_narrow_14 24 rfl rfl
theorem dX10_narrow_0 : decode cX10_narrow 0 = .ok (.iconst 1, 1) := dk_4 (dk_at dksX10_narrow_0 0 rfl rfl)
theorem dX10_narrow_1 : decode cX10_narrow 1 = .ok (.istore_n 2, 1) := dk_61 (dk_at dksX10_narrow_0 1 rfl rfl)
theorem dX10_narrow_2 : decode cX10_narrow 2 = .ok (.iconst 0, 1) := dk_3 (dk_at dksX10_narrow_0 2 rfl rfl)
theorem dX10_narrow_3 : decode cX10_narrow 3 = .ok (.istore_n 3, 1) := dk_62 (dk_at dksX10_narrow_0 3 rfl rfl)
theorem dX10_narrow_4 : decode cX10_narrow 4 = .ok (.iload_n 2, 1) := dk_28 (dk_at dksX10_narrow_0 4 rfl rfl)
theorem dX10_narrow_5 : decode cX10_narrow 5 = .ok (.ifCond .eq 171, 3) := dk_153 0 171 (dk_at dksX10_narrow_0 5 rfl rfl)
theorem dX10_narrow_8 : decode cX10_narrow 8 = .ok (.iconst (-1), 1) := dk_2 (dk_at dksX10_narrow_0 8 rfl rfl)
theorem dX10_narrow_9 : decode cX10_narrow 9 = .ok (.istore 4, 2) := dk_54 4 (dk_at dksX10_narrow_0 9 rfl rfl)
theorem dX10_narrow_11 : decode cX10_narrow 11 = .ok (.iconst 0, 1) := dk_3 (dk_at dksX10_narrow_0 11 rfl rfl)
theorem dX10_narrow_12 : decode cX10_narrow 12 = .ok (.istore_n 3, 1) := dk_62 (dk_at dksX10_narrow_0 12 rfl rfl)
theorem dX10_narrow_13 : decode cX10_narrow 13 = .ok (.iconst 0, 1) := dk_3 (dk_at dksX10_narrow_0 13 rfl rfl)
theorem dX10_narrow_14 : decode cX10_narrow 14 = .ok (.istore 5, 2) := dk_54 5 (dk_at dksX10_narrow_0 14 rfl rfl)
theorem dX10_narrow_16 : decode cX10_narrow 16 = .ok (.iload 5, 2) := dk_21 5 (dk_at dksX10_narrow_0 16 rfl rfl)
theorem dX10_narrow_18 : decode cX10_narrow 18 = .ok (.aload_n 0, 1) := dk_42 (dk_at dksX10_narrow_0 18 rfl rfl)
theorem dX10_narrow_19 : decode cX10_narrow 19 = .ok (.getfield 152, 3) := dk_180 0 152 (dk_at dksX10_narrow_0 19 rfl rfl)
theorem dX10_narrow_22 : decode cX10_narrow 22 = .ok (.if_icmp .ge 75, 3) := dk_162 0 75 (dk_at dksX10_narrow_1 0 rfl rfl)
theorem dX10_narrow_25 : decode cX10_narrow 25 = .ok (.aload_n 0, 1) := dk_42 (dk_at dksX10_narrow_1 3 rfl rfl)
theorem dX10_narrow_26 : decode cX10_narrow 26 = .ok (.iload_n 1, 1) := dk_27 (dk_at dksX10_narrow_1 4 rfl rfl)
theorem dX10_narrow_27 : decode cX10_narrow 27 = .ok (.aload_n 0, 1) := dk_42 (dk_at dksX10_narrow_1 5 rfl rfl)
theorem dX10_narrow_28 : decode cX10_narrow 28 = .ok (.getfield 68, 3) := dk_180 0 68 (dk_at dksX10_narrow_1 6 rfl rfl)
theorem dX10_narrow_31 : decode cX10_narrow 31 = .ok (.bipush 6, 2) := dk_16 6 (dk_at dksX10_narrow_1 9 rfl rfl)
theorem dX10_narrow_33 : decode cX10_narrow 33 = .ok (.iload 5, 2) := dk_21 5 (dk_at dksX10_narrow_1 11 rfl rfl)
theorem dX10_narrow_35 : decode cX10_narrow 35 = .ok (.imul, 1) := dk_104 (dk_at dksX10_narrow_1 13 rfl rfl)
theorem dX10_narrow_36 : decode cX10_narrow 36 = .ok (.invokevirtual 175, 3) := dk_182 0 175 (dk_at dksX10_narrow_1 14 rfl rfl)
theorem dX10_narrow_39 : decode cX10_narrow 39 = .ok (.invokestatic 155, 3) := dk_184 0 155 (dk_at dksX10_narrow_1 17 rfl rfl)
theorem dX10_narrow_42 : decode cX10_narrow 42 = .ok (.lstore 6, 2) := dk_55 6 (dk_at dksX10_narrow_1 20 rfl rfl)
theorem dX10_narrow_44 : decode cX10_narrow 44 = .ok (.lload 6, 2) := dk_22 6 (dk_at dksX10_narrow_1 22 rfl rfl)
theorem dX10_narrow_46 : decode cX10_narrow 46 = .ok (.lconst 0, 1) := dk_9 (dk_at dksX10_narrow_2 0 rfl rfl)
theorem dX10_narrow_47 : decode cX10_narrow 47 = .ok (.lcmp, 1) := dk_148 (dk_at dksX10_narrow_2 1 rfl rfl)
theorem dX10_narrow_48 : decode cX10_narrow 48 = .ok (.ifCond .eq 43, 3) := dk_153 0 43 (dk_at dksX10_narrow_2 2 rfl rfl)
theorem dX10_narrow_51 : decode cX10_narrow 51 = .ok (.iinc 3 1, 3) := dk_132 3 1 (dk_at dksX10_narrow_2 5 rfl rfl)
theorem dX10_narrow_54 : decode cX10_narrow 54 = .ok (.iload 4, 2) := dk_21 4 (dk_at dksX10_narrow_2 8 rfl rfl)
theorem dX10_narrow_56 : decode cX10_narrow 56 = .ok (.ifCond .lt 26, 3) := dk_155 0 26 (dk_at dksX10_narrow_2 10 rfl rfl)
theorem dX10_narrow_59 : decode cX10_narrow 59 = .ok (.lload 6, 2) := dk_22 6 (dk_at dksX10_narrow_2 13 rfl rfl)
theorem dX10_narrow_61 : decode cX10_narrow 61 = .ok (.aload_n 0, 1) := dk_42 (dk_at dksX10_narrow_2 15 rfl rfl)
theorem dX10_narrow_62 : decode cX10_narrow 62 = .ok (.iload_n 1, 1) := dk_27 (dk_at dksX10_narrow_2 16 rfl rfl)
theorem dX10_narrow_63 : decode cX10_narrow 63 = .ok (.aload_n 0, 1) := dk_42 (dk_at dksX10_narrow_2 17 rfl rfl)
theorem dX10_narrow_64 : decode cX10_narrow 64 = .ok (.getfield 68, 3) := dk_180 0 68 (dk_at dksX10_narrow_2 18 rfl rfl)
theorem dX10_narrow_67 : decode cX10_narrow 67 = .ok (.bipush 6, 2) := dk_16 6 (dk_at dksX10_narrow_2 21 rfl rfl)
theorem dX10_narrow_69 : decode cX10_narrow 69 = .ok (.iload 4, 2) := dk_21 4 (dk_at dksX10_narrow_3 0 rfl rfl)
theorem dX10_narrow_71 : decode cX10_narrow 71 = .ok (.imul, 1) := dk_104 (dk_at dksX10_narrow_3 2 rfl rfl)
theorem dX10_narrow_72 : decode cX10_narrow 72 = .ok (.invokevirtual 175, 3) := dk_182 0 175 (dk_at dksX10_narrow_3 3 rfl rfl)
theorem dX10_narrow_75 : decode cX10_narrow 75 = .ok (.invokestatic 155, 3) := dk_184 0 155 (dk_at dksX10_narrow_3 6 rfl rfl)
theorem dX10_narrow_78 : decode cX10_narrow 78 = .ok (.lcmp, 1) := dk_148 (dk_at dksX10_narrow_3 9 rfl rfl)
theorem dX10_narrow_79 : decode cX10_narrow 79 = .ok (.ifCond .ge 8, 3) := dk_156 0 8 (dk_at dksX10_narrow_3 10 rfl rfl)
theorem dX10_narrow_82 : decode cX10_narrow 82 = .ok (.iload 5, 2) := dk_21 5 (dk_at dksX10_narrow_3 13 rfl rfl)
theorem dX10_narrow_84 : decode cX10_narrow 84 = .ok (.goto 5, 3) := dk_167 0 5 (dk_at dksX10_narrow_3 15 rfl rfl)
theorem dX10_narrow_87 : decode cX10_narrow 87 = .ok (.iload 4, 2) := dk_21 4 (dk_at dksX10_narrow_3 18 rfl rfl)
theorem dX10_narrow_89 : decode cX10_narrow 89 = .ok (.istore 4, 2) := dk_54 4 (dk_at dksX10_narrow_3 20 rfl rfl)
theorem dX10_narrow_91 : decode cX10_narrow 91 = .ok (.iinc 5 1, 3) := dk_132 5 1 (dk_at dksX10_narrow_4 0 rfl rfl)
theorem dX10_narrow_94 : decode cX10_narrow 94 = .ok (.goto (-78), 3) := dk_167 255 178 (dk_at dksX10_narrow_4 3 rfl rfl)
theorem dX10_narrow_97 : decode cX10_narrow 97 = .ok (.iload_n 3, 1) := dk_29 (dk_at dksX10_narrow_4 6 rfl rfl)
theorem dX10_narrow_98 : decode cX10_narrow 98 = .ok (.ifCond .le 64, 3) := dk_158 0 64 (dk_at dksX10_narrow_4 7 rfl rfl)
theorem dX10_narrow_101 : decode cX10_narrow 101 = .ok (.aload_n 0, 1) := dk_42 (dk_at dksX10_narrow_4 10 rfl rfl)
theorem dX10_narrow_102 : decode cX10_narrow 102 = .ok (.iconst 0, 1) := dk_3 (dk_at dksX10_narrow_4 11 rfl rfl)
theorem dX10_narrow_103 : decode cX10_narrow 103 = .ok (.iload 4, 2) := dk_21 4 (dk_at dksX10_narrow_4 12 rfl rfl)
theorem dX10_narrow_105 : decode cX10_narrow 105 = .ok (.invokevirtual 159, 3) := dk_182 0 159 (dk_at dksX10_narrow_4 14 rfl rfl)
theorem dX10_narrow_108 : decode cX10_narrow 108 = .ok (.aload_n 0, 1) := dk_42 (dk_at dksX10_narrow_4 17 rfl rfl)
theorem dX10_narrow_109 : decode cX10_narrow 109 = .ok (.iload_n 1, 1) := dk_27 (dk_at dksX10_narrow_4 18 rfl rfl)
theorem dX10_narrow_110 : decode cX10_narrow 110 = .ok (.aload_n 0, 1) := dk_42 (dk_at dksX10_narrow_4 19 rfl rfl)
theorem dX10_narrow_111 : decode cX10_narrow 111 = .ok (.getfield 68, 3) := dk_180 0 68 (dk_at dksX10_narrow_4 20 rfl rfl)
theorem dX10_narrow_114 : decode cX10_narrow 114 = .ok (.iconst 0, 1) := dk_3 (dk_at dksX10_narrow_4 23 rfl rfl)
theorem dX10_narrow_115 : decode cX10_narrow 115 = .ok (.invokevirtual 175, 3) := dk_182 0 175 (dk_at dksX10_narrow_5 0 rfl rfl)
theorem dX10_narrow_118 : decode cX10_narrow 118 = .ok (.lstore 5, 2) := dk_55 5 (dk_at dksX10_narrow_5 3 rfl rfl)
theorem dX10_narrow_120 : decode cX10_narrow 120 = .ok (.iconst 1, 1) := dk_4 (dk_at dksX10_narrow_5 5 rfl rfl)
theorem dX10_narrow_121 : decode cX10_narrow 121 = .ok (.istore 7, 2) := dk_54 7 (dk_at dksX10_narrow_5 6 rfl rfl)
theorem dX10_narrow_123 : decode cX10_narrow 123 = .ok (.iload 7, 2) := dk_21 7 (dk_at dksX10_narrow_5 8 rfl rfl)
theorem dX10_narrow_125 : decode cX10_narrow 125 = .ok (.aload_n 0, 1) := dk_42 (dk_at dksX10_narrow_5 10 rfl rfl)
theorem dX10_narrow_126 : decode cX10_narrow 126 = .ok (.getfield 152, 3) := dk_180 0 152 (dk_at dksX10_narrow_5 11 rfl rfl)
theorem dX10_narrow_129 : decode cX10_narrow 129 = .ok (.if_icmp .ge 33, 3) := dk_162 0 33 (dk_at dksX10_narrow_5 14 rfl rfl)
theorem dX10_narrow_132 : decode cX10_narrow 132 = .ok (.aload_n 0, 1) := dk_42 (dk_at dksX10_narrow_5 17 rfl rfl)
theorem dX10_narrow_133 : decode cX10_narrow 133 = .ok (.iload 7, 2) := dk_21 7 (dk_at dksX10_narrow_5 18 rfl rfl)
theorem dX10_narrow_135 : decode cX10_narrow 135 = .ok (.iconst 0, 1) := dk_3 (dk_at dksX10_narrow_5 20 rfl rfl)
theorem dX10_narrow_136 : decode cX10_narrow 136 = .ok (.aload_n 0, 1) := dk_42 (dk_at dksX10_narrow_5 21 rfl rfl)
theorem dX10_narrow_137 : decode cX10_narrow 137 = .ok (.iload_n 1, 1) := dk_27 (dk_at dksX10_narrow_5 22 rfl rfl)
theorem dX10_narrow_138 : decode cX10_narrow 138 = .ok (.aload_n 0, 1) := dk_42 (dk_at dksX10_narrow_5 23 rfl rfl)
theorem dX10_narrow_139 : decode cX10_narrow 139 = .ok (.getfield 68, 3) := dk_180 0 68 (dk_at dksX10_narrow_6 0 rfl rfl)
theorem dX10_narrow_142 : decode cX10_narrow 142 = .ok (.bipush 6, 2) := dk_16 6 (dk_at dksX10_narrow_6 3 rfl rfl)
theorem dX10_narrow_144 : decode cX10_narrow 144 = .ok (.iload 7, 2) := dk_21 7 (dk_at dksX10_narrow_6 5 rfl rfl)
theorem dX10_narrow_146 : decode cX10_narrow 146 = .ok (.imul, 1) := dk_104 (dk_at dksX10_narrow_6 7 rfl rfl)
theorem dX10_narrow_147 : decode cX10_narrow 147 = .ok (.invokevirtual 175, 3) := dk_182 0 175 (dk_at dksX10_narrow_6 8 rfl rfl)
theorem dX10_narrow_150 : decode cX10_narrow 150 = .ok (.lload 5, 2) := dk_22 5 (dk_at dksX10_narrow_6 11 rfl rfl)
theorem dX10_narrow_152 : decode cX10_narrow 152 = .ok (.ldiv, 1) := dk_109 (dk_at dksX10_narrow_6 13 rfl rfl)
theorem dX10_narrow_153 : decode cX10_narrow 153 = .ok (.invokevirtual 167, 3) := dk_182 0 167 (dk_at dksX10_narrow_6 14 rfl rfl)
theorem dX10_narrow_156 : decode cX10_narrow 156 = .ok (.iinc 7 1, 3) := dk_132 7 1 (dk_at dksX10_narrow_6 17 rfl rfl)
theorem dX10_narrow_159 : decode cX10_narrow 159 = .ok (.goto (-36), 3) := dk_167 255 220 (dk_at dksX10_narrow_6 20 rfl rfl)
theorem dX10_narrow_162 : decode cX10_narrow 162 = .ok (.iload_n 3, 1) := dk_29 (dk_at dksX10_narrow_6 23 rfl rfl)
theorem dX10_narrow_163 : decode cX10_narrow 163 = .ok (.iconst 1, 1) := dk_4 (dk_at dksX10_narrow_7 0 rfl rfl)
theorem dX10_narrow_164 : decode cX10_narrow 164 = .ok (.if_icmp .le 7, 3) := dk_164 0 7 (dk_at dksX10_narrow_7 1 rfl rfl)
theorem dX10_narrow_167 : decode cX10_narrow 167 = .ok (.iconst 1, 1) := dk_4 (dk_at dksX10_narrow_7 4 rfl rfl)
theorem dX10_narrow_168 : decode cX10_narrow 168 = .ok (.goto 4, 3) := dk_167 0 4 (dk_at dksX10_narrow_7 5 rfl rfl)
theorem dX10_narrow_171 : decode cX10_narrow 171 = .ok (.iconst 0, 1) := dk_3 (dk_at dksX10_narrow_7 8 rfl rfl)
theorem dX10_narrow_172 : decode cX10_narrow 172 = .ok (.istore_n 2, 1) := dk_61 (dk_at dksX10_narrow_7 9 rfl rfl)
theorem dX10_narrow_173 : decode cX10_narrow 173 = .ok (.goto (-169), 3) := dk_167 255 87 (dk_at dksX10_narrow_7 10 rfl rfl)
theorem dX10_narrow_176 : decode cX10_narrow 176 = .ok (.aload_n 0, 1) := dk_42 (dk_at dksX10_narrow_7 13 rfl rfl)
theorem dX10_narrow_177 : decode cX10_narrow 177 = .ok (.getfield 38, 3) := dk_180 0 38 (dk_at dksX10_narrow_7 14 rfl rfl)
theorem dX10_narrow_180 : decode cX10_narrow 180 = .ok (.bipush 7, 2) := dk_16 7 (dk_at dksX10_narrow_7 17 rfl rfl)
theorem dX10_narrow_182 : decode cX10_narrow 182 = .ok (.iload_n 1, 1) := dk_27 (dk_at dksX10_narrow_7 19 rfl rfl)
theorem dX10_narrow_183 : decode cX10_narrow 183 = .ok (.imul, 1) := dk_104 (dk_at dksX10_narrow_7 20 rfl rfl)
theorem dX10_narrow_184 : decode cX10_narrow 184 = .ok (.aload_n 0, 1) := dk_42 (dk_at dksX10_narrow_7 21 rfl rfl)
theorem dX10_narrow_185 : decode cX10_narrow 185 = .ok (.getfield 143, 3) := dk_180 0 143 (dk_at dksX10_narrow_8 0 rfl rfl)
theorem dX10_narrow_188 : decode cX10_narrow 188 = .ok (.iadd, 1) := dk_96 (dk_at dksX10_narrow_8 3 rfl rfl)
theorem dX10_narrow_189 : decode cX10_narrow 189 = .ok (.iaload, 1) := dk_46 (dk_at dksX10_narrow_8 4 rfl rfl)
theorem dX10_narrow_190 : decode cX10_narrow 190 = .ok (.i2l, 1) := dk_133 (dk_at dksX10_narrow_8 5 rfl rfl)
theorem dX10_narrow_191 : decode cX10_narrow 191 = .ok (.aload_n 0, 1) := dk_42 (dk_at dksX10_narrow_8 6 rfl rfl)
theorem dX10_narrow_192 : decode cX10_narrow 192 = .ok (.iload_n 1, 1) := dk_27 (dk_at dksX10_narrow_8 7 rfl rfl)
theorem dX10_narrow_193 : decode cX10_narrow 193 = .ok (.aload_n 0, 1) := dk_42 (dk_at dksX10_narrow_8 8 rfl rfl)
theorem dX10_narrow_194 : decode cX10_narrow 194 = .ok (.getfield 72, 3) := dk_180 0 72 (dk_at dksX10_narrow_8 9 rfl rfl)
theorem dX10_narrow_197 : decode cX10_narrow 197 = .ok (.iconst 0, 1) := dk_3 (dk_at dksX10_narrow_8 12 rfl rfl)
theorem dX10_narrow_198 : decode cX10_narrow 198 = .ok (.invokevirtual 175, 3) := dk_182 0 175 (dk_at dksX10_narrow_8 13 rfl rfl)
theorem dX10_narrow_201 : decode cX10_narrow 201 = .ok (.lsub, 1) := dk_101 (dk_at dksX10_narrow_8 16 rfl rfl)
theorem dX10_narrow_202 : decode cX10_narrow 202 = .ok (.lstore 4, 2) := dk_55 4 (dk_at dksX10_narrow_8 17 rfl rfl)
theorem dX10_narrow_204 : decode cX10_narrow 204 = .ok (.iload_n 3, 1) := dk_29 (dk_at dksX10_narrow_8 19 rfl rfl)
theorem dX10_narrow_205 : decode cX10_narrow 205 = .ok (.ifCond .ne 27, 3) := dk_154 0 27 (dk_at dksX10_narrow_8 20 rfl rfl)
theorem dX10_narrow_208 : decode cX10_narrow 208 = .ok (.aload_n 0, 1) := dk_42 (dk_at dksX10_narrow_8 23 rfl rfl)
theorem dX10_narrow_209 : decode cX10_narrow 209 = .ok (.aload_n 0, 1) := dk_42 (dk_at dksX10_narrow_9 0 rfl rfl)
theorem dX10_narrow_210 : decode cX10_narrow 210 = .ok (.getfield 179, 3) := dk_180 0 179 (dk_at dksX10_narrow_9 1 rfl rfl)
theorem dX10_narrow_213 : decode cX10_narrow 213 = .ok (.ifCond .eq 14, 3) := dk_153 0 14 (dk_at dksX10_narrow_9 4 rfl rfl)
theorem dX10_narrow_216 : decode cX10_narrow 216 = .ok (.lload 4, 2) := dk_22 4 (dk_at dksX10_narrow_9 7 rfl rfl)
theorem dX10_narrow_218 : decode cX10_narrow 218 = .ok (.lconst 0, 1) := dk_9 (dk_at dksX10_narrow_9 9 rfl rfl)
theorem dX10_narrow_219 : decode cX10_narrow 219 = .ok (.lcmp, 1) := dk_148 (dk_at dksX10_narrow_9 10 rfl rfl)
theorem dX10_narrow_220 : decode cX10_narrow 220 = .ok (.ifCond .ne 7, 3) := dk_154 0 7 (dk_at dksX10_narrow_9 11 rfl rfl)
theorem dX10_narrow_223 : decode cX10_narrow 223 = .ok (.iconst 1, 1) := dk_4 (dk_at dksX10_narrow_9 14 rfl rfl)
theorem dX10_narrow_224 : decode cX10_narrow 224 = .ok (.goto 4, 3) := dk_167 0 4 (dk_at dksX10_narrow_9 15 rfl rfl)
theorem dX10_narrow_227 : decode cX10_narrow 227 = .ok (.iconst 0, 1) := dk_3 (dk_at dksX10_narrow_9 18 rfl rfl)
theorem dX10_narrow_228 : decode cX10_narrow 228 = .ok (.putfield 179, 3) := dk_181 0 179 (dk_at dksX10_narrow_9 19 rfl rfl)
theorem dX10_narrow_231 : decode cX10_narrow 231 = .ok (.return_, 1) := dk_177 (dk_at dksX10_narrow_9 22 rfl rfl)
theorem dX10_narrow_232 : decode cX10_narrow 232 = .ok (.aload_n 0, 1) := dk_42 (dk_at dksX10_narrow_9 23 rfl rfl)
theorem dX10_narrow_233 : decode cX10_narrow 233 = .ok (.iload_n 1, 1) := dk_27 (dk_at dksX10_narrow_10 0 rfl rfl)
theorem dX10_narrow_234 : decode cX10_narrow 234 = .ok (.aload_n 0, 1) := dk_42 (dk_at dksX10_narrow_10 1 rfl rfl)
theorem dX10_narrow_235 : decode cX10_narrow 235 = .ok (.getfield 68, 3) := dk_180 0 68 (dk_at dksX10_narrow_10 2 rfl rfl)
theorem dX10_narrow_238 : decode cX10_narrow 238 = .ok (.iconst 0, 1) := dk_3 (dk_at dksX10_narrow_10 5 rfl rfl)
theorem dX10_narrow_239 : decode cX10_narrow 239 = .ok (.invokevirtual 175, 3) := dk_182 0 175 (dk_at dksX10_narrow_10 6 rfl rfl)
theorem dX10_narrow_242 : decode cX10_narrow 242 = .ok (.lstore 6, 2) := dk_55 6 (dk_at dksX10_narrow_10 9 rfl rfl)
theorem dX10_narrow_244 : decode cX10_narrow 244 = .ok (.aload_n 0, 1) := dk_42 (dk_at dksX10_narrow_10 11 rfl rfl)
theorem dX10_narrow_245 : decode cX10_narrow 245 = .ok (.aload_n 0, 1) := dk_42 (dk_at dksX10_narrow_10 12 rfl rfl)
theorem dX10_narrow_246 : decode cX10_narrow 246 = .ok (.getfield 179, 3) := dk_180 0 179 (dk_at dksX10_narrow_10 13 rfl rfl)
theorem dX10_narrow_249 : decode cX10_narrow 249 = .ok (.ifCond .eq 17, 3) := dk_153 0 17 (dk_at dksX10_narrow_10 16 rfl rfl)
theorem dX10_narrow_252 : decode cX10_narrow 252 = .ok (.lload 4, 2) := dk_22 4 (dk_at dksX10_narrow_10 19 rfl rfl)
theorem dX10_narrow_254 : decode cX10_narrow 254 = .ok (.lload 6, 2) := dk_22 6 (dk_at dksX10_narrow_10 21 rfl rfl)
theorem dX10_narrow_256 : decode cX10_narrow 256 = .ok (.lrem, 1) := dk_113 (dk_at dksX10_narrow_10 23 rfl rfl)
theorem dX10_narrow_257 : decode cX10_narrow 257 = .ok (.lconst 0, 1) := dk_9 (dk_at dksX10_narrow_11 0 rfl rfl)
theorem dX10_narrow_258 : decode cX10_narrow 258 = .ok (.lcmp, 1) := dk_148 (dk_at dksX10_narrow_11 1 rfl rfl)
theorem dX10_narrow_259 : decode cX10_narrow 259 = .ok (.ifCond .ne 7, 3) := dk_154 0 7 (dk_at dksX10_narrow_11 2 rfl rfl)
theorem dX10_narrow_262 : decode cX10_narrow 262 = .ok (.iconst 1, 1) := dk_4 (dk_at dksX10_narrow_11 5 rfl rfl)
theorem dX10_narrow_263 : decode cX10_narrow 263 = .ok (.goto 4, 3) := dk_167 0 4 (dk_at dksX10_narrow_11 6 rfl rfl)
theorem dX10_narrow_266 : decode cX10_narrow 266 = .ok (.iconst 0, 1) := dk_3 (dk_at dksX10_narrow_11 9 rfl rfl)
theorem dX10_narrow_267 : decode cX10_narrow 267 = .ok (.putfield 179, 3) := dk_181 0 179 (dk_at dksX10_narrow_11 10 rfl rfl)
theorem dX10_narrow_270 : decode cX10_narrow 270 = .ok (.iconst 0, 1) := dk_3 (dk_at dksX10_narrow_11 13 rfl rfl)
theorem dX10_narrow_271 : decode cX10_narrow 271 = .ok (.istore 8, 2) := dk_54 8 (dk_at dksX10_narrow_11 14 rfl rfl)
theorem dX10_narrow_273 : decode cX10_narrow 273 = .ok (.iload 8, 2) := dk_21 8 (dk_at dksX10_narrow_11 16 rfl rfl)
theorem dX10_narrow_275 : decode cX10_narrow 275 = .ok (.aload_n 0, 1) := dk_42 (dk_at dksX10_narrow_11 18 rfl rfl)
theorem dX10_narrow_276 : decode cX10_narrow 276 = .ok (.getfield 143, 3) := dk_180 0 143 (dk_at dksX10_narrow_11 19 rfl rfl)
theorem dX10_narrow_279 : decode cX10_narrow 279 = .ok (.if_icmp .ge 44, 3) := dk_162 0 44 (dk_at dksX10_narrow_12 0 rfl rfl)
theorem dX10_narrow_282 : decode cX10_narrow 282 = .ok (.aload_n 0, 1) := dk_42 (dk_at dksX10_narrow_12 3 rfl rfl)
theorem dX10_narrow_283 : decode cX10_narrow 283 = .ok (.getfield 179, 3) := dk_180 0 179 (dk_at dksX10_narrow_12 4 rfl rfl)
theorem dX10_narrow_286 : decode cX10_narrow 286 = .ok (.ifCond .eq 37, 3) := dk_153 0 37 (dk_at dksX10_narrow_12 7 rfl rfl)
theorem dX10_narrow_289 : decode cX10_narrow 289 = .ok (.aload_n 0, 1) := dk_42 (dk_at dksX10_narrow_12 10 rfl rfl)
theorem dX10_narrow_290 : decode cX10_narrow 290 = .ok (.getfield 72, 3) := dk_180 0 72 (dk_at dksX10_narrow_12 11 rfl rfl)
theorem dX10_narrow_293 : decode cX10_narrow 293 = .ok (.iload 8, 2) := dk_21 8 (dk_at dksX10_narrow_12 14 rfl rfl)
theorem dX10_narrow_295 : decode cX10_narrow 295 = .ok (.aload_n 0, 1) := dk_42 (dk_at dksX10_narrow_12 16 rfl rfl)
theorem dX10_narrow_296 : decode cX10_narrow 296 = .ok (.getfield 72, 3) := dk_180 0 72 (dk_at dksX10_narrow_12 17 rfl rfl)
theorem dX10_narrow_299 : decode cX10_narrow 299 = .ok (.iload 8, 2) := dk_21 8 (dk_at dksX10_narrow_12 20 rfl rfl)
theorem dX10_narrow_301 : decode cX10_narrow 301 = .ok (.laload, 1) := dk_47 (dk_at dksX10_narrow_12 22 rfl rfl)
theorem dX10_narrow_302 : decode cX10_narrow 302 = .ok (.lload 4, 2) := dk_22 4 (dk_at dksX10_narrow_13 0 rfl rfl)
theorem dX10_narrow_304 : decode cX10_narrow 304 = .ok (.lload 6, 2) := dk_22 6 (dk_at dksX10_narrow_13 2 rfl rfl)
theorem dX10_narrow_306 : decode cX10_narrow 306 = .ok (.ldiv, 1) := dk_109 (dk_at dksX10_narrow_13 4 rfl rfl)
theorem dX10_narrow_307 : decode cX10_narrow 307 = .ok (.aload_n 0, 1) := dk_42 (dk_at dksX10_narrow_13 5 rfl rfl)
theorem dX10_narrow_308 : decode cX10_narrow 308 = .ok (.getfield 68, 3) := dk_180 0 68 (dk_at dksX10_narrow_13 6 rfl rfl)
theorem dX10_narrow_311 : decode cX10_narrow 311 = .ok (.iload 8, 2) := dk_21 8 (dk_at dksX10_narrow_13 9 rfl rfl)
theorem dX10_narrow_313 : decode cX10_narrow 313 = .ok (.laload, 1) := dk_47 (dk_at dksX10_narrow_13 11 rfl rfl)
theorem dX10_narrow_314 : decode cX10_narrow 314 = .ok (.lmul, 1) := dk_105 (dk_at dksX10_narrow_13 12 rfl rfl)
theorem dX10_narrow_315 : decode cX10_narrow 315 = .ok (.ladd, 1) := dk_97 (dk_at dksX10_narrow_13 13 rfl rfl)
theorem dX10_narrow_316 : decode cX10_narrow 316 = .ok (.lastore, 1) := dk_80 (dk_at dksX10_narrow_13 14 rfl rfl)
theorem dX10_narrow_317 : decode cX10_narrow 317 = .ok (.iinc 8 1, 3) := dk_132 8 1 (dk_at dksX10_narrow_13 15 rfl rfl)
theorem dX10_narrow_320 : decode cX10_narrow 320 = .ok (.goto (-47), 3) := dk_167 255 209 (dk_at dksX10_narrow_13 18 rfl rfl)
theorem dX10_narrow_323 : decode cX10_narrow 323 = .ok (.aload_n 0, 1) := dk_42 (dk_at dksX10_narrow_13 21 rfl rfl)
theorem dX10_narrow_324 : decode cX10_narrow 324 = .ok (.dup, 1) := dk_89 (dk_at dksX10_narrow_13 22 rfl rfl)
theorem dX10_narrow_325 : decode cX10_narrow 325 = .ok (.getfield 152, 3) := dk_180 0 152 (dk_at dksX10_narrow_14 0 rfl rfl)
theorem dX10_narrow_328 : decode cX10_narrow 328 = .ok (.iconst 1, 1) := dk_4 (dk_at dksX10_narrow_14 3 rfl rfl)
theorem dX10_narrow_329 : decode cX10_narrow 329 = .ok (.isub, 1) := dk_100 (dk_at dksX10_narrow_14 4 rfl rfl)
theorem dX10_narrow_330 : decode cX10_narrow 330 = .ok (.putfield 152, 3) := dk_181 0 152 (dk_at dksX10_narrow_14 5 rfl rfl)
theorem dX10_narrow_333 : decode cX10_narrow 333 = .ok (.iconst 0, 1) := dk_3 (dk_at dksX10_narrow_14 8 rfl rfl)
theorem dX10_narrow_334 : decode cX10_narrow 334 = .ok (.istore 8, 2) := dk_54 8 (dk_at dksX10_narrow_14 9 rfl rfl)
theorem dX10_narrow_336 : decode cX10_narrow 336 = .ok (.iload 8, 2) := dk_21 8 (dk_at dksX10_narrow_14 11 rfl rfl)
theorem dX10_narrow_338 : decode cX10_narrow 338 = .ok (.bipush 6, 2) := dk_16 6 (dk_at dksX10_narrow_14 13 rfl rfl)
theorem dX10_narrow_340 : decode cX10_narrow 340 = .ok (.aload_n 0, 1) := dk_42 (dk_at dksX10_narrow_14 15 rfl rfl)
theorem dX10_narrow_341 : decode cX10_narrow 341 = .ok (.getfield 152, 3) := dk_180 0 152 (dk_at dksX10_narrow_14 16 rfl rfl)
theorem dX10_narrow_344 : decode cX10_narrow 344 = .ok (.imul, 1) := dk_104 (dk_at dksX10_narrow_14 19 rfl rfl)
theorem dX10_narrow_345 : decode cX10_narrow 345 = .ok (.if_icmp .ge 26, 3) := dk_162 0 26 (dk_at dksX10_narrow_14 20 rfl rfl)
theorem dX10_narrow_348 : decode cX10_narrow 348 = .ok (.aload_n 0, 1) := dk_42 (dk_at dksX10_narrow_14 23 rfl rfl)
theorem dX10_narrow_349 : decode cX10_narrow 349 = .ok (.getfield 68, 3) := dk_180 0 68 (dk_at dksX10_narrow_15 0 rfl rfl)
theorem dX10_narrow_352 : decode cX10_narrow 352 = .ok (.iload 8, 2) := dk_21 8 (dk_at dksX10_narrow_15 3 rfl rfl)
theorem dX10_narrow_354 : decode cX10_narrow 354 = .ok (.aload_n 0, 1) := dk_42 (dk_at dksX10_narrow_15 5 rfl rfl)
theorem dX10_narrow_355 : decode cX10_narrow 355 = .ok (.getfield 68, 3) := dk_180 0 68 (dk_at dksX10_narrow_15 6 rfl rfl)
theorem dX10_narrow_358 : decode cX10_narrow 358 = .ok (.iload 8, 2) := dk_21 8 (dk_at dksX10_narrow_15 9 rfl rfl)
theorem dX10_narrow_360 : decode cX10_narrow 360 = .ok (.bipush 6, 2) := dk_16 6 (dk_at dksX10_narrow_15 11 rfl rfl)
theorem dX10_narrow_362 : decode cX10_narrow 362 = .ok (.iadd, 1) := dk_96 (dk_at dksX10_narrow_15 13 rfl rfl)
theorem dX10_narrow_363 : decode cX10_narrow 363 = .ok (.laload, 1) := dk_47 (dk_at dksX10_narrow_15 14 rfl rfl)
theorem dX10_narrow_364 : decode cX10_narrow 364 = .ok (.lastore, 1) := dk_80 (dk_at dksX10_narrow_15 15 rfl rfl)
theorem dX10_narrow_365 : decode cX10_narrow 365 = .ok (.iinc 8 1, 3) := dk_132 8 1 (dk_at dksX10_narrow_15 16 rfl rfl)
theorem dX10_narrow_368 : decode cX10_narrow 368 = .ok (.goto (-32), 3) := dk_167 255 224 (dk_at dksX10_narrow_15 19 rfl rfl)
theorem dX10_narrow_371 : decode cX10_narrow 371 = .ok (.return_, 1) := dk_177 (dk_at dksX10_narrow_15 22 rfl rfl)
abbrev cX10_dot : ByteArray := prog_14_method_18_code
def yX10_dot : MethodName := ⟨RX10, "dot", "(I[JI)J"⟩
def dkwX10_dot_2 : List UInt8 := [173]
abbrev dktX10_dot_2 : List UInt8 := dkwX10_dot_2 ++ []
def dkwX10_dot_1 : List UInt8 := [104, 21, 6, 96, 46, 133, 44, 29, 21, 6, 96, 47, 105, 97, 55, 4, 132, 6, 1, 167, 255, 219, 22, 4]
abbrev dktX10_dot_1 : List UInt8 := dkwX10_dot_1 ++ dktX10_dot_2
def dkwX10_dot_0 : List UInt8 := [9, 55, 4, 3, 54, 6, 21, 6, 42, 180, 0, 143, 162, 0, 34, 22, 4, 42, 180, 0, 38, 16, 7, 27]
abbrev dktX10_dot_0 : List UInt8 := dkwX10_dot_0 ++ dktX10_dot_1
theorem dksX10_dot_0 : cX10_dot.data.toList.drop 0 = dktX10_dot_0 := by decide +kernel
theorem dksX10_dot_1 : cX10_dot.data.toList.drop 24 = dktX10_dot_1 := dk_seg dksX10_dot_0 24 rfl rfl
theorem dksX10_dot_2 : cX10_dot.data.toList.drop 48 = dktX10_dot_2 := dk_seg dksX10_dot_1 24 rfl rfl
theorem dX10_dot_0 : decode cX10_dot 0 = .ok (.lconst 0, 1) := dk_9 (dk_at dksX10_dot_0 0 rfl rfl)
theorem dX10_dot_1 : decode cX10_dot 1 = .ok (.lstore 4, 2) := dk_55 4 (dk_at dksX10_dot_0 1 rfl rfl)
theorem dX10_dot_3 : decode cX10_dot 3 = .ok (.iconst 0, 1) := dk_3 (dk_at dksX10_dot_0 3 rfl rfl)
theorem dX10_dot_4 : decode cX10_dot 4 = .ok (.istore 6, 2) := dk_54 6 (dk_at dksX10_dot_0 4 rfl rfl)
theorem dX10_dot_6 : decode cX10_dot 6 = .ok (.iload 6, 2) := dk_21 6 (dk_at dksX10_dot_0 6 rfl rfl)
theorem dX10_dot_8 : decode cX10_dot 8 = .ok (.aload_n 0, 1) := dk_42 (dk_at dksX10_dot_0 8 rfl rfl)
theorem dX10_dot_9 : decode cX10_dot 9 = .ok (.getfield 143, 3) := dk_180 0 143 (dk_at dksX10_dot_0 9 rfl rfl)
theorem dX10_dot_12 : decode cX10_dot 12 = .ok (.if_icmp .ge 34, 3) := dk_162 0 34 (dk_at dksX10_dot_0 12 rfl rfl)
theorem dX10_dot_15 : decode cX10_dot 15 = .ok (.lload 4, 2) := dk_22 4 (dk_at dksX10_dot_0 15 rfl rfl)
theorem dX10_dot_17 : decode cX10_dot 17 = .ok (.aload_n 0, 1) := dk_42 (dk_at dksX10_dot_0 17 rfl rfl)
theorem dX10_dot_18 : decode cX10_dot 18 = .ok (.getfield 38, 3) := dk_180 0 38 (dk_at dksX10_dot_0 18 rfl rfl)
theorem dX10_dot_21 : decode cX10_dot 21 = .ok (.bipush 7, 2) := dk_16 7 (dk_at dksX10_dot_0 21 rfl rfl)
theorem dX10_dot_23 : decode cX10_dot 23 = .ok (.iload_n 1, 1) := dk_27 (dk_at dksX10_dot_0 23 rfl rfl)
theorem dX10_dot_24 : decode cX10_dot 24 = .ok (.imul, 1) := dk_104 (dk_at dksX10_dot_1 0 rfl rfl)
theorem dX10_dot_25 : decode cX10_dot 25 = .ok (.iload 6, 2) := dk_21 6 (dk_at dksX10_dot_1 1 rfl rfl)
theorem dX10_dot_27 : decode cX10_dot 27 = .ok (.iadd, 1) := dk_96 (dk_at dksX10_dot_1 3 rfl rfl)
theorem dX10_dot_28 : decode cX10_dot 28 = .ok (.iaload, 1) := dk_46 (dk_at dksX10_dot_1 4 rfl rfl)
theorem dX10_dot_29 : decode cX10_dot 29 = .ok (.i2l, 1) := dk_133 (dk_at dksX10_dot_1 5 rfl rfl)
theorem dX10_dot_30 : decode cX10_dot 30 = .ok (.aload_n 2, 1) := dk_44 (dk_at dksX10_dot_1 6 rfl rfl)
theorem dX10_dot_31 : decode cX10_dot 31 = .ok (.iload_n 3, 1) := dk_29 (dk_at dksX10_dot_1 7 rfl rfl)
theorem dX10_dot_32 : decode cX10_dot 32 = .ok (.iload 6, 2) := dk_21 6 (dk_at dksX10_dot_1 8 rfl rfl)
theorem dX10_dot_34 : decode cX10_dot 34 = .ok (.iadd, 1) := dk_96 (dk_at dksX10_dot_1 10 rfl rfl)
theorem dX10_dot_35 : decode cX10_dot 35 = .ok (.laload, 1) := dk_47 (dk_at dksX10_dot_1 11 rfl rfl)
theorem dX10_dot_36 : decode cX10_dot 36 = .ok (.lmul, 1) := dk_105 (dk_at dksX10_dot_1 12 rfl rfl)
theorem dX10_dot_37 : decode cX10_dot 37 = .ok (.ladd, 1) := dk_97 (dk_at dksX10_dot_1 13 rfl rfl)
theorem dX10_dot_38 : decode cX10_dot 38 = .ok (.lstore 4, 2) := dk_55 4 (dk_at dksX10_dot_1 14 rfl rfl)
theorem dX10_dot_40 : decode cX10_dot 40 = .ok (.iinc 6 1, 3) := dk_132 6 1 (dk_at dksX10_dot_1 16 rfl rfl)
theorem dX10_dot_43 : decode cX10_dot 43 = .ok (.goto (-37), 3) := dk_167 255 219 (dk_at dksX10_dot_1 19 rfl rfl)
theorem dX10_dot_46 : decode cX10_dot 46 = .ok (.lload 4, 2) := dk_22 4 (dk_at dksX10_dot_1 22 rfl rfl)
theorem dX10_dot_48 : decode cX10_dot 48 = .ok (.lreturn, 1) := dk_173 (dk_at dksX10_dot_2 0 rfl rfl)
abbrev cX10_size : ByteArray := prog_14_method_19_code
def yX10_size : MethodName := ⟨RX10, "size", "(J)J"⟩
def dkwX10_size_0 : List UInt8 := [30, 9, 148, 156, 0, 8, 30, 117, 167, 0, 4, 30, 173]
abbrev dktX10_size_0 : List UInt8 := dkwX10_size_0 ++ []
theorem dksX10_size_0 : cX10_size.data.toList.drop 0 = dktX10_size_0 := by decide +kernel
theorem dX10_size_0 : decode cX10_size 0 = .ok (.lload_n 0, 1) := dk_30 (dk_at dksX10_size_0 0 rfl rfl)
theorem dX10_size_1 : decode cX10_size 1 = .ok (.lconst 0, 1) := dk_9 (dk_at dksX10_size_0 1 rfl rfl)
theorem dX10_size_2 : decode cX10_size 2 = .ok (.lcmp, 1) := dk_148 (dk_at dksX10_size_0 2 rfl rfl)
theorem dX10_size_3 : decode cX10_size 3 = .ok (.ifCond .ge 8, 3) := dk_156 0 8 (dk_at dksX10_size_0 3 rfl rfl)
theorem dX10_size_6 : decode cX10_size 6 = .ok (.lload_n 0, 1) := dk_30 (dk_at dksX10_size_0 6 rfl rfl)
theorem dX10_size_7 : decode cX10_size 7 = .ok (.lneg, 1) := dk_117 (dk_at dksX10_size_0 7 rfl rfl)
theorem dX10_size_8 : decode cX10_size 8 = .ok (.goto 4, 3) := dk_167 0 4 (dk_at dksX10_size_0 8 rfl rfl)
theorem dX10_size_11 : decode cX10_size 11 = .ok (.lload_n 0, 1) := dk_30 (dk_at dksX10_size_0 11 rfl rfl)
theorem dX10_size_12 : decode cX10_size 12 = .ok (.lreturn, 1) := dk_173 (dk_at dksX10_size_0 12 rfl rfl)
abbrev cX10_exchange : ByteArray := prog_14_method_21_code
def yX10_exchange : MethodName := ⟨RX10, "exchange", "(II)V"⟩
def dkwX10_exchange_2 : List UInt8 := [180, 0, 68, 16, 6, 28, 104, 29, 96, 22, 4, 80, 132, 3, 1, 167, 255, 197, 177]
abbrev dktX10_exchange_2 : List UInt8 := dkwX10_exchange_2 ++ []
def dkwX10_exchange_1 : List UInt8 := [180, 0, 68, 16, 6, 27, 104, 29, 96, 42, 180, 0, 68, 16, 6, 28, 104, 29, 96, 47, 80, 42]
abbrev dktX10_exchange_1 : List UInt8 := dkwX10_exchange_1 ++ dktX10_exchange_2
def dkwX10_exchange_0 : List UInt8 := [3, 62, 29, 42, 180, 0, 143, 162, 0, 57, 42, 180, 0, 68, 16, 6, 27, 104, 29, 96, 47, 55, 4, 42]
abbrev dktX10_exchange_0 : List UInt8 := dkwX10_exchange_0 ++ dktX10_exchange_1
theorem dksX10_exchange_0 : cX10_exchange.data.toList.drop 0 = dktX10_exchange_0 := by decide +kernel
theorem dksX10_exchange_1 : cX10_exchange.data.toList.drop 24 = dktX10_exchange_1 := dk_seg dksX10_exchange_0 24 rfl rfl
theorem dksX10_exchange_2 : cX10_exchange.data.toList.drop 46 = dktX10_exchange_2 := dk_seg dksX10_exchange_1 22 rfl rfl
theorem dX10_exchange_0 : decode cX10_exchange 0 = .ok (.iconst 0, 1) := dk_3 (dk_at dksX10_exchange_0 0 rfl rfl)
theorem dX10_exchange_1 : decode cX10_exchange 1 = .ok (.istore_n 3, 1) := dk_62 (dk_at dksX10_exchange_0 1 rfl rfl)
theorem dX10_exchange_2 : decode cX10_exchange 2 = .ok (.iload_n 3, 1) := dk_29 (dk_at dksX10_exchange_0 2 rfl rfl)
theorem dX10_exchange_3 : decode cX10_exchange 3 = .ok (.aload_n 0, 1) := dk_42 (dk_at dksX10_exchange_0 3 rfl rfl)
theorem dX10_exchange_4 : decode cX10_exchange 4 = .ok (.getfield 143, 3) := dk_180 0 143 (dk_at dksX10_exchange_0 4 rfl rfl)
theorem dX10_exchange_7 : decode cX10_exchange 7 = .ok (.if_icmp .ge 57, 3) := dk_162 0 57 (dk_at dksX10_exchange_0 7 rfl rfl)
theorem dX10_exchange_10 : decode cX10_exchange 10 = .ok (.aload_n 0, 1) := dk_42 (dk_at dksX10_exchange_0 10 rfl rfl)
theorem dX10_exchange_11 : decode cX10_exchange 11 = .ok (.getfield 68, 3) := dk_180 0 68 (dk_at dksX10_exchange_0 11 rfl rfl)
theorem dX10_exchange_14 : decode cX10_exchange 14 = .ok (.bipush 6, 2) := dk_16 6 (dk_at dksX10_exchange_0 14 rfl rfl)
theorem dX10_exchange_16 : decode cX10_exchange 16 = .ok (.iload_n 1, 1) := dk_27 (dk_at dksX10_exchange_0 16 rfl rfl)
theorem dX10_exchange_17 : decode cX10_exchange 17 = .ok (.imul, 1) := dk_104 (dk_at dksX10_exchange_0 17 rfl rfl)
theorem dX10_exchange_18 : decode cX10_exchange 18 = .ok (.iload_n 3, 1) := dk_29 (dk_at dksX10_exchange_0 18 rfl rfl)
theorem dX10_exchange_19 : decode cX10_exchange 19 = .ok (.iadd, 1) := dk_96 (dk_at dksX10_exchange_0 19 rfl rfl)
theorem dX10_exchange_20 : decode cX10_exchange 20 = .ok (.laload, 1) := dk_47 (dk_at dksX10_exchange_0 20 rfl rfl)
theorem dX10_exchange_21 : decode cX10_exchange 21 = .ok (.lstore 4, 2) := dk_55 4 (dk_at dksX10_exchange_0 21 rfl rfl)
theorem dX10_exchange_23 : decode cX10_exchange 23 = .ok (.aload_n 0, 1) := dk_42 (dk_at dksX10_exchange_0 23 rfl rfl)
theorem dX10_exchange_24 : decode cX10_exchange 24 = .ok (.getfield 68, 3) := dk_180 0 68 (dk_at dksX10_exchange_1 0 rfl rfl)
theorem dX10_exchange_27 : decode cX10_exchange 27 = .ok (.bipush 6, 2) := dk_16 6 (dk_at dksX10_exchange_1 3 rfl rfl)
theorem dX10_exchange_29 : decode cX10_exchange 29 = .ok (.iload_n 1, 1) := dk_27 (dk_at dksX10_exchange_1 5 rfl rfl)
theorem dX10_exchange_30 : decode cX10_exchange 30 = .ok (.imul, 1) := dk_104 (dk_at dksX10_exchange_1 6 rfl rfl)
theorem dX10_exchange_31 : decode cX10_exchange 31 = .ok (.iload_n 3, 1) := dk_29 (dk_at dksX10_exchange_1 7 rfl rfl)
theorem dX10_exchange_32 : decode cX10_exchange 32 = .ok (.iadd, 1) := dk_96 (dk_at dksX10_exchange_1 8 rfl rfl)
theorem dX10_exchange_33 : decode cX10_exchange 33 = .ok (.aload_n 0, 1) := dk_42 (dk_at dksX10_exchange_1 9 rfl rfl)
theorem dX10_exchange_34 : decode cX10_exchange 34 = .ok (.getfield 68, 3) := dk_180 0 68 (dk_at dksX10_exchange_1 10 rfl rfl)
theorem dX10_exchange_37 : decode cX10_exchange 37 = .ok (.bipush 6, 2) := dk_16 6 (dk_at dksX10_exchange_1 13 rfl rfl)
theorem dX10_exchange_39 : decode cX10_exchange 39 = .ok (.iload_n 2, 1) := dk_28 (dk_at dksX10_exchange_1 15 rfl rfl)
theorem dX10_exchange_40 : decode cX10_exchange 40 = .ok (.imul, 1) := dk_104 (dk_at dksX10_exchange_1 16 rfl rfl)
theorem dX10_exchange_41 : decode cX10_exchange 41 = .ok (.iload_n 3, 1) := dk_29 (dk_at dksX10_exchange_1 17 rfl rfl)
theorem dX10_exchange_42 : decode cX10_exchange 42 = .ok (.iadd, 1) := dk_96 (dk_at dksX10_exchange_1 18 rfl rfl)
theorem dX10_exchange_43 : decode cX10_exchange 43 = .ok (.laload, 1) := dk_47 (dk_at dksX10_exchange_1 19 rfl rfl)
theorem dX10_exchange_44 : decode cX10_exchange 44 = .ok (.lastore, 1) := dk_80 (dk_at dksX10_exchange_1 20 rfl rfl)
theorem dX10_exchange_45 : decode cX10_exchange 45 = .ok (.aload_n 0, 1) := dk_42 (dk_at dksX10_exchange_1 21 rfl rfl)
theorem dX10_exchange_46 : decode cX10_exchange 46 = .ok (.getfield 68, 3) := dk_180 0 68 (dk_at dksX10_exchange_2 0 rfl rfl)
theorem dX10_exchange_49 : decode cX10_exchange 49 = .ok (.bipush 6, 2) := dk_16 6 (dk_at dksX10_exchange_2 3 rfl rfl)
theorem dX10_exchange_51 : decode cX10_exchange 51 = .ok (.iload_n 2, 1) := dk_28 (dk_at dksX10_exchange_2 5 rfl rfl)
theorem dX10_exchange_52 : decode cX10_exchange 52 = .ok (.imul, 1) := dk_104 (dk_at dksX10_exchange_2 6 rfl rfl)
theorem dX10_exchange_53 : decode cX10_exchange 53 = .ok (.iload_n 3, 1) := dk_29 (dk_at dksX10_exchange_2 7 rfl rfl)
theorem dX10_exchange_54 : decode cX10_exchange 54 = .ok (.iadd, 1) := dk_96 (dk_at dksX10_exchange_2 8 rfl rfl)
theorem dX10_exchange_55 : decode cX10_exchange 55 = .ok (.lload 4, 2) := dk_22 4 (dk_at dksX10_exchange_2 9 rfl rfl)
theorem dX10_exchange_57 : decode cX10_exchange 57 = .ok (.lastore, 1) := dk_80 (dk_at dksX10_exchange_2 11 rfl rfl)
theorem dX10_exchange_58 : decode cX10_exchange 58 = .ok (.iinc 3 1, 3) := dk_132 3 1 (dk_at dksX10_exchange_2 12 rfl rfl)
theorem dX10_exchange_61 : decode cX10_exchange 61 = .ok (.goto (-59), 3) := dk_167 255 197 (dk_at dksX10_exchange_2 15 rfl rfl)
theorem dX10_exchange_64 : decode cX10_exchange 64 = .ok (.return_, 1) := dk_177 (dk_at dksX10_exchange_2 18 rfl rfl)
abbrev cX10_lose : ByteArray := prog_14_method_20_code
def yX10_lose : MethodName := ⟨RX10, "lose", "(IIJ)V"⟩
def dkwX10_lose_2 : List UInt8 := [105, 101, 80, 132, 5, 1, 167, 255, 205, 177]
abbrev dktX10_lose_2 : List UInt8 := dkwX10_lose_2 ++ []
def dkwX10_lose_1 : List UInt8 := [180, 0, 68, 16, 6, 27, 104, 21, 5, 96, 47, 33, 42, 180, 0, 68, 16, 6, 28, 104, 21, 5, 96, 47]
abbrev dktX10_lose_1 : List UInt8 := dkwX10_lose_1 ++ dktX10_lose_2
def dkwX10_lose_0 : List UInt8 := [3, 54, 5, 21, 5, 42, 180, 0, 143, 162, 0, 48, 42, 180, 0, 68, 16, 6, 27, 104, 21, 5, 96, 42]
abbrev dktX10_lose_0 : List UInt8 := dkwX10_lose_0 ++ dktX10_lose_1
theorem dksX10_lose_0 : cX10_lose.data.toList.drop 0 = dktX10_lose_0 := by decide +kernel
theorem dksX10_lose_1 : cX10_lose.data.toList.drop 24 = dktX10_lose_1 := dk_seg dksX10_lose_0 24 rfl rfl
theorem dksX10_lose_2 : cX10_lose.data.toList.drop 48 = dktX10_lose_2 := dk_seg dksX10_lose_1 24 rfl rfl
theorem dX10_lose_0 : decode cX10_lose 0 = .ok (.iconst 0, 1) := dk_3 (dk_at dksX10_lose_0 0 rfl rfl)
theorem dX10_lose_1 : decode cX10_lose 1 = .ok (.istore 5, 2) := dk_54 5 (dk_at dksX10_lose_0 1 rfl rfl)
theorem dX10_lose_3 : decode cX10_lose 3 = .ok (.iload 5, 2) := dk_21 5 (dk_at dksX10_lose_0 3 rfl rfl)
theorem dX10_lose_5 : decode cX10_lose 5 = .ok (.aload_n 0, 1) := dk_42 (dk_at dksX10_lose_0 5 rfl rfl)
theorem dX10_lose_6 : decode cX10_lose 6 = .ok (.getfield 143, 3) := dk_180 0 143 (dk_at dksX10_lose_0 6 rfl rfl)
theorem dX10_lose_9 : decode cX10_lose 9 = .ok (.if_icmp .ge 48, 3) := dk_162 0 48 (dk_at dksX10_lose_0 9 rfl rfl)
theorem dX10_lose_12 : decode cX10_lose 12 = .ok (.aload_n 0, 1) := dk_42 (dk_at dksX10_lose_0 12 rfl rfl)
theorem dX10_lose_13 : decode cX10_lose 13 = .ok (.getfield 68, 3) := dk_180 0 68 (dk_at dksX10_lose_0 13 rfl rfl)
theorem dX10_lose_16 : decode cX10_lose 16 = .ok (.bipush 6, 2) := dk_16 6 (dk_at dksX10_lose_0 16 rfl rfl)
theorem dX10_lose_18 : decode cX10_lose 18 = .ok (.iload_n 1, 1) := dk_27 (dk_at dksX10_lose_0 18 rfl rfl)
theorem dX10_lose_19 : decode cX10_lose 19 = .ok (.imul, 1) := dk_104 (dk_at dksX10_lose_0 19 rfl rfl)
theorem dX10_lose_20 : decode cX10_lose 20 = .ok (.iload 5, 2) := dk_21 5 (dk_at dksX10_lose_0 20 rfl rfl)
theorem dX10_lose_22 : decode cX10_lose 22 = .ok (.iadd, 1) := dk_96 (dk_at dksX10_lose_0 22 rfl rfl)
theorem dX10_lose_23 : decode cX10_lose 23 = .ok (.aload_n 0, 1) := dk_42 (dk_at dksX10_lose_0 23 rfl rfl)
theorem dX10_lose_24 : decode cX10_lose 24 = .ok (.getfield 68, 3) := dk_180 0 68 (dk_at dksX10_lose_1 0 rfl rfl)
theorem dX10_lose_27 : decode cX10_lose 27 = .ok (.bipush 6, 2) := dk_16 6 (dk_at dksX10_lose_1 3 rfl rfl)
theorem dX10_lose_29 : decode cX10_lose 29 = .ok (.iload_n 1, 1) := dk_27 (dk_at dksX10_lose_1 5 rfl rfl)
theorem dX10_lose_30 : decode cX10_lose 30 = .ok (.imul, 1) := dk_104 (dk_at dksX10_lose_1 6 rfl rfl)
theorem dX10_lose_31 : decode cX10_lose 31 = .ok (.iload 5, 2) := dk_21 5 (dk_at dksX10_lose_1 7 rfl rfl)
theorem dX10_lose_33 : decode cX10_lose 33 = .ok (.iadd, 1) := dk_96 (dk_at dksX10_lose_1 9 rfl rfl)
theorem dX10_lose_34 : decode cX10_lose 34 = .ok (.laload, 1) := dk_47 (dk_at dksX10_lose_1 10 rfl rfl)
theorem dX10_lose_35 : decode cX10_lose 35 = .ok (.lload_n 3, 1) := dk_33 (dk_at dksX10_lose_1 11 rfl rfl)
theorem dX10_lose_36 : decode cX10_lose 36 = .ok (.aload_n 0, 1) := dk_42 (dk_at dksX10_lose_1 12 rfl rfl)
theorem dX10_lose_37 : decode cX10_lose 37 = .ok (.getfield 68, 3) := dk_180 0 68 (dk_at dksX10_lose_1 13 rfl rfl)
theorem dX10_lose_40 : decode cX10_lose 40 = .ok (.bipush 6, 2) := dk_16 6 (dk_at dksX10_lose_1 16 rfl rfl)
theorem dX10_lose_42 : decode cX10_lose 42 = .ok (.iload_n 2, 1) := dk_28 (dk_at dksX10_lose_1 18 rfl rfl)
theorem dX10_lose_43 : decode cX10_lose 43 = .ok (.imul, 1) := dk_104 (dk_at dksX10_lose_1 19 rfl rfl)
theorem dX10_lose_44 : decode cX10_lose 44 = .ok (.iload 5, 2) := dk_21 5 (dk_at dksX10_lose_1 20 rfl rfl)
theorem dX10_lose_46 : decode cX10_lose 46 = .ok (.iadd, 1) := dk_96 (dk_at dksX10_lose_1 22 rfl rfl)
theorem dX10_lose_47 : decode cX10_lose 47 = .ok (.laload, 1) := dk_47 (dk_at dksX10_lose_1 23 rfl rfl)
theorem dX10_lose_48 : decode cX10_lose 48 = .ok (.lmul, 1) := dk_105 (dk_at dksX10_lose_2 0 rfl rfl)
theorem dX10_lose_49 : decode cX10_lose 49 = .ok (.lsub, 1) := dk_101 (dk_at dksX10_lose_2 1 rfl rfl)
theorem dX10_lose_50 : decode cX10_lose 50 = .ok (.lastore, 1) := dk_80 (dk_at dksX10_lose_2 2 rfl rfl)
theorem dX10_lose_51 : decode cX10_lose 51 = .ok (.iinc 5 1, 3) := dk_132 5 1 (dk_at dksX10_lose_2 3 rfl rfl)
theorem dX10_lose_54 : decode cX10_lose 54 = .ok (.goto (-51), 3) := dk_167 255 205 (dk_at dksX10_lose_2 6 rfl rfl)
theorem dX10_lose_57 : decode cX10_lose 57 = .ok (.return_, 1) := dk_177 (dk_at dksX10_lose_2 9 rfl rfl)
abbrev cX10_order : ByteArray := prog_14_method_24_code
def yX10_order : MethodName := ⟨RX10, "order", "()V"⟩
def dkwX10_order_4 : List UInt8 := [182, 0, 167, 132, 3, 1, 167, 255, 189, 132, 1, 1, 132, 2, 1, 167, 255, 153, 177]
abbrev dktX10_order_4 : List UInt8 := dkwX10_order_4 ++ []
def dkwX10_order_3 : List UInt8 := [155, 0, 11, 22, 4, 22, 6, 109, 167, 0, 15, 22, 4, 117, 22, 6, 97, 10, 101, 22, 6, 109, 117]
abbrev dktX10_order_3 : List UInt8 := dkwX10_order_3 ++ dktX10_order_4
def dkwX10_order_2 : List UInt8 := [55, 4, 42, 180, 0, 68, 16, 6, 27, 104, 28, 96, 47, 55, 6, 42, 29, 27, 22, 4, 9, 148]
abbrev dktX10_order_2 : List UInt8 := dkwX10_order_2 ++ dktX10_order_3
def dkwX10_order_1 : List UInt8 := [182, 0, 171, 153, 0, 78, 3, 62, 29, 27, 162, 0, 68, 42, 180, 0, 68, 16, 6, 29, 104, 28, 96, 47]
abbrev dktX10_order_1 : List UInt8 := dkwX10_order_1 ++ dktX10_order_2
def dkwX10_order_0 : List UInt8 := [3, 60, 3, 61, 28, 42, 180, 0, 143, 162, 0, 101, 27, 42, 180, 0, 152, 162, 0, 93, 42, 27, 28]
abbrev dktX10_order_0 : List UInt8 := dkwX10_order_0 ++ dktX10_order_1
theorem dksX10_order_0 : cX10_order.data.toList.drop 0 = dktX10_order_0 := by decide +kernel
theorem dksX10_order_1 : cX10_order.data.toList.drop 23 = dktX10_order_1 := dk_seg dksX10_order_0 23 rfl rfl
theorem dksX10_order_2 : cX10_order.data.toList.drop 47 = dktX10_order_2 := dk_seg dksX10_order_1 24 rfl rfl
theorem dksX10_order_3 : cX10_order.data.toList.drop 69 = dktX10_order_3 := dk_seg dksX10_order_2 22 rfl rfl
theorem dksX10_order_4 : cX10_order.data.toList.drop 92 = dktX10_order_4 := dk_seg dksX10_order_3 23 rfl rfl
theorem dX10_order_0 : decode cX10_order 0 = .ok (.iconst 0, 1) := dk_3 (dk_at dksX10_order_0 0 rfl rfl)
theorem dX10_order_1 : decode cX10_order 1 = .ok (.istore_n 1, 1) := dk_60 (dk_at dksX10_order_0 1 rfl rfl)
theorem dX10_order_2 : decode cX10_order 2 = .ok (.iconst 0, 1) := dk_3 (dk_at dksX10_order_0 2 rfl rfl)
theorem dX10_order_3 : decode cX10_order 3 = .ok (.istore_n 2, 1) := dk_61 (dk_at dksX10_order_0 3 rfl rfl)
theorem dX10_order_4 : decode cX10_order 4 = .ok (.iload_n 2, 1) := dk_28 (dk_at dksX10_order_0 4 rfl rfl)
theorem dX10_order_5 : decode cX10_order 5 = .ok (.aload_n 0, 1) := dk_42 (dk_at dksX10_order_0 5 rfl rfl)
theorem dX10_order_6 : decode cX10_order 6 = .ok (.getfield 143, 3) := dk_180 0 143 (dk_at dksX10_order_0 6 rfl rfl)
theorem dX10_order_9 : decode cX10_order 9 = .ok (.if_icmp .ge 101, 3) := dk_162 0 101 (dk_at dksX10_order_0 9 rfl rfl)
theorem dX10_order_12 : decode cX10_order 12 = .ok (.iload_n 1, 1) := dk_27 (dk_at dksX10_order_0 12 rfl rfl)
theorem dX10_order_13 : decode cX10_order 13 = .ok (.aload_n 0, 1) := dk_42 (dk_at dksX10_order_0 13 rfl rfl)
theorem dX10_order_14 : decode cX10_order 14 = .ok (.getfield 152, 3) := dk_180 0 152 (dk_at dksX10_order_0 14 rfl rfl)
theorem dX10_order_17 : decode cX10_order 17 = .ok (.if_icmp .ge 93, 3) := dk_162 0 93 (dk_at dksX10_order_0 17 rfl rfl)
theorem dX10_order_20 : decode cX10_order 20 = .ok (.aload_n 0, 1) := dk_42 (dk_at dksX10_order_0 20 rfl rfl)
theorem dX10_order_21 : decode cX10_order 21 = .ok (.iload_n 1, 1) := dk_27 (dk_at dksX10_order_0 21 rfl rfl)
theorem dX10_order_22 : decode cX10_order 22 = .ok (.iload_n 2, 1) := dk_28 (dk_at dksX10_order_0 22 rfl rfl)
theorem dX10_order_23 : decode cX10_order 23 = .ok (.invokevirtual 171, 3) := dk_182 0 171 (dk_at dksX10_order_1 0 rfl rfl)
theorem dX10_order_26 : decode cX10_order 26 = .ok (.ifCond .eq 78, 3) := dk_153 0 78 (dk_at dksX10_order_1 3 rfl rfl)
theorem dX10_order_29 : decode cX10_order 29 = .ok (.iconst 0, 1) := dk_3 (dk_at dksX10_order_1 6 rfl rfl)
theorem dX10_order_30 : decode cX10_order 30 = .ok (.istore_n 3, 1) := dk_62 (dk_at dksX10_order_1 7 rfl rfl)
theorem dX10_order_31 : decode cX10_order 31 = .ok (.iload_n 3, 1) := dk_29 (dk_at dksX10_order_1 8 rfl rfl)
theorem dX10_order_32 : decode cX10_order 32 = .ok (.iload_n 1, 1) := dk_27 (dk_at dksX10_order_1 9 rfl rfl)
theorem dX10_order_33 : decode cX10_order 33 = .ok (.if_icmp .ge 68, 3) := dk_162 0 68 (dk_at dksX10_order_1 10 rfl rfl)
theorem dX10_order_36 : decode cX10_order 36 = .ok (.aload_n 0, 1) := dk_42 (dk_at dksX10_order_1 13 rfl rfl)
theorem dX10_order_37 : decode cX10_order 37 = .ok (.getfield 68, 3) := dk_180 0 68 (dk_at dksX10_order_1 14 rfl rfl)
theorem dX10_order_40 : decode cX10_order 40 = .ok (.bipush 6, 2) := dk_16 6 (dk_at dksX10_order_1 17 rfl rfl)
theorem dX10_order_42 : decode cX10_order 42 = .ok (.iload_n 3, 1) := dk_29 (dk_at dksX10_order_1 19 rfl rfl)
theorem dX10_order_43 : decode cX10_order 43 = .ok (.imul, 1) := dk_104 (dk_at dksX10_order_1 20 rfl rfl)
theorem dX10_order_44 : decode cX10_order 44 = .ok (.iload_n 2, 1) := dk_28 (dk_at dksX10_order_1 21 rfl rfl)
theorem dX10_order_45 : decode cX10_order 45 = .ok (.iadd, 1) := dk_96 (dk_at dksX10_order_1 22 rfl rfl)
theorem dX10_order_46 : decode cX10_order 46 = .ok (.laload, 1) := dk_47 (dk_at dksX10_order_1 23 rfl rfl)
theorem dX10_order_47 : decode cX10_order 47 = .ok (.lstore 4, 2) := dk_55 4 (dk_at dksX10_order_2 0 rfl rfl)
theorem dX10_order_49 : decode cX10_order 49 = .ok (.aload_n 0, 1) := dk_42 (dk_at dksX10_order_2 2 rfl rfl)
theorem dX10_order_50 : decode cX10_order 50 = .ok (.getfield 68, 3) := dk_180 0 68 (dk_at dksX10_order_2 3 rfl rfl)
theorem dX10_order_53 : decode cX10_order 53 = .ok (.bipush 6, 2) := dk_16 6 (dk_at dksX10_order_2 6 rfl rfl)
theorem dX10_order_55 : decode cX10_order 55 = .ok (.iload_n 1, 1) := dk_27 (dk_at dksX10_order_2 8 rfl rfl)
theorem dX10_order_56 : decode cX10_order 56 = .ok (.imul, 1) := dk_104 (dk_at dksX10_order_2 9 rfl rfl)
theorem dX10_order_57 : decode cX10_order 57 = .ok (.iload_n 2, 1) := dk_28 (dk_at dksX10_order_2 10 rfl rfl)
theorem dX10_order_58 : decode cX10_order 58 = .ok (.iadd, 1) := dk_96 (dk_at dksX10_order_2 11 rfl rfl)
theorem dX10_order_59 : decode cX10_order 59 = .ok (.laload, 1) := dk_47 (dk_at dksX10_order_2 12 rfl rfl)
theorem dX10_order_60 : decode cX10_order 60 = .ok (.lstore 6, 2) := dk_55 6 (dk_at dksX10_order_2 13 rfl rfl)
theorem dX10_order_62 : decode cX10_order 62 = .ok (.aload_n 0, 1) := dk_42 (dk_at dksX10_order_2 15 rfl rfl)
theorem dX10_order_63 : decode cX10_order 63 = .ok (.iload_n 3, 1) := dk_29 (dk_at dksX10_order_2 16 rfl rfl)
theorem dX10_order_64 : decode cX10_order 64 = .ok (.iload_n 1, 1) := dk_27 (dk_at dksX10_order_2 17 rfl rfl)
theorem dX10_order_65 : decode cX10_order 65 = .ok (.lload 4, 2) := dk_22 4 (dk_at dksX10_order_2 18 rfl rfl)
theorem dX10_order_67 : decode cX10_order 67 = .ok (.lconst 0, 1) := dk_9 (dk_at dksX10_order_2 20 rfl rfl)
theorem dX10_order_68 : decode cX10_order 68 = .ok (.lcmp, 1) := dk_148 (dk_at dksX10_order_2 21 rfl rfl)
theorem dX10_order_69 : decode cX10_order 69 = .ok (.ifCond .lt 11, 3) := dk_155 0 11 (dk_at dksX10_order_3 0 rfl rfl)
theorem dX10_order_72 : decode cX10_order 72 = .ok (.lload 4, 2) := dk_22 4 (dk_at dksX10_order_3 3 rfl rfl)
theorem dX10_order_74 : decode cX10_order 74 = .ok (.lload 6, 2) := dk_22 6 (dk_at dksX10_order_3 5 rfl rfl)
theorem dX10_order_76 : decode cX10_order 76 = .ok (.ldiv, 1) := dk_109 (dk_at dksX10_order_3 7 rfl rfl)
theorem dX10_order_77 : decode cX10_order 77 = .ok (.goto 15, 3) := dk_167 0 15 (dk_at dksX10_order_3 8 rfl rfl)
theorem dX10_order_80 : decode cX10_order 80 = .ok (.lload 4, 2) := dk_22 4 (dk_at dksX10_order_3 11 rfl rfl)
theorem dX10_order_82 : decode cX10_order 82 = .ok (.lneg, 1) := dk_117 (dk_at dksX10_order_3 13 rfl rfl)
theorem dX10_order_83 : decode cX10_order 83 = .ok (.lload 6, 2) := dk_22 6 (dk_at dksX10_order_3 14 rfl rfl)
theorem dX10_order_85 : decode cX10_order 85 = .ok (.ladd, 1) := dk_97 (dk_at dksX10_order_3 16 rfl rfl)
theorem dX10_order_86 : decode cX10_order 86 = .ok (.lconst 1, 1) := dk_10 (dk_at dksX10_order_3 17 rfl rfl)
theorem dX10_order_87 : decode cX10_order 87 = .ok (.lsub, 1) := dk_101 (dk_at dksX10_order_3 18 rfl rfl)
theorem dX10_order_88 : decode cX10_order 88 = .ok (.lload 6, 2) := dk_22 6 (dk_at dksX10_order_3 19 rfl rfl)
theorem dX10_order_90 : decode cX10_order 90 = .ok (.ldiv, 1) := dk_109 (dk_at dksX10_order_3 21 rfl rfl)
theorem dX10_order_91 : decode cX10_order 91 = .ok (.lneg, 1) := dk_117 (dk_at dksX10_order_3 22 rfl rfl)
theorem dX10_order_92 : decode cX10_order 92 = .ok (.invokevirtual 167, 3) := dk_182 0 167 (dk_at dksX10_order_4 0 rfl rfl)
theorem dX10_order_95 : decode cX10_order 95 = .ok (.iinc 3 1, 3) := dk_132 3 1 (dk_at dksX10_order_4 3 rfl rfl)
theorem dX10_order_98 : decode cX10_order 98 = .ok (.goto (-67), 3) := dk_167 255 189 (dk_at dksX10_order_4 6 rfl rfl)
theorem dX10_order_101 : decode cX10_order 101 = .ok (.iinc 1 1, 3) := dk_132 1 1 (dk_at dksX10_order_4 9 rfl rfl)
theorem dX10_order_104 : decode cX10_order 104 = .ok (.iinc 2 1, 3) := dk_132 2 1 (dk_at dksX10_order_4 12 rfl rfl)
theorem dX10_order_107 : decode cX10_order 107 = .ok (.goto (-103), 3) := dk_167 255 153 (dk_at dksX10_order_4 15 rfl rfl)
theorem dX10_order_110 : decode cX10_order 110 = .ok (.return_, 1) := dk_177 (dk_at dksX10_order_4 18 rfl rfl)
abbrev cX10_gather : ByteArray := prog_14_method_23_code
def yX10_gather : MethodName := ⟨RX10, "gather", "(II)Z"⟩
def dkwX10_gather_8 : List UInt8 := [21, 5, 4, 164, 0, 7, 4, 167, 0, 4, 3, 62, 167, 255, 55, 4, 172]
abbrev dktX10_gather_8 : List UInt8 := dkwX10_gather_8 ++ []
def dkwX10_gather_7 : List UInt8 := [28, 96, 47, 42, 180, 0, 68, 16, 6, 27, 104, 28, 96, 47, 109, 182, 0, 167, 132, 6, 1, 167, 255, 213]
abbrev dktX10_gather_7 : List UInt8 := dkwX10_gather_7 ++ dktX10_gather_8
def dkwX10_gather_6 : List UInt8 := [54, 6, 21, 6, 42, 180, 0, 152, 162, 0, 40, 42, 21, 6, 27, 42, 180, 0, 68, 16, 6, 21, 6, 104]
abbrev dktX10_gather_6 : List UInt8 := dkwX10_gather_6 ++ dktX10_gather_7
def dkwX10_gather_5 : List UInt8 := [42, 180, 0, 68, 16, 6, 27, 104, 28, 96, 47, 9, 148, 156, 0, 8, 42, 27, 182, 0, 163, 27, 4, 96]
abbrev dktX10_gather_5 : List UInt8 := dkwX10_gather_5 ++ dktX10_gather_6
def dkwX10_gather_4 : List UInt8 := [21, 4, 54, 4, 132, 6, 1, 167, 255, 169, 21, 5, 154, 0, 5, 3, 172, 42, 27, 21, 4, 182, 0, 159]
abbrev dktX10_gather_4 : List UInt8 := dkwX10_gather_4 ++ dktX10_gather_5
def dkwX10_gather_3 : List UInt8 := [21, 4, 155, 0, 17, 22, 7, 184, 0, 155, 22, 9, 184, 0, 155, 148, 156, 0, 8, 21, 6, 167, 0, 5]
abbrev dktX10_gather_3 : List UInt8 := dkwX10_gather_3 ++ dktX10_gather_4
def dkwX10_gather_2 : List UInt8 := [180, 0, 68, 16, 6, 21, 4, 104, 28, 96, 47, 55, 9, 22, 7, 9, 148, 153, 0, 34, 132, 5, 1]
abbrev dktX10_gather_2 : List UInt8 := dkwX10_gather_2 ++ dktX10_gather_3
def dkwX10_gather_1 : List UInt8 := [42, 180, 0, 68, 16, 6, 21, 6, 104, 28, 96, 47, 55, 7, 21, 4, 156, 0, 7, 9, 167, 0, 15, 42]
abbrev dktX10_gather_1 : List UInt8 := dkwX10_gather_1 ++ dktX10_gather_2
def dkwX10_gather_0 : List UInt8 := [4, 62, 29, 153, 0, 203, 2, 54, 4, 3, 54, 5, 27, 54, 6, 21, 6, 42, 180, 0, 152, 162, 0, 84]
abbrev dktX10_gather_0 : List UInt8 := dkwX10_gather_0 ++ dktX10_gather_1
theorem dksX10_gather_0 : cX10_gather.data.toList.drop 0 = dktX10_gather_0 := by decide +kernel
theorem dksX10_gather_1 : cX10_gather.data.toList.drop 24 = dktX10_gather_1 := dk_seg dksX10_gather_0 24 rfl rfl
theorem dksX10_gather_2 : cX10_gather.data.toList.drop 48 = dktX10_gather_2 := dk_seg dksX10_gather_1 24 rfl rfl
theorem dksX10_gather_3 : cX10_gather.data.toList.drop 71 = dktX10_gather_3 := dk_seg dksX10_gather_2 23 rfl rfl
theorem dksX10_gather_4 : cX10_gather.data.toList.drop 95 = dktX10_gather_4 := dk_seg dksX10_gather_3 24 rfl rfl
theorem dksX10_gather_5 : cX10_gather.data.toList.drop 119 = dktX10_gather_5 := dk_seg dksX10_gather_4 24 rfl rfl
theorem dksX10_gather_6 : cX10_gather.data.toList.drop 143 = dktX10_gather_6 := dk_seg dksX10_gather_5 24 rfl rfl
theorem dksX10_gather_7 : cX10_gather.data.toList.drop 167 = dktX10_gather_7 := dk_seg dksX10_gather_6 24 rfl rfl
theorem dksX10_gather_8 : cX10_gather.data.toList.drop 191 = dktX10_gather_8 := dk_seg dksX10_gather_7 24 rfl rfl
theorem dX10_gather_0 : decode cX10_gather 0 = .ok (.iconst 1, 1) := dk_4 (dk_at dksX10_gather_0 0 rfl rfl)
theorem dX10_gather_1 : decode cX10_gather 1 = .ok (.istore_n 3, 1) := dk_62 (dk_at dksX10_gather_0 1 rfl rfl)
theorem dX10_gather_2 : decode cX10_gather 2 = .ok (.iload_n 3, 1) := dk_29 (dk_at dksX10_gather_0 2 rfl rfl)
theorem dX10_gather_3 : decode cX10_gather 3 = .ok (.ifCond .eq 203, 3) := dk_153 0 203 (dk_at dksX10_gather_0 3 rfl rfl)
theorem dX10_gather_6 : decode cX10_gather 6 = .ok (.iconst (-1), 1) := dk_2 (dk_at dksX10_gather_0 6 rfl rfl)
theorem dX10_gather_7 : decode cX10_gather 7 = .ok (.istore 4, 2) := dk_54 4 (dk_at dksX10_gather_0 7 rfl rfl)
theorem dX10_gather_9 : decode cX10_gather 9 = .ok (.iconst 0, 1) := dk_3 (dk_at dksX10_gather_0 9 rfl rfl)
theorem dX10_gather_10 : decode cX10_gather 10 = .ok (.istore 5, 2) := dk_54 5 (dk_at dksX10_gather_0 10 rfl rfl)
theorem dX10_gather_12 : decode cX10_gather 12 = .ok (.iload_n 1, 1) := dk_27 (dk_at dksX10_gather_0 12 rfl rfl)
theorem dX10_gather_13 : decode cX10_gather 13 = .ok (.istore 6, 2) := dk_54 6 (dk_at dksX10_gather_0 13 rfl rfl)
theorem dX10_gather_15 : decode cX10_gather 15 = .ok (.iload 6, 2) := dk_21 6 (dk_at dksX10_gather_0 15 rfl rfl)
theorem dX10_gather_17 : decode cX10_gather 17 = .ok (.aload_n 0, 1) := dk_42 (dk_at dksX10_gather_0 17 rfl rfl)
theorem dX10_gather_18 : decode cX10_gather 18 = .ok (.getfield 152, 3) := dk_180 0 152 (dk_at dksX10_gather_0 18 rfl rfl)
theorem dX10_gather_21 : decode cX10_gather 21 = .ok (.if_icmp .ge 84, 3) := dk_162 0 84 (dk_at dksX10_gather_0 21 rfl rfl)
theorem dX10_gather_24 : decode cX10_gather 24 = .ok (.aload_n 0, 1) := dk_42 (dk_at dksX10_gather_1 0 rfl rfl)
theorem dX10_gather_25 : decode cX10_gather 25 = .ok (.getfield 68, 3) := dk_180 0 68 (dk_at dksX10_gather_1 1 rfl rfl)
theorem dX10_gather_28 : decode cX10_gather 28 = .ok (.bipush 6, 2) := dk_16 6 (dk_at dksX10_gather_1 4 rfl rfl)
theorem dX10_gather_30 : decode cX10_gather 30 = .ok (.iload 6, 2) := dk_21 6 (dk_at dksX10_gather_1 6 rfl rfl)
theorem dX10_gather_32 : decode cX10_gather 32 = .ok (.imul, 1) := dk_104 (dk_at dksX10_gather_1 8 rfl rfl)
theorem dX10_gather_33 : decode cX10_gather 33 = .ok (.iload_n 2, 1) := dk_28 (dk_at dksX10_gather_1 9 rfl rfl)
theorem dX10_gather_34 : decode cX10_gather 34 = .ok (.iadd, 1) := dk_96 (dk_at dksX10_gather_1 10 rfl rfl)
theorem dX10_gather_35 : decode cX10_gather 35 = .ok (.laload, 1) := dk_47 (dk_at dksX10_gather_1 11 rfl rfl)
theorem dX10_gather_36 : decode cX10_gather 36 = .ok (.lstore 7, 2) := dk_55 7 (dk_at dksX10_gather_1 12 rfl rfl)
theorem dX10_gather_38 : decode cX10_gather 38 = .ok (.iload 4, 2) := dk_21 4 (dk_at dksX10_gather_1 14 rfl rfl)
theorem dX10_gather_40 : decode cX10_gather 40 = .ok (.ifCond .ge 7, 3) := dk_156 0 7 (dk_at dksX10_gather_1 16 rfl rfl)
theorem dX10_gather_43 : decode cX10_gather 43 = .ok (.lconst 0, 1) := dk_9 (dk_at dksX10_gather_1 19 rfl rfl)
theorem dX10_gather_44 : decode cX10_gather 44 = .ok (.goto 15, 3) := dk_167 0 15 (dk_at dksX10_gather_1 20 rfl rfl)
theorem dX10_gather_47 : decode cX10_gather 47 = .ok (.aload_n 0, 1) := dk_42 (dk_at dksX10_gather_1 23 rfl rfl)
theorem dX10_gather_48 : decode cX10_gather 48 = .ok (.getfield 68, 3) := dk_180 0 68 (dk_at dksX10_gather_2 0 rfl rfl)
theorem dX10_gather_51 : decode cX10_gather 51 = .ok (.bipush 6, 2) := dk_16 6 (dk_at dksX10_gather_2 3 rfl rfl)
theorem dX10_gather_53 : decode cX10_gather 53 = .ok (.iload 4, 2) := dk_21 4 (dk_at dksX10_gather_2 5 rfl rfl)
theorem dX10_gather_55 : decode cX10_gather 55 = .ok (.imul, 1) := dk_104 (dk_at dksX10_gather_2 7 rfl rfl)
theorem dX10_gather_56 : decode cX10_gather 56 = .ok (.iload_n 2, 1) := dk_28 (dk_at dksX10_gather_2 8 rfl rfl)
theorem dX10_gather_57 : decode cX10_gather 57 = .ok (.iadd, 1) := dk_96 (dk_at dksX10_gather_2 9 rfl rfl)
theorem dX10_gather_58 : decode cX10_gather 58 = .ok (.laload, 1) := dk_47 (dk_at dksX10_gather_2 10 rfl rfl)
theorem dX10_gather_59 : decode cX10_gather 59 = .ok (.lstore 9, 2) := dk_55 9 (dk_at dksX10_gather_2 11 rfl rfl)
theorem dX10_gather_61 : decode cX10_gather 61 = .ok (.lload 7, 2) := dk_22 7 (dk_at dksX10_gather_2 13 rfl rfl)
theorem dX10_gather_63 : decode cX10_gather 63 = .ok (.lconst 0, 1) := dk_9 (dk_at dksX10_gather_2 15 rfl rfl)
theorem dX10_gather_64 : decode cX10_gather 64 = .ok (.lcmp, 1) := dk_148 (dk_at dksX10_gather_2 16 rfl rfl)
theorem dX10_gather_65 : decode cX10_gather 65 = .ok (.ifCond .eq 34, 3) := dk_153 0 34 (dk_at dksX10_gather_2 17 rfl rfl)
theorem dX10_gather_68 : decode cX10_gather 68 = .ok (.iinc 5 1, 3) := dk_132 5 1 (dk_at dksX10_gather_2 20 rfl rfl)
theorem dX10_gather_71 : decode cX10_gather 71 = .ok (.iload 4, 2) := dk_21 4 (dk_at dksX10_gather_3 0 rfl rfl)
theorem dX10_gather_73 : decode cX10_gather 73 = .ok (.ifCond .lt 17, 3) := dk_155 0 17 (dk_at dksX10_gather_3 2 rfl rfl)
theorem dX10_gather_76 : decode cX10_gather 76 = .ok (.lload 7, 2) := dk_22 7 (dk_at dksX10_gather_3 5 rfl rfl)
theorem dX10_gather_78 : decode cX10_gather 78 = .ok (.invokestatic 155, 3) := dk_184 0 155 (dk_at dksX10_gather_3 7 rfl rfl)
theorem dX10_gather_81 : decode cX10_gather 81 = .ok (.lload 9, 2) := dk_22 9 (dk_at dksX10_gather_3 10 rfl rfl)
theorem dX10_gather_83 : decode cX10_gather 83 = .ok (.invokestatic 155, 3) := dk_184 0 155 (dk_at dksX10_gather_3 12 rfl rfl)
theorem dX10_gather_86 : decode cX10_gather 86 = .ok (.lcmp, 1) := dk_148 (dk_at dksX10_gather_3 15 rfl rfl)
theorem dX10_gather_87 : decode cX10_gather 87 = .ok (.ifCond .ge 8, 3) := dk_156 0 8 (dk_at dksX10_gather_3 16 rfl rfl)
theorem dX10_gather_90 : decode cX10_gather 90 = .ok (.iload 6, 2) := dk_21 6 (dk_at dksX10_gather_3 19 rfl rfl)
theorem dX10_gather_92 : decode cX10_gather 92 = .ok (.goto 5, 3) := dk_167 0 5 (dk_at dksX10_gather_3 21 rfl rfl)
theorem dX10_gather_95 : decode cX10_gather 95 = .ok (.iload 4, 2) := dk_21 4 (dk_at dksX10_gather_4 0 rfl rfl)
theorem dX10_gather_97 : decode cX10_gather 97 = .ok (.istore 4, 2) := dk_54 4 (dk_at dksX10_gather_4 2 rfl rfl)
theorem dX10_gather_99 : decode cX10_gather 99 = .ok (.iinc 6 1, 3) := dk_132 6 1 (dk_at dksX10_gather_4 4 rfl rfl)
theorem dX10_gather_102 : decode cX10_gather 102 = .ok (.goto (-87), 3) := dk_167 255 169 (dk_at dksX10_gather_4 7 rfl rfl)
theorem dX10_gather_105 : decode cX10_gather 105 = .ok (.iload 5, 2) := dk_21 5 (dk_at dksX10_gather_4 10 rfl rfl)
theorem dX10_gather_107 : decode cX10_gather 107 = .ok (.ifCond .ne 5, 3) := dk_154 0 5 (dk_at dksX10_gather_4 12 rfl rfl)
theorem dX10_gather_110 : decode cX10_gather 110 = .ok (.iconst 0, 1) := dk_3 (dk_at dksX10_gather_4 15 rfl rfl)
theorem dX10_gather_111 : decode cX10_gather 111 = .ok (.ireturn, 1) := dk_172 (dk_at dksX10_gather_4 16 rfl rfl)
theorem dX10_gather_112 : decode cX10_gather 112 = .ok (.aload_n 0, 1) := dk_42 (dk_at dksX10_gather_4 17 rfl rfl)
theorem dX10_gather_113 : decode cX10_gather 113 = .ok (.iload_n 1, 1) := dk_27 (dk_at dksX10_gather_4 18 rfl rfl)
theorem dX10_gather_114 : decode cX10_gather 114 = .ok (.iload 4, 2) := dk_21 4 (dk_at dksX10_gather_4 19 rfl rfl)
theorem dX10_gather_116 : decode cX10_gather 116 = .ok (.invokevirtual 159, 3) := dk_182 0 159 (dk_at dksX10_gather_4 21 rfl rfl)
theorem dX10_gather_119 : decode cX10_gather 119 = .ok (.aload_n 0, 1) := dk_42 (dk_at dksX10_gather_5 0 rfl rfl)
theorem dX10_gather_120 : decode cX10_gather 120 = .ok (.getfield 68, 3) := dk_180 0 68 (dk_at dksX10_gather_5 1 rfl rfl)
theorem dX10_gather_123 : decode cX10_gather 123 = .ok (.bipush 6, 2) := dk_16 6 (dk_at dksX10_gather_5 4 rfl rfl)
theorem dX10_gather_125 : decode cX10_gather 125 = .ok (.iload_n 1, 1) := dk_27 (dk_at dksX10_gather_5 6 rfl rfl)
theorem dX10_gather_126 : decode cX10_gather 126 = .ok (.imul, 1) := dk_104 (dk_at dksX10_gather_5 7 rfl rfl)
theorem dX10_gather_127 : decode cX10_gather 127 = .ok (.iload_n 2, 1) := dk_28 (dk_at dksX10_gather_5 8 rfl rfl)
theorem dX10_gather_128 : decode cX10_gather 128 = .ok (.iadd, 1) := dk_96 (dk_at dksX10_gather_5 9 rfl rfl)
theorem dX10_gather_129 : decode cX10_gather 129 = .ok (.laload, 1) := dk_47 (dk_at dksX10_gather_5 10 rfl rfl)
theorem dX10_gather_130 : decode cX10_gather 130 = .ok (.lconst 0, 1) := dk_9 (dk_at dksX10_gather_5 11 rfl rfl)
theorem dX10_gather_131 : decode cX10_gather 131 = .ok (.lcmp, 1) := dk_148 (dk_at dksX10_gather_5 12 rfl rfl)
theorem dX10_gather_132 : decode cX10_gather 132 = .ok (.ifCond .ge 8, 3) := dk_156 0 8 (dk_at dksX10_gather_5 13 rfl rfl)
theorem dX10_gather_135 : decode cX10_gather 135 = .ok (.aload_n 0, 1) := dk_42 (dk_at dksX10_gather_5 16 rfl rfl)
theorem dX10_gather_136 : decode cX10_gather 136 = .ok (.iload_n 1, 1) := dk_27 (dk_at dksX10_gather_5 17 rfl rfl)
theorem dX10_gather_137 : decode cX10_gather 137 = .ok (.invokevirtual 163, 3) := dk_182 0 163 (dk_at dksX10_gather_5 18 rfl rfl)
theorem dX10_gather_140 : decode cX10_gather 140 = .ok (.iload_n 1, 1) := dk_27 (dk_at dksX10_gather_5 21 rfl rfl)
theorem dX10_gather_141 : decode cX10_gather 141 = .ok (.iconst 1, 1) := dk_4 (dk_at dksX10_gather_5 22 rfl rfl)
theorem dX10_gather_142 : decode cX10_gather 142 = .ok (.iadd, 1) := dk_96 (dk_at dksX10_gather_5 23 rfl rfl)
theorem dX10_gather_143 : decode cX10_gather 143 = .ok (.istore 6, 2) := dk_54 6 (dk_at dksX10_gather_6 0 rfl rfl)
theorem dX10_gather_145 : decode cX10_gather 145 = .ok (.iload 6, 2) := dk_21 6 (dk_at dksX10_gather_6 2 rfl rfl)
theorem dX10_gather_147 : decode cX10_gather 147 = .ok (.aload_n 0, 1) := dk_42 (dk_at dksX10_gather_6 4 rfl rfl)
theorem dX10_gather_148 : decode cX10_gather 148 = .ok (.getfield 152, 3) := dk_180 0 152 (dk_at dksX10_gather_6 5 rfl rfl)
theorem dX10_gather_151 : decode cX10_gather 151 = .ok (.if_icmp .ge 40, 3) := dk_162 0 40 (dk_at dksX10_gather_6 8 rfl rfl)
theorem dX10_gather_154 : decode cX10_gather 154 = .ok (.aload_n 0, 1) := dk_42 (dk_at dksX10_gather_6 11 rfl rfl)
theorem dX10_gather_155 : decode cX10_gather 155 = .ok (.iload 6, 2) := dk_21 6 (dk_at dksX10_gather_6 12 rfl rfl)
theorem dX10_gather_157 : decode cX10_gather 157 = .ok (.iload_n 1, 1) := dk_27 (dk_at dksX10_gather_6 14 rfl rfl)
theorem dX10_gather_158 : decode cX10_gather 158 = .ok (.aload_n 0, 1) := dk_42 (dk_at dksX10_gather_6 15 rfl rfl)
theorem dX10_gather_159 : decode cX10_gather 159 = .ok (.getfield 68, 3) := dk_180 0 68 (dk_at dksX10_gather_6 16 rfl rfl)
theorem dX10_gather_162 : decode cX10_gather 162 = .ok (.bipush 6, 2) := dk_16 6 (dk_at dksX10_gather_6 19 rfl rfl)
theorem dX10_gather_164 : decode cX10_gather 164 = .ok (.iload 6, 2) := dk_21 6 (dk_at dksX10_gather_6 21 rfl rfl)
theorem dX10_gather_166 : decode cX10_gather 166 = .ok (.imul, 1) := dk_104 (dk_at dksX10_gather_6 23 rfl rfl)
theorem dX10_gather_167 : decode cX10_gather 167 = .ok (.iload_n 2, 1) := dk_28 (dk_at dksX10_gather_7 0 rfl rfl)
theorem dX10_gather_168 : decode cX10_gather 168 = .ok (.iadd, 1) := dk_96 (dk_at dksX10_gather_7 1 rfl rfl)
theorem dX10_gather_169 : decode cX10_gather 169 = .ok (.laload, 1) := dk_47 (dk_at dksX10_gather_7 2 rfl rfl)
theorem dX10_gather_170 : decode cX10_gather 170 = .ok (.aload_n 0, 1) := dk_42 (dk_at dksX10_gather_7 3 rfl rfl)
theorem dX10_gather_171 : decode cX10_gather 171 = .ok (.getfield 68, 3) := dk_180 0 68 (dk_at dksX10_gather_7 4 rfl rfl)
theorem dX10_gather_174 : decode cX10_gather 174 = .ok (.bipush 6, 2) := dk_16 6 (dk_at dksX10_gather_7 7 rfl rfl)
theorem dX10_gather_176 : decode cX10_gather 176 = .ok (.iload_n 1, 1) := dk_27 (dk_at dksX10_gather_7 9 rfl rfl)
theorem dX10_gather_177 : decode cX10_gather 177 = .ok (.imul, 1) := dk_104 (dk_at dksX10_gather_7 10 rfl rfl)
theorem dX10_gather_178 : decode cX10_gather 178 = .ok (.iload_n 2, 1) := dk_28 (dk_at dksX10_gather_7 11 rfl rfl)
theorem dX10_gather_179 : decode cX10_gather 179 = .ok (.iadd, 1) := dk_96 (dk_at dksX10_gather_7 12 rfl rfl)
theorem dX10_gather_180 : decode cX10_gather 180 = .ok (.laload, 1) := dk_47 (dk_at dksX10_gather_7 13 rfl rfl)
theorem dX10_gather_181 : decode cX10_gather 181 = .ok (.ldiv, 1) := dk_109 (dk_at dksX10_gather_7 14 rfl rfl)
theorem dX10_gather_182 : decode cX10_gather 182 = .ok (.invokevirtual 167, 3) := dk_182 0 167 (dk_at dksX10_gather_7 15 rfl rfl)
theorem dX10_gather_185 : decode cX10_gather 185 = .ok (.iinc 6 1, 3) := dk_132 6 1 (dk_at dksX10_gather_7 18 rfl rfl)
theorem dX10_gather_188 : decode cX10_gather 188 = .ok (.goto (-43), 3) := dk_167 255 213 (dk_at dksX10_gather_7 21 rfl rfl)
theorem dX10_gather_191 : decode cX10_gather 191 = .ok (.iload 5, 2) := dk_21 5 (dk_at dksX10_gather_8 0 rfl rfl)
theorem dX10_gather_193 : decode cX10_gather 193 = .ok (.iconst 1, 1) := dk_4 (dk_at dksX10_gather_8 2 rfl rfl)
theorem dX10_gather_194 : decode cX10_gather 194 = .ok (.if_icmp .le 7, 3) := dk_164 0 7 (dk_at dksX10_gather_8 3 rfl rfl)
theorem dX10_gather_197 : decode cX10_gather 197 = .ok (.iconst 1, 1) := dk_4 (dk_at dksX10_gather_8 6 rfl rfl)
theorem dX10_gather_198 : decode cX10_gather 198 = .ok (.goto 4, 3) := dk_167 0 4 (dk_at dksX10_gather_8 7 rfl rfl)
theorem dX10_gather_201 : decode cX10_gather 201 = .ok (.iconst 0, 1) := dk_3 (dk_at dksX10_gather_8 10 rfl rfl)
theorem dX10_gather_202 : decode cX10_gather 202 = .ok (.istore_n 3, 1) := dk_62 (dk_at dksX10_gather_8 11 rfl rfl)
theorem dX10_gather_203 : decode cX10_gather 203 = .ok (.goto (-201), 3) := dk_167 255 55 (dk_at dksX10_gather_8 12 rfl rfl)
theorem dX10_gather_206 : decode cX10_gather 206 = .ok (.iconst 1, 1) := dk_4 (dk_at dksX10_gather_8 15 rfl rfl)
theorem dX10_gather_207 : decode cX10_gather 207 = .ok (.ireturn, 1) := dk_172 (dk_at dksX10_gather_8 16 rfl rfl)
abbrev cX10_turn : ByteArray := prog_14_method_22_code
def yX10_turn : MethodName := ⟨RX10, "turn", "(I)V"⟩
def dkwX10_turn_1 : List UInt8 := [16, 6, 27, 104, 28, 96, 47, 117, 80, 132, 2, 1, 167, 255, 222, 177]
abbrev dktX10_turn_1 : List UInt8 := dkwX10_turn_1 ++ []
def dkwX10_turn_0 : List UInt8 := [3, 61, 28, 42, 180, 0, 143, 162, 0, 32, 42, 180, 0, 68, 16, 6, 27, 104, 28, 96, 42, 180, 0, 68]
abbrev dktX10_turn_0 : List UInt8 := dkwX10_turn_0 ++ dktX10_turn_1
theorem dksX10_turn_0 : cX10_turn.data.toList.drop 0 = dktX10_turn_0 := by decide +kernel
theorem dksX10_turn_1 : cX10_turn.data.toList.drop 24 = dktX10_turn_1 := dk_seg dksX10_turn_0 24 rfl rfl
theorem dX10_turn_0 : decode cX10_turn 0 = .ok (.iconst 0, 1) := dk_3 (dk_at dksX10_turn_0 0 rfl rfl)
theorem dX10_turn_1 : decode cX10_turn 1 = .ok (.istore_n 2, 1) := dk_61 (dk_at dksX10_turn_0 1 rfl rfl)
theorem dX10_turn_2 : decode cX10_turn 2 = .ok (.iload_n 2, 1) := dk_28 (dk_at dksX10_turn_0 2 rfl rfl)
theorem dX10_turn_3 : decode cX10_turn 3 = .ok (.aload_n 0, 1) := dk_42 (dk_at dksX10_turn_0 3 rfl rfl)
theorem dX10_turn_4 : decode cX10_turn 4 = .ok (.getfield 143, 3) := dk_180 0 143 (dk_at dksX10_turn_0 4 rfl rfl)
theorem dX10_turn_7 : decode cX10_turn 7 = .ok (.if_icmp .ge 32, 3) := dk_162 0 32 (dk_at dksX10_turn_0 7 rfl rfl)
theorem dX10_turn_10 : decode cX10_turn 10 = .ok (.aload_n 0, 1) := dk_42 (dk_at dksX10_turn_0 10 rfl rfl)
theorem dX10_turn_11 : decode cX10_turn 11 = .ok (.getfield 68, 3) := dk_180 0 68 (dk_at dksX10_turn_0 11 rfl rfl)
theorem dX10_turn_14 : decode cX10_turn 14 = .ok (.bipush 6, 2) := dk_16 6 (dk_at dksX10_turn_0 14 rfl rfl)
theorem dX10_turn_16 : decode cX10_turn 16 = .ok (.iload_n 1, 1) := dk_27 (dk_at dksX10_turn_0 16 rfl rfl)
theorem dX10_turn_17 : decode cX10_turn 17 = .ok (.imul, 1) := dk_104 (dk_at dksX10_turn_0 17 rfl rfl)
theorem dX10_turn_18 : decode cX10_turn 18 = .ok (.iload_n 2, 1) := dk_28 (dk_at dksX10_turn_0 18 rfl rfl)
theorem dX10_turn_19 : decode cX10_turn 19 = .ok (.iadd, 1) := dk_96 (dk_at dksX10_turn_0 19 rfl rfl)
theorem dX10_turn_20 : decode cX10_turn 20 = .ok (.aload_n 0, 1) := dk_42 (dk_at dksX10_turn_0 20 rfl rfl)
theorem dX10_turn_21 : decode cX10_turn 21 = .ok (.getfield 68, 3) := dk_180 0 68 (dk_at dksX10_turn_0 21 rfl rfl)
theorem dX10_turn_24 : decode cX10_turn 24 = .ok (.bipush 6, 2) := dk_16 6 (dk_at dksX10_turn_1 0 rfl rfl)
theorem dX10_turn_26 : decode cX10_turn 26 = .ok (.iload_n 1, 1) := dk_27 (dk_at dksX10_turn_1 2 rfl rfl)
theorem dX10_turn_27 : decode cX10_turn 27 = .ok (.imul, 1) := dk_104 (dk_at dksX10_turn_1 3 rfl rfl)
theorem dX10_turn_28 : decode cX10_turn 28 = .ok (.iload_n 2, 1) := dk_28 (dk_at dksX10_turn_1 4 rfl rfl)
theorem dX10_turn_29 : decode cX10_turn 29 = .ok (.iadd, 1) := dk_96 (dk_at dksX10_turn_1 5 rfl rfl)
theorem dX10_turn_30 : decode cX10_turn 30 = .ok (.laload, 1) := dk_47 (dk_at dksX10_turn_1 6 rfl rfl)
theorem dX10_turn_31 : decode cX10_turn 31 = .ok (.lneg, 1) := dk_117 (dk_at dksX10_turn_1 7 rfl rfl)
theorem dX10_turn_32 : decode cX10_turn 32 = .ok (.lastore, 1) := dk_80 (dk_at dksX10_turn_1 8 rfl rfl)
theorem dX10_turn_33 : decode cX10_turn 33 = .ok (.iinc 2 1, 3) := dk_132 2 1 (dk_at dksX10_turn_1 9 rfl rfl)
theorem dX10_turn_36 : decode cX10_turn 36 = .ok (.goto (-34), 3) := dk_167 255 222 (dk_at dksX10_turn_1 12 rfl rfl)
theorem dX10_turn_39 : decode cX10_turn 39 = .ok (.return_, 1) := dk_177 (dk_at dksX10_turn_1 15 rfl rfl)
abbrev cX10_shorten : ByteArray := prog_14_method_26_code
def yX10_shorten : MethodName := ⟨RX10, "shorten", "()V"⟩
def dkwX10_shorten_4 : List UInt8 := [132, 5, 1, 167, 255, 215, 132, 1, 1, 167, 255, 155, 177]
abbrev dktX10_shorten_4 : List UInt8 := dkwX10_shorten_4 ++ []
def dkwX10_shorten_3 : List UInt8 := [180, 0, 72, 21, 5, 47, 33, 42, 180, 0, 68, 16, 6, 27, 104, 21, 5, 96, 47, 105, 101, 80]
abbrev dktX10_shorten_3 : List UInt8 := dkwX10_shorten_3 ++ dktX10_shorten_4
def dkwX10_shorten_2 : List UInt8 := [28, 96, 47, 109, 66, 3, 54, 5, 21, 5, 42, 180, 0, 143, 162, 0, 38, 42, 180, 0, 72, 21, 5, 42]
abbrev dktX10_shorten_2 : List UInt8 := dkwX10_shorten_2 ++ dktX10_shorten_3
def dkwX10_shorten_1 : List UInt8 := [148, 154, 0, 9, 132, 2, 1, 167, 255, 237, 42, 180, 0, 72, 28, 47, 42, 180, 0, 68, 16, 6, 27, 104]
abbrev dktX10_shorten_1 : List UInt8 := dkwX10_shorten_1 ++ dktX10_shorten_2
def dkwX10_shorten_0 : List UInt8 := [3, 60, 27, 42, 180, 0, 152, 162, 0, 99, 3, 61, 42, 180, 0, 68, 16, 6, 27, 104, 28, 96, 47, 9]
abbrev dktX10_shorten_0 : List UInt8 := dkwX10_shorten_0 ++ dktX10_shorten_1
theorem dksX10_shorten_0 : cX10_shorten.data.toList.drop 0 = dktX10_shorten_0 := by decide +kernel
theorem dksX10_shorten_1 : cX10_shorten.data.toList.drop 24 = dktX10_shorten_1 := dk_seg dksX10_shorten_0 24 rfl rfl
theorem dksX10_shorten_2 : cX10_shorten.data.toList.drop 48 = dktX10_shorten_2 := dk_seg dksX10_shorten_1 24 rfl rfl
theorem dksX10_shorten_3 : cX10_shorten.data.toList.drop 72 = dktX10_shorten_3 := dk_seg dksX10_shorten_2 24 rfl rfl
theorem dksX10_shorten_4 : cX10_shorten.data.toList.drop 94 = dktX10_shorten_4 := dk_seg dksX10_shorten_3 22 rfl rfl
theorem dX10_shorten_0 : decode cX10_shorten 0 = .ok (.iconst 0, 1) := dk_3 (dk_at dksX10_shorten_0 0 rfl rfl)
theorem dX10_shorten_1 : decode cX10_shorten 1 = .ok (.istore_n 1, 1) := dk_60 (dk_at dksX10_shorten_0 1 rfl rfl)
theorem dX10_shorten_2 : decode cX10_shorten 2 = .ok (.iload_n 1, 1) := dk_27 (dk_at dksX10_shorten_0 2 rfl rfl)
theorem dX10_shorten_3 : decode cX10_shorten 3 = .ok (.aload_n 0, 1) := dk_42 (dk_at dksX10_shorten_0 3 rfl rfl)
theorem dX10_shorten_4 : decode cX10_shorten 4 = .ok (.getfield 152, 3) := dk_180 0 152 (dk_at dksX10_shorten_0 4 rfl rfl)
theorem dX10_shorten_7 : decode cX10_shorten 7 = .ok (.if_icmp .ge 99, 3) := dk_162 0 99 (dk_at dksX10_shorten_0 7 rfl rfl)
theorem dX10_shorten_10 : decode cX10_shorten 10 = .ok (.iconst 0, 1) := dk_3 (dk_at dksX10_shorten_0 10 rfl rfl)
theorem dX10_shorten_11 : decode cX10_shorten 11 = .ok (.istore_n 2, 1) := dk_61 (dk_at dksX10_shorten_0 11 rfl rfl)
theorem dX10_shorten_12 : decode cX10_shorten 12 = .ok (.aload_n 0, 1) := dk_42 (dk_at dksX10_shorten_0 12 rfl rfl)
theorem dX10_shorten_13 : decode cX10_shorten 13 = .ok (.getfield 68, 3) := dk_180 0 68 (dk_at dksX10_shorten_0 13 rfl rfl)
theorem dX10_shorten_16 : decode cX10_shorten 16 = .ok (.bipush 6, 2) := dk_16 6 (dk_at dksX10_shorten_0 16 rfl rfl)
theorem dX10_shorten_18 : decode cX10_shorten 18 = .ok (.iload_n 1, 1) := dk_27 (dk_at dksX10_shorten_0 18 rfl rfl)
theorem dX10_shorten_19 : decode cX10_shorten 19 = .ok (.imul, 1) := dk_104 (dk_at dksX10_shorten_0 19 rfl rfl)
theorem dX10_shorten_20 : decode cX10_shorten 20 = .ok (.iload_n 2, 1) := dk_28 (dk_at dksX10_shorten_0 20 rfl rfl)
theorem dX10_shorten_21 : decode cX10_shorten 21 = .ok (.iadd, 1) := dk_96 (dk_at dksX10_shorten_0 21 rfl rfl)
theorem dX10_shorten_22 : decode cX10_shorten 22 = .ok (.laload, 1) := dk_47 (dk_at dksX10_shorten_0 22 rfl rfl)
theorem dX10_shorten_23 : decode cX10_shorten 23 = .ok (.lconst 0, 1) := dk_9 (dk_at dksX10_shorten_0 23 rfl rfl)
theorem dX10_shorten_24 : decode cX10_shorten 24 = .ok (.lcmp, 1) := dk_148 (dk_at dksX10_shorten_1 0 rfl rfl)
theorem dX10_shorten_25 : decode cX10_shorten 25 = .ok (.ifCond .ne 9, 3) := dk_154 0 9 (dk_at dksX10_shorten_1 1 rfl rfl)
theorem dX10_shorten_28 : decode cX10_shorten 28 = .ok (.iinc 2 1, 3) := dk_132 2 1 (dk_at dksX10_shorten_1 4 rfl rfl)
theorem dX10_shorten_31 : decode cX10_shorten 31 = .ok (.goto (-19), 3) := dk_167 255 237 (dk_at dksX10_shorten_1 7 rfl rfl)
theorem dX10_shorten_34 : decode cX10_shorten 34 = .ok (.aload_n 0, 1) := dk_42 (dk_at dksX10_shorten_1 10 rfl rfl)
theorem dX10_shorten_35 : decode cX10_shorten 35 = .ok (.getfield 72, 3) := dk_180 0 72 (dk_at dksX10_shorten_1 11 rfl rfl)
theorem dX10_shorten_38 : decode cX10_shorten 38 = .ok (.iload_n 2, 1) := dk_28 (dk_at dksX10_shorten_1 14 rfl rfl)
theorem dX10_shorten_39 : decode cX10_shorten 39 = .ok (.laload, 1) := dk_47 (dk_at dksX10_shorten_1 15 rfl rfl)
theorem dX10_shorten_40 : decode cX10_shorten 40 = .ok (.aload_n 0, 1) := dk_42 (dk_at dksX10_shorten_1 16 rfl rfl)
theorem dX10_shorten_41 : decode cX10_shorten 41 = .ok (.getfield 68, 3) := dk_180 0 68 (dk_at dksX10_shorten_1 17 rfl rfl)
theorem dX10_shorten_44 : decode cX10_shorten 44 = .ok (.bipush 6, 2) := dk_16 6 (dk_at dksX10_shorten_1 20 rfl rfl)
theorem dX10_shorten_46 : decode cX10_shorten 46 = .ok (.iload_n 1, 1) := dk_27 (dk_at dksX10_shorten_1 22 rfl rfl)
theorem dX10_shorten_47 : decode cX10_shorten 47 = .ok (.imul, 1) := dk_104 (dk_at dksX10_shorten_1 23 rfl rfl)
theorem dX10_shorten_48 : decode cX10_shorten 48 = .ok (.iload_n 2, 1) := dk_28 (dk_at dksX10_shorten_2 0 rfl rfl)
theorem dX10_shorten_49 : decode cX10_shorten 49 = .ok (.iadd, 1) := dk_96 (dk_at dksX10_shorten_2 1 rfl rfl)
theorem dX10_shorten_50 : decode cX10_shorten 50 = .ok (.laload, 1) := dk_47 (dk_at dksX10_shorten_2 2 rfl rfl)
theorem dX10_shorten_51 : decode cX10_shorten 51 = .ok (.ldiv, 1) := dk_109 (dk_at dksX10_shorten_2 3 rfl rfl)
theorem dX10_shorten_52 : decode cX10_shorten 52 = .ok (.lstore_n 3, 1) := dk_66 (dk_at dksX10_shorten_2 4 rfl rfl)
theorem dX10_shorten_53 : decode cX10_shorten 53 = .ok (.iconst 0, 1) := dk_3 (dk_at dksX10_shorten_2 5 rfl rfl)
theorem dX10_shorten_54 : decode cX10_shorten 54 = .ok (.istore 5, 2) := dk_54 5 (dk_at dksX10_shorten_2 6 rfl rfl)
theorem dX10_shorten_56 : decode cX10_shorten 56 = .ok (.iload 5, 2) := dk_21 5 (dk_at dksX10_shorten_2 8 rfl rfl)
theorem dX10_shorten_58 : decode cX10_shorten 58 = .ok (.aload_n 0, 1) := dk_42 (dk_at dksX10_shorten_2 10 rfl rfl)
theorem dX10_shorten_59 : decode cX10_shorten 59 = .ok (.getfield 143, 3) := dk_180 0 143 (dk_at dksX10_shorten_2 11 rfl rfl)
theorem dX10_shorten_62 : decode cX10_shorten 62 = .ok (.if_icmp .ge 38, 3) := dk_162 0 38 (dk_at dksX10_shorten_2 14 rfl rfl)
theorem dX10_shorten_65 : decode cX10_shorten 65 = .ok (.aload_n 0, 1) := dk_42 (dk_at dksX10_shorten_2 17 rfl rfl)
theorem dX10_shorten_66 : decode cX10_shorten 66 = .ok (.getfield 72, 3) := dk_180 0 72 (dk_at dksX10_shorten_2 18 rfl rfl)
theorem dX10_shorten_69 : decode cX10_shorten 69 = .ok (.iload 5, 2) := dk_21 5 (dk_at dksX10_shorten_2 21 rfl rfl)
theorem dX10_shorten_71 : decode cX10_shorten 71 = .ok (.aload_n 0, 1) := dk_42 (dk_at dksX10_shorten_2 23 rfl rfl)
theorem dX10_shorten_72 : decode cX10_shorten 72 = .ok (.getfield 72, 3) := dk_180 0 72 (dk_at dksX10_shorten_3 0 rfl rfl)
theorem dX10_shorten_75 : decode cX10_shorten 75 = .ok (.iload 5, 2) := dk_21 5 (dk_at dksX10_shorten_3 3 rfl rfl)
theorem dX10_shorten_77 : decode cX10_shorten 77 = .ok (.laload, 1) := dk_47 (dk_at dksX10_shorten_3 5 rfl rfl)
theorem dX10_shorten_78 : decode cX10_shorten 78 = .ok (.lload_n 3, 1) := dk_33 (dk_at dksX10_shorten_3 6 rfl rfl)
theorem dX10_shorten_79 : decode cX10_shorten 79 = .ok (.aload_n 0, 1) := dk_42 (dk_at dksX10_shorten_3 7 rfl rfl)
theorem dX10_shorten_80 : decode cX10_shorten 80 = .ok (.getfield 68, 3) := dk_180 0 68 (dk_at dksX10_shorten_3 8 rfl rfl)
theorem dX10_shorten_83 : decode cX10_shorten 83 = .ok (.bipush 6, 2) := dk_16 6 (dk_at dksX10_shorten_3 11 rfl rfl)
theorem dX10_shorten_85 : decode cX10_shorten 85 = .ok (.iload_n 1, 1) := dk_27 (dk_at dksX10_shorten_3 13 rfl rfl)
theorem dX10_shorten_86 : decode cX10_shorten 86 = .ok (.imul, 1) := dk_104 (dk_at dksX10_shorten_3 14 rfl rfl)
theorem dX10_shorten_87 : decode cX10_shorten 87 = .ok (.iload 5, 2) := dk_21 5 (dk_at dksX10_shorten_3 15 rfl rfl)
theorem dX10_shorten_89 : decode cX10_shorten 89 = .ok (.iadd, 1) := dk_96 (dk_at dksX10_shorten_3 17 rfl rfl)
theorem dX10_shorten_90 : decode cX10_shorten 90 = .ok (.laload, 1) := dk_47 (dk_at dksX10_shorten_3 18 rfl rfl)
theorem dX10_shorten_91 : decode cX10_shorten 91 = .ok (.lmul, 1) := dk_105 (dk_at dksX10_shorten_3 19 rfl rfl)
theorem dX10_shorten_92 : decode cX10_shorten 92 = .ok (.lsub, 1) := dk_101 (dk_at dksX10_shorten_3 20 rfl rfl)
theorem dX10_shorten_93 : decode cX10_shorten 93 = .ok (.lastore, 1) := dk_80 (dk_at dksX10_shorten_3 21 rfl rfl)
theorem dX10_shorten_94 : decode cX10_shorten 94 = .ok (.iinc 5 1, 3) := dk_132 5 1 (dk_at dksX10_shorten_4 0 rfl rfl)
theorem dX10_shorten_97 : decode cX10_shorten 97 = .ok (.goto (-41), 3) := dk_167 255 215 (dk_at dksX10_shorten_4 3 rfl rfl)
theorem dX10_shorten_100 : decode cX10_shorten 100 = .ok (.iinc 1 1, 3) := dk_132 1 1 (dk_at dksX10_shorten_4 6 rfl rfl)
theorem dX10_shorten_103 : decode cX10_shorten 103 = .ok (.goto (-101), 3) := dk_167 255 155 (dk_at dksX10_shorten_4 9 rfl rfl)
theorem dX10_shorten_106 : decode cX10_shorten 106 = .ok (.return_, 1) := dk_177 (dk_at dksX10_shorten_4 12 rfl rfl)
abbrev cX10_kernel : ByteArray := prog_14_method_29_code
def yX10_kernel : MethodName := ⟨RX10, "kernel", "()I"⟩
def dkwX10_kernel_1 : List UInt8 := [172, 42, 182, 0, 191, 42, 180, 0, 152, 172]
abbrev dktX10_kernel_1 : List UInt8 := dkwX10_kernel_1 ++ []
def dkwX10_kernel_0 : List UInt8 := [42, 42, 180, 0, 133, 153, 0, 7, 3, 167, 0, 4, 4, 181, 0, 81, 42, 180, 0, 81, 158, 0, 5, 3]
abbrev dktX10_kernel_0 : List UInt8 := dkwX10_kernel_0 ++ dktX10_kernel_1
theorem dksX10_kernel_0 : cX10_kernel.data.toList.drop 0 = dktX10_kernel_0 := by decide +kernel
theorem dksX10_kernel_1 : cX10_kernel.data.toList.drop 24 = dktX10_kernel_1 := dk_seg dksX10_kernel_0 24 rfl rfl
theorem dX10_kernel_0 : decode cX10_kernel 0 = .ok (.aload_n 0, 1) := dk_42 (dk_at dksX10_kernel_0 0 rfl rfl)
theorem dX10_kernel_1 : decode cX10_kernel 1 = .ok (.aload_n 0, 1) := dk_42 (dk_at dksX10_kernel_0 1 rfl rfl)
theorem dX10_kernel_2 : decode cX10_kernel 2 = .ok (.getfield 133, 3) := dk_180 0 133 (dk_at dksX10_kernel_0 2 rfl rfl)
theorem dX10_kernel_5 : decode cX10_kernel 5 = .ok (.ifCond .eq 7, 3) := dk_153 0 7 (dk_at dksX10_kernel_0 5 rfl rfl)
theorem dX10_kernel_8 : decode cX10_kernel 8 = .ok (.iconst 0, 1) := dk_3 (dk_at dksX10_kernel_0 8 rfl rfl)
theorem dX10_kernel_9 : decode cX10_kernel 9 = .ok (.goto 4, 3) := dk_167 0 4 (dk_at dksX10_kernel_0 9 rfl rfl)
theorem dX10_kernel_12 : decode cX10_kernel 12 = .ok (.iconst 1, 1) := dk_4 (dk_at dksX10_kernel_0 12 rfl rfl)
theorem dX10_kernel_13 : decode cX10_kernel 13 = .ok (.putfield 81, 3) := dk_181 0 81 (dk_at dksX10_kernel_0 13 rfl rfl)
theorem dX10_kernel_16 : decode cX10_kernel 16 = .ok (.aload_n 0, 1) := dk_42 (dk_at dksX10_kernel_0 16 rfl rfl)
theorem dX10_kernel_17 : decode cX10_kernel 17 = .ok (.getfield 81, 3) := dk_180 0 81 (dk_at dksX10_kernel_0 17 rfl rfl)
theorem dX10_kernel_20 : decode cX10_kernel 20 = .ok (.ifCond .le 5, 3) := dk_158 0 5 (dk_at dksX10_kernel_0 20 rfl rfl)
theorem dX10_kernel_23 : decode cX10_kernel 23 = .ok (.iconst 0, 1) := dk_3 (dk_at dksX10_kernel_0 23 rfl rfl)
theorem dX10_kernel_24 : decode cX10_kernel 24 = .ok (.ireturn, 1) := dk_172 (dk_at dksX10_kernel_1 0 rfl rfl)
theorem dX10_kernel_25 : decode cX10_kernel 25 = .ok (.aload_n 0, 1) := dk_42 (dk_at dksX10_kernel_1 1 rfl rfl)
theorem dX10_kernel_26 : decode cX10_kernel 26 = .ok (.invokevirtual 191, 3) := dk_182 0 191 (dk_at dksX10_kernel_1 2 rfl rfl)
theorem dX10_kernel_29 : decode cX10_kernel 29 = .ok (.aload_n 0, 1) := dk_42 (dk_at dksX10_kernel_1 5 rfl rfl)
theorem dX10_kernel_30 : decode cX10_kernel 30 = .ok (.getfield 152, 3) := dk_180 0 152 (dk_at dksX10_kernel_1 6 rfl rfl)
theorem dX10_kernel_33 : decode cX10_kernel 33 = .ok (.ireturn, 1) := dk_172 (dk_at dksX10_kernel_1 9 rfl rfl)
abbrev cX10_kernelAt : ByteArray := prog_14_method_30_code
def yX10_kernelAt : MethodName := ⟨RX10, "kernelAt", "(II)J"⟩
def dkwX10_kernelAt_2 : List UInt8 := [180, 0, 68, 16, 6, 27, 104, 28, 96, 47, 167, 0, 4, 9, 173]
abbrev dktX10_kernelAt_2 : List UInt8 := dkwX10_kernelAt_2 ++ []
def dkwX10_kernelAt_1 : List UInt8 := [27, 42, 180, 0, 152, 162, 0, 7, 3, 167, 0, 4, 4, 181, 0, 81, 42, 180, 0, 81, 154, 0, 17, 42]
abbrev dktX10_kernelAt_1 : List UInt8 := dkwX10_kernelAt_1 ++ dktX10_kernelAt_2
def dkwX10_kernelAt_0 : List UInt8 := [42, 4, 181, 0, 81, 42, 28, 182, 0, 194, 153, 0, 7, 27, 156, 0, 5, 9, 173, 42, 182, 0, 191, 42]
abbrev dktX10_kernelAt_0 : List UInt8 := dkwX10_kernelAt_0 ++ dktX10_kernelAt_1
theorem dksX10_kernelAt_0 : cX10_kernelAt.data.toList.drop 0 = dktX10_kernelAt_0 := by decide +kernel
theorem dksX10_kernelAt_1 : cX10_kernelAt.data.toList.drop 24 = dktX10_kernelAt_1 := dk_seg dksX10_kernelAt_0 24 rfl rfl
theorem dksX10_kernelAt_2 : cX10_kernelAt.data.toList.drop 48 = dktX10_kernelAt_2 := dk_seg dksX10_kernelAt_1 24 rfl rfl
theorem dX10_kernelAt_0 : decode cX10_kernelAt 0 = .ok (.aload_n 0, 1) := dk_42 (dk_at dksX10_kernelAt_0 0 rfl rfl)
theorem dX10_kernelAt_1 : decode cX10_kernelAt 1 = .ok (.iconst 1, 1) := dk_4 (dk_at dksX10_kernelAt_0 1 rfl rfl)
theorem dX10_kernelAt_2 : decode cX10_kernelAt 2 = .ok (.putfield 81, 3) := dk_181 0 81 (dk_at dksX10_kernelAt_0 2 rfl rfl)
theorem dX10_kernelAt_5 : decode cX10_kernelAt 5 = .ok (.aload_n 0, 1) := dk_42 (dk_at dksX10_kernelAt_0 5 rfl rfl)
theorem dX10_kernelAt_6 : decode cX10_kernelAt 6 = .ok (.iload_n 2, 1) := dk_28 (dk_at dksX10_kernelAt_0 6 rfl rfl)
theorem dX10_kernelAt_7 : decode cX10_kernelAt 7 = .ok (.invokevirtual 194, 3) := dk_182 0 194 (dk_at dksX10_kernelAt_0 7 rfl rfl)
theorem dX10_kernelAt_10 : decode cX10_kernelAt 10 = .ok (.ifCond .eq 7, 3) := dk_153 0 7 (dk_at dksX10_kernelAt_0 10 rfl rfl)
theorem dX10_kernelAt_13 : decode cX10_kernelAt 13 = .ok (.iload_n 1, 1) := dk_27 (dk_at dksX10_kernelAt_0 13 rfl rfl)
theorem dX10_kernelAt_14 : decode cX10_kernelAt 14 = .ok (.ifCond .ge 5, 3) := dk_156 0 5 (dk_at dksX10_kernelAt_0 14 rfl rfl)
theorem dX10_kernelAt_17 : decode cX10_kernelAt 17 = .ok (.lconst 0, 1) := dk_9 (dk_at dksX10_kernelAt_0 17 rfl rfl)
theorem dX10_kernelAt_18 : decode cX10_kernelAt 18 = .ok (.lreturn, 1) := dk_173 (dk_at dksX10_kernelAt_0 18 rfl rfl)
theorem dX10_kernelAt_19 : decode cX10_kernelAt 19 = .ok (.aload_n 0, 1) := dk_42 (dk_at dksX10_kernelAt_0 19 rfl rfl)
theorem dX10_kernelAt_20 : decode cX10_kernelAt 20 = .ok (.invokevirtual 191, 3) := dk_182 0 191 (dk_at dksX10_kernelAt_0 20 rfl rfl)
theorem dX10_kernelAt_23 : decode cX10_kernelAt 23 = .ok (.aload_n 0, 1) := dk_42 (dk_at dksX10_kernelAt_0 23 rfl rfl)
theorem dX10_kernelAt_24 : decode cX10_kernelAt 24 = .ok (.iload_n 1, 1) := dk_27 (dk_at dksX10_kernelAt_1 0 rfl rfl)
theorem dX10_kernelAt_25 : decode cX10_kernelAt 25 = .ok (.aload_n 0, 1) := dk_42 (dk_at dksX10_kernelAt_1 1 rfl rfl)
theorem dX10_kernelAt_26 : decode cX10_kernelAt 26 = .ok (.getfield 152, 3) := dk_180 0 152 (dk_at dksX10_kernelAt_1 2 rfl rfl)
theorem dX10_kernelAt_29 : decode cX10_kernelAt 29 = .ok (.if_icmp .ge 7, 3) := dk_162 0 7 (dk_at dksX10_kernelAt_1 5 rfl rfl)
theorem dX10_kernelAt_32 : decode cX10_kernelAt 32 = .ok (.iconst 0, 1) := dk_3 (dk_at dksX10_kernelAt_1 8 rfl rfl)
theorem dX10_kernelAt_33 : decode cX10_kernelAt 33 = .ok (.goto 4, 3) := dk_167 0 4 (dk_at dksX10_kernelAt_1 9 rfl rfl)
theorem dX10_kernelAt_36 : decode cX10_kernelAt 36 = .ok (.iconst 1, 1) := dk_4 (dk_at dksX10_kernelAt_1 12 rfl rfl)
theorem dX10_kernelAt_37 : decode cX10_kernelAt 37 = .ok (.putfield 81, 3) := dk_181 0 81 (dk_at dksX10_kernelAt_1 13 rfl rfl)
theorem dX10_kernelAt_40 : decode cX10_kernelAt 40 = .ok (.aload_n 0, 1) := dk_42 (dk_at dksX10_kernelAt_1 16 rfl rfl)
theorem dX10_kernelAt_41 : decode cX10_kernelAt 41 = .ok (.getfield 81, 3) := dk_180 0 81 (dk_at dksX10_kernelAt_1 17 rfl rfl)
theorem dX10_kernelAt_44 : decode cX10_kernelAt 44 = .ok (.ifCond .ne 17, 3) := dk_154 0 17 (dk_at dksX10_kernelAt_1 20 rfl rfl)
theorem dX10_kernelAt_47 : decode cX10_kernelAt 47 = .ok (.aload_n 0, 1) := dk_42 (dk_at dksX10_kernelAt_1 23 rfl rfl)
theorem dX10_kernelAt_48 : decode cX10_kernelAt 48 = .ok (.getfield 68, 3) := dk_180 0 68 (dk_at dksX10_kernelAt_2 0 rfl rfl)
theorem dX10_kernelAt_51 : decode cX10_kernelAt 51 = .ok (.bipush 6, 2) := dk_16 6 (dk_at dksX10_kernelAt_2 3 rfl rfl)
theorem dX10_kernelAt_53 : decode cX10_kernelAt 53 = .ok (.iload_n 1, 1) := dk_27 (dk_at dksX10_kernelAt_2 5 rfl rfl)
theorem dX10_kernelAt_54 : decode cX10_kernelAt 54 = .ok (.imul, 1) := dk_104 (dk_at dksX10_kernelAt_2 6 rfl rfl)
theorem dX10_kernelAt_55 : decode cX10_kernelAt 55 = .ok (.iload_n 2, 1) := dk_28 (dk_at dksX10_kernelAt_2 7 rfl rfl)
theorem dX10_kernelAt_56 : decode cX10_kernelAt 56 = .ok (.iadd, 1) := dk_96 (dk_at dksX10_kernelAt_2 8 rfl rfl)
theorem dX10_kernelAt_57 : decode cX10_kernelAt 57 = .ok (.laload, 1) := dk_47 (dk_at dksX10_kernelAt_2 9 rfl rfl)
theorem dX10_kernelAt_58 : decode cX10_kernelAt 58 = .ok (.goto 4, 3) := dk_167 0 4 (dk_at dksX10_kernelAt_2 10 rfl rfl)
theorem dX10_kernelAt_61 : decode cX10_kernelAt 61 = .ok (.lconst 0, 1) := dk_9 (dk_at dksX10_kernelAt_2 13 rfl rfl)
theorem dX10_kernelAt_62 : decode cX10_kernelAt 62 = .ok (.lreturn, 1) := dk_173 (dk_at dksX10_kernelAt_2 14 rfl rfl)
abbrev cX10_isColumn : ByteArray := prog_14_method_16_code
def yX10_isColumn : MethodName := ⟨RX10, "isColumn", "(I)Z"⟩
def dkwX10_isColumn_1 : List UInt8 := [172]
abbrev dktX10_isColumn_1 : List UInt8 := dkwX10_isColumn_1 ++ []
def dkwX10_isColumn_0 : List UInt8 := [42, 180, 0, 133, 153, 0, 19, 27, 155, 0, 15, 27, 42, 180, 0, 143, 162, 0, 7, 4, 167, 0, 4, 3]
abbrev dktX10_isColumn_0 : List UInt8 := dkwX10_isColumn_0 ++ dktX10_isColumn_1
theorem dksX10_isColumn_0 : cX10_isColumn.data.toList.drop 0 = dktX10_isColumn_0 := by decide +kernel
theorem dksX10_isColumn_1 : cX10_isColumn.data.toList.drop 24 = dktX10_isColumn_1 := dk_seg dksX10_isColumn_0 24 rfl rfl
theorem dX10_isColumn_0 : decode cX10_isColumn 0 = .ok (.aload_n 0, 1) := dk_42 (dk_at dksX10_isColumn_0 0 rfl rfl)
theorem dX10_isColumn_1 : decode cX10_isColumn 1 = .ok (.getfield 133, 3) := dk_180 0 133 (dk_at dksX10_isColumn_0 1 rfl rfl)
theorem dX10_isColumn_4 : decode cX10_isColumn 4 = .ok (.ifCond .eq 19, 3) := dk_153 0 19 (dk_at dksX10_isColumn_0 4 rfl rfl)
theorem dX10_isColumn_7 : decode cX10_isColumn 7 = .ok (.iload_n 1, 1) := dk_27 (dk_at dksX10_isColumn_0 7 rfl rfl)
theorem dX10_isColumn_8 : decode cX10_isColumn 8 = .ok (.ifCond .lt 15, 3) := dk_155 0 15 (dk_at dksX10_isColumn_0 8 rfl rfl)
theorem dX10_isColumn_11 : decode cX10_isColumn 11 = .ok (.iload_n 1, 1) := dk_27 (dk_at dksX10_isColumn_0 11 rfl rfl)
theorem dX10_isColumn_12 : decode cX10_isColumn 12 = .ok (.aload_n 0, 1) := dk_42 (dk_at dksX10_isColumn_0 12 rfl rfl)
theorem dX10_isColumn_13 : decode cX10_isColumn 13 = .ok (.getfield 143, 3) := dk_180 0 143 (dk_at dksX10_isColumn_0 13 rfl rfl)
theorem dX10_isColumn_16 : decode cX10_isColumn 16 = .ok (.if_icmp .ge 7, 3) := dk_162 0 7 (dk_at dksX10_isColumn_0 16 rfl rfl)
theorem dX10_isColumn_19 : decode cX10_isColumn 19 = .ok (.iconst 1, 1) := dk_4 (dk_at dksX10_isColumn_0 19 rfl rfl)
theorem dX10_isColumn_20 : decode cX10_isColumn 20 = .ok (.goto 4, 3) := dk_167 0 4 (dk_at dksX10_isColumn_0 20 rfl rfl)
theorem dX10_isColumn_23 : decode cX10_isColumn 23 = .ok (.iconst 0, 1) := dk_3 (dk_at dksX10_isColumn_0 23 rfl rfl)
theorem dX10_isColumn_24 : decode cX10_isColumn 24 = .ok (.ireturn, 1) := dk_172 (dk_at dksX10_isColumn_1 0 rfl rfl)
abbrev cX10_work : ByteArray := prog_14_method_38_code
def yX10_work : MethodName := ⟨RX10, "work", "(II)I"⟩
def dkwX10_work_10 : List UInt8 := [180, 0, 45, 27, 28, 79, 42, 180, 0, 48, 27, 46, 172]
abbrev dktX10_work_10 : List UInt8 := dkwX10_work_10 ++ []
def dkwX10_work_9 : List UInt8 := [167, 255, 144, 29, 154, 0, 12, 42, 180, 0, 48, 27, 3, 79, 2, 172, 42, 180, 0, 41, 27, 4, 84, 42]
abbrev dktX10_work_9 : List UInt8 := dkwX10_work_9 ++ dktX10_work_10
def dkwX10_work_8 : List UInt8 := [167, 0, 4, 3, 182, 0, 223, 153, 0, 7, 4, 167, 0, 4, 3, 54, 5, 167, 255, 183, 132, 4, 1]
abbrev dktX10_work_8 : List UInt8 := dkwX10_work_8 ++ dktX10_work_9
def dkwX10_work_7 : List UInt8 := [62, 29, 153, 0, 8, 42, 27, 182, 0, 220, 21, 4, 158, 0, 24, 42, 27, 5, 160, 0, 7, 4]
abbrev dktX10_work_7 : List UInt8 := dkwX10_work_7 ++ dktX10_work_8
def dkwX10_work_6 : List UInt8 := [27, 182, 0, 217, 153, 0, 30, 42, 180, 0, 48, 27, 46, 17, 7, 208, 162, 0, 7, 4, 167, 0, 4, 3]
abbrev dktX10_work_6 : List UInt8 := dkwX10_work_6 ++ dktX10_work_7
def dkwX10_work_5 : List UInt8 := [160, 0, 7, 4, 167, 0, 4, 3, 182, 0, 213, 4, 54, 5, 21, 5, 153, 0, 74, 29, 153, 0, 70, 42]
abbrev dktX10_work_5 : List UInt8 := dkwX10_work_5 ++ dktX10_work_6
def dkwX10_work_4 : List UInt8 := [62, 3, 54, 4, 21, 4, 42, 28, 182, 0, 210, 163, 0, 108, 29, 153, 0, 104, 42, 21, 4, 27, 5]
abbrev dktX10_work_4 : List UInt8 := dkwX10_work_4 ++ dktX10_work_5
def dkwX10_work_3 : List UInt8 := [3, 79, 42, 42, 180, 0, 146, 153, 0, 12, 27, 5, 160, 0, 7, 4, 167, 0, 4, 3, 181, 0, 146, 4]
abbrev dktX10_work_3 : List UInt8 := dkwX10_work_3 ++ dktX10_work_4
def dkwX10_work_2 : List UInt8 := [181, 0, 81, 42, 180, 0, 81, 158, 0, 5, 3, 172, 42, 180, 0, 41, 27, 3, 84, 42, 180, 0, 48, 27]
abbrev dktX10_work_2 : List UInt8 := dkwX10_work_2 ++ dktX10_work_3
def dkwX10_work_1 : List UInt8 := [167, 0, 5, 16, 16, 164, 0, 7, 4, 167, 0, 15, 42, 180, 0, 133, 153, 0, 7, 3, 167, 0, 4, 5]
abbrev dktX10_work_1 : List UInt8 := dkwX10_work_1 ++ dktX10_work_2
def dkwX10_work_0 : List UInt8 := [42, 27, 155, 0, 28, 27, 5, 163, 0, 23, 28, 155, 0, 19, 28, 27, 5, 160, 0, 8, 16, 10]
abbrev dktX10_work_0 : List UInt8 := dkwX10_work_0 ++ dktX10_work_1
theorem dksX10_work_0 : cX10_work.data.toList.drop 0 = dktX10_work_0 := by decide +kernel
theorem dksX10_work_1 : cX10_work.data.toList.drop 22 = dktX10_work_1 := dk_seg dksX10_work_0 22 rfl rfl
theorem dksX10_work_2 : cX10_work.data.toList.drop 46 = dktX10_work_2 := dk_seg dksX10_work_1 24 rfl rfl
theorem dksX10_work_3 : cX10_work.data.toList.drop 70 = dktX10_work_3 := dk_seg dksX10_work_2 24 rfl rfl
theorem dksX10_work_4 : cX10_work.data.toList.drop 94 = dktX10_work_4 := dk_seg dksX10_work_3 24 rfl rfl
theorem dksX10_work_5 : cX10_work.data.toList.drop 117 = dktX10_work_5 := dk_seg dksX10_work_4 23 rfl rfl
theorem dksX10_work_6 : cX10_work.data.toList.drop 141 = dktX10_work_6 := dk_seg dksX10_work_5 24 rfl rfl
theorem dksX10_work_7 : cX10_work.data.toList.drop 165 = dktX10_work_7 := dk_seg dksX10_work_6 24 rfl rfl
theorem dksX10_work_8 : cX10_work.data.toList.drop 187 = dktX10_work_8 := dk_seg dksX10_work_7 22 rfl rfl
theorem dksX10_work_9 : cX10_work.data.toList.drop 210 = dktX10_work_9 := dk_seg dksX10_work_8 23 rfl rfl
theorem dksX10_work_10 : cX10_work.data.toList.drop 234 = dktX10_work_10 := dk_seg dksX10_work_9 24 rfl rfl
theorem dX10_work_0 : decode cX10_work 0 = .ok (.aload_n 0, 1) := dk_42 (dk_at dksX10_work_0 0 rfl rfl)
theorem dX10_work_1 : decode cX10_work 1 = .ok (.iload_n 1, 1) := dk_27 (dk_at dksX10_work_0 1 rfl rfl)
theorem dX10_work_2 : decode cX10_work 2 = .ok (.ifCond .lt 28, 3) := dk_155 0 28 (dk_at dksX10_work_0 2 rfl rfl)
theorem dX10_work_5 : decode cX10_work 5 = .ok (.iload_n 1, 1) := dk_27 (dk_at dksX10_work_0 5 rfl rfl)
theorem dX10_work_6 : decode cX10_work 6 = .ok (.iconst 2, 1) := dk_5 (dk_at dksX10_work_0 6 rfl rfl)
theorem dX10_work_7 : decode cX10_work 7 = .ok (.if_icmp .gt 23, 3) := dk_163 0 23 (dk_at dksX10_work_0 7 rfl rfl)
theorem dX10_work_10 : decode cX10_work 10 = .ok (.iload_n 2, 1) := dk_28 (dk_at dksX10_work_0 10 rfl rfl)
theorem dX10_work_11 : decode cX10_work 11 = .ok (.ifCond .lt 19, 3) := dk_155 0 19 (dk_at dksX10_work_0 11 rfl rfl)
theorem dX10_work_14 : decode cX10_work 14 = .ok (.iload_n 2, 1) := dk_28 (dk_at dksX10_work_0 14 rfl rfl)
theorem dX10_work_15 : decode cX10_work 15 = .ok (.iload_n 1, 1) := dk_27 (dk_at dksX10_work_0 15 rfl rfl)
theorem dX10_work_16 : decode cX10_work 16 = .ok (.iconst 2, 1) := dk_5 (dk_at dksX10_work_0 16 rfl rfl)
theorem dX10_work_17 : decode cX10_work 17 = .ok (.if_icmp .ne 8, 3) := dk_160 0 8 (dk_at dksX10_work_0 17 rfl rfl)
theorem dX10_work_20 : decode cX10_work 20 = .ok (.bipush 10, 2) := dk_16 10 (dk_at dksX10_work_0 20 rfl rfl)
theorem dX10_work_22 : decode cX10_work 22 = .ok (.goto 5, 3) := dk_167 0 5 (dk_at dksX10_work_1 0 rfl rfl)
theorem dX10_work_25 : decode cX10_work 25 = .ok (.bipush 16, 2) := dk_16 16 (dk_at dksX10_work_1 3 rfl rfl)
theorem dX10_work_27 : decode cX10_work 27 = .ok (.if_icmp .le 7, 3) := dk_164 0 7 (dk_at dksX10_work_1 5 rfl rfl)
theorem dX10_work_30 : decode cX10_work 30 = .ok (.iconst 1, 1) := dk_4 (dk_at dksX10_work_1 8 rfl rfl)
theorem dX10_work_31 : decode cX10_work 31 = .ok (.goto 15, 3) := dk_167 0 15 (dk_at dksX10_work_1 9 rfl rfl)
theorem dX10_work_34 : decode cX10_work 34 = .ok (.aload_n 0, 1) := dk_42 (dk_at dksX10_work_1 12 rfl rfl)
theorem dX10_work_35 : decode cX10_work 35 = .ok (.getfield 133, 3) := dk_180 0 133 (dk_at dksX10_work_1 13 rfl rfl)
theorem dX10_work_38 : decode cX10_work 38 = .ok (.ifCond .eq 7, 3) := dk_153 0 7 (dk_at dksX10_work_1 16 rfl rfl)
theorem dX10_work_41 : decode cX10_work 41 = .ok (.iconst 0, 1) := dk_3 (dk_at dksX10_work_1 19 rfl rfl)
theorem dX10_work_42 : decode cX10_work 42 = .ok (.goto 4, 3) := dk_167 0 4 (dk_at dksX10_work_1 20 rfl rfl)
theorem dX10_work_45 : decode cX10_work 45 = .ok (.iconst 2, 1) := dk_5 (dk_at dksX10_work_1 23 rfl rfl)
theorem dX10_work_46 : decode cX10_work 46 = .ok (.putfield 81, 3) := dk_181 0 81 (dk_at dksX10_work_2 0 rfl rfl)
theorem dX10_work_49 : decode cX10_work 49 = .ok (.aload_n 0, 1) := dk_42 (dk_at dksX10_work_2 3 rfl rfl)
theorem dX10_work_50 : decode cX10_work 50 = .ok (.getfield 81, 3) := dk_180 0 81 (dk_at dksX10_work_2 4 rfl rfl)
theorem dX10_work_53 : decode cX10_work 53 = .ok (.ifCond .le 5, 3) := dk_158 0 5 (dk_at dksX10_work_2 7 rfl rfl)
theorem dX10_work_56 : decode cX10_work 56 = .ok (.iconst 0, 1) := dk_3 (dk_at dksX10_work_2 10 rfl rfl)
theorem dX10_work_57 : decode cX10_work 57 = .ok (.ireturn, 1) := dk_172 (dk_at dksX10_work_2 11 rfl rfl)
theorem dX10_work_58 : decode cX10_work 58 = .ok (.aload_n 0, 1) := dk_42 (dk_at dksX10_work_2 12 rfl rfl)
theorem dX10_work_59 : decode cX10_work 59 = .ok (.getfield 41, 3) := dk_180 0 41 (dk_at dksX10_work_2 13 rfl rfl)
theorem dX10_work_62 : decode cX10_work 62 = .ok (.iload_n 1, 1) := dk_27 (dk_at dksX10_work_2 16 rfl rfl)
theorem dX10_work_63 : decode cX10_work 63 = .ok (.iconst 0, 1) := dk_3 (dk_at dksX10_work_2 17 rfl rfl)
theorem dX10_work_64 : decode cX10_work 64 = .ok (.bastore, 1) := dk_84 (dk_at dksX10_work_2 18 rfl rfl)
theorem dX10_work_65 : decode cX10_work 65 = .ok (.aload_n 0, 1) := dk_42 (dk_at dksX10_work_2 19 rfl rfl)
theorem dX10_work_66 : decode cX10_work 66 = .ok (.getfield 48, 3) := dk_180 0 48 (dk_at dksX10_work_2 20 rfl rfl)
theorem dX10_work_69 : decode cX10_work 69 = .ok (.iload_n 1, 1) := dk_27 (dk_at dksX10_work_2 23 rfl rfl)
theorem dX10_work_70 : decode cX10_work 70 = .ok (.iconst 0, 1) := dk_3 (dk_at dksX10_work_3 0 rfl rfl)
theorem dX10_work_71 : decode cX10_work 71 = .ok (.iastore, 1) := dk_79 (dk_at dksX10_work_3 1 rfl rfl)
theorem dX10_work_72 : decode cX10_work 72 = .ok (.aload_n 0, 1) := dk_42 (dk_at dksX10_work_3 2 rfl rfl)
theorem dX10_work_73 : decode cX10_work 73 = .ok (.aload_n 0, 1) := dk_42 (dk_at dksX10_work_3 3 rfl rfl)
theorem dX10_work_74 : decode cX10_work 74 = .ok (.getfield 146, 3) := dk_180 0 146 (dk_at dksX10_work_3 4 rfl rfl)
theorem dX10_work_77 : decode cX10_work 77 = .ok (.ifCond .eq 12, 3) := dk_153 0 12 (dk_at dksX10_work_3 7 rfl rfl)
theorem dX10_work_80 : decode cX10_work 80 = .ok (.iload_n 1, 1) := dk_27 (dk_at dksX10_work_3 10 rfl rfl)
theorem dX10_work_81 : decode cX10_work 81 = .ok (.iconst 2, 1) := dk_5 (dk_at dksX10_work_3 11 rfl rfl)
theorem dX10_work_82 : decode cX10_work 82 = .ok (.if_icmp .ne 7, 3) := dk_160 0 7 (dk_at dksX10_work_3 12 rfl rfl)
theorem dX10_work_85 : decode cX10_work 85 = .ok (.iconst 1, 1) := dk_4 (dk_at dksX10_work_3 15 rfl rfl)
theorem dX10_work_86 : decode cX10_work 86 = .ok (.goto 4, 3) := dk_167 0 4 (dk_at dksX10_work_3 16 rfl rfl)
theorem dX10_work_89 : decode cX10_work 89 = .ok (.iconst 0, 1) := dk_3 (dk_at dksX10_work_3 19 rfl rfl)
theorem dX10_work_90 : decode cX10_work 90 = .ok (.putfield 146, 3) := dk_181 0 146 (dk_at dksX10_work_3 20 rfl rfl)
theorem dX10_work_93 : decode cX10_work 93 = .ok (.iconst 1, 1) := dk_4 (dk_at dksX10_work_3 23 rfl rfl)
theorem dX10_work_94 : decode cX10_work 94 = .ok (.istore_n 3, 1) := dk_62 (dk_at dksX10_work_4 0 rfl rfl)
theorem dX10_work_95 : decode cX10_work 95 = .ok (.iconst 0, 1) := dk_3 (dk_at dksX10_work_4 1 rfl rfl)
theorem dX10_work_96 : decode cX10_work 96 = .ok (.istore 4, 2) := dk_54 4 (dk_at dksX10_work_4 2 rfl rfl)
theorem dX10_work_98 : decode cX10_work 98 = .ok (.iload 4, 2) := dk_21 4 (dk_at dksX10_work_4 4 rfl rfl)
theorem dX10_work_100 : decode cX10_work 100 = .ok (.aload_n 0, 1) := dk_42 (dk_at dksX10_work_4 6 rfl rfl)
theorem dX10_work_101 : decode cX10_work 101 = .ok (.iload_n 2, 1) := dk_28 (dk_at dksX10_work_4 7 rfl rfl)
theorem dX10_work_102 : decode cX10_work 102 = .ok (.invokevirtual 210, 3) := dk_182 0 210 (dk_at dksX10_work_4 8 rfl rfl)
theorem dX10_work_105 : decode cX10_work 105 = .ok (.if_icmp .gt 108, 3) := dk_163 0 108 (dk_at dksX10_work_4 11 rfl rfl)
theorem dX10_work_108 : decode cX10_work 108 = .ok (.iload_n 3, 1) := dk_29 (dk_at dksX10_work_4 14 rfl rfl)
theorem dX10_work_109 : decode cX10_work 109 = .ok (.ifCond .eq 104, 3) := dk_153 0 104 (dk_at dksX10_work_4 15 rfl rfl)
theorem dX10_work_112 : decode cX10_work 112 = .ok (.aload_n 0, 1) := dk_42 (dk_at dksX10_work_4 18 rfl rfl)
theorem dX10_work_113 : decode cX10_work 113 = .ok (.iload 4, 2) := dk_21 4 (dk_at dksX10_work_4 19 rfl rfl)
theorem dX10_work_115 : decode cX10_work 115 = .ok (.iload_n 1, 1) := dk_27 (dk_at dksX10_work_4 21 rfl rfl)
theorem dX10_work_116 : decode cX10_work 116 = .ok (.iconst 2, 1) := dk_5 (dk_at dksX10_work_4 22 rfl rfl)
theorem dX10_work_117 : decode cX10_work 117 = .ok (.if_icmp .ne 7, 3) := dk_160 0 7 (dk_at dksX10_work_5 0 rfl rfl)
theorem dX10_work_120 : decode cX10_work 120 = .ok (.iconst 1, 1) := dk_4 (dk_at dksX10_work_5 3 rfl rfl)
theorem dX10_work_121 : decode cX10_work 121 = .ok (.goto 4, 3) := dk_167 0 4 (dk_at dksX10_work_5 4 rfl rfl)
theorem dX10_work_124 : decode cX10_work 124 = .ok (.iconst 0, 1) := dk_3 (dk_at dksX10_work_5 7 rfl rfl)
theorem dX10_work_125 : decode cX10_work 125 = .ok (.invokevirtual 213, 3) := dk_182 0 213 (dk_at dksX10_work_5 8 rfl rfl)
theorem dX10_work_128 : decode cX10_work 128 = .ok (.iconst 1, 1) := dk_4 (dk_at dksX10_work_5 11 rfl rfl)
theorem dX10_work_129 : decode cX10_work 129 = .ok (.istore 5, 2) := dk_54 5 (dk_at dksX10_work_5 12 rfl rfl)
theorem dX10_work_131 : decode cX10_work 131 = .ok (.iload 5, 2) := dk_21 5 (dk_at dksX10_work_5 14 rfl rfl)
theorem dX10_work_133 : decode cX10_work 133 = .ok (.ifCond .eq 74, 3) := dk_153 0 74 (dk_at dksX10_work_5 16 rfl rfl)
theorem dX10_work_136 : decode cX10_work 136 = .ok (.iload_n 3, 1) := dk_29 (dk_at dksX10_work_5 19 rfl rfl)
theorem dX10_work_137 : decode cX10_work 137 = .ok (.ifCond .eq 70, 3) := dk_153 0 70 (dk_at dksX10_work_5 20 rfl rfl)
theorem dX10_work_140 : decode cX10_work 140 = .ok (.aload_n 0, 1) := dk_42 (dk_at dksX10_work_5 23 rfl rfl)
theorem dX10_work_141 : decode cX10_work 141 = .ok (.iload_n 1, 1) := dk_27 (dk_at dksX10_work_6 0 rfl rfl)
theorem dX10_work_142 : decode cX10_work 142 = .ok (.invokevirtual 217, 3) := dk_182 0 217 (dk_at dksX10_work_6 1 rfl rfl)
theorem dX10_work_145 : decode cX10_work 145 = .ok (.ifCond .eq 30, 3) := dk_153 0 30 (dk_at dksX10_work_6 4 rfl rfl)
theorem dX10_work_148 : decode cX10_work 148 = .ok (.aload_n 0, 1) := dk_42 (dk_at dksX10_work_6 7 rfl rfl)
theorem dX10_work_149 : decode cX10_work 149 = .ok (.getfield 48, 3) := dk_180 0 48 (dk_at dksX10_work_6 8 rfl rfl)
theorem dX10_work_152 : decode cX10_work 152 = .ok (.iload_n 1, 1) := dk_27 (dk_at dksX10_work_6 11 rfl rfl)
theorem dX10_work_153 : decode cX10_work 153 = .ok (.iaload, 1) := dk_46 (dk_at dksX10_work_6 12 rfl rfl)
theorem dX10_work_154 : decode cX10_work 154 = .ok (.sipush 2000, 3) := dk_17 7 208 (dk_at dksX10_work_6 13 rfl rfl)
theorem dX10_work_157 : decode cX10_work 157 = .ok (.if_icmp .ge 7, 3) := dk_162 0 7 (dk_at dksX10_work_6 16 rfl rfl)
theorem dX10_work_160 : decode cX10_work 160 = .ok (.iconst 1, 1) := dk_4 (dk_at dksX10_work_6 19 rfl rfl)
theorem dX10_work_161 : decode cX10_work 161 = .ok (.goto 4, 3) := dk_167 0 4 (dk_at dksX10_work_6 20 rfl rfl)
theorem dX10_work_164 : decode cX10_work 164 = .ok (.iconst 0, 1) := dk_3 (dk_at dksX10_work_6 23 rfl rfl)
theorem dX10_work_165 : decode cX10_work 165 = .ok (.istore_n 3, 1) := dk_62 (dk_at dksX10_work_7 0 rfl rfl)
theorem dX10_work_166 : decode cX10_work 166 = .ok (.iload_n 3, 1) := dk_29 (dk_at dksX10_work_7 1 rfl rfl)
theorem dX10_work_167 : decode cX10_work 167 = .ok (.ifCond .eq 8, 3) := dk_153 0 8 (dk_at dksX10_work_7 2 rfl rfl)
theorem dX10_work_170 : decode cX10_work 170 = .ok (.aload_n 0, 1) := dk_42 (dk_at dksX10_work_7 5 rfl rfl)
theorem dX10_work_171 : decode cX10_work 171 = .ok (.iload_n 1, 1) := dk_27 (dk_at dksX10_work_7 6 rfl rfl)
theorem dX10_work_172 : decode cX10_work 172 = .ok (.invokevirtual 220, 3) := dk_182 0 220 (dk_at dksX10_work_7 7 rfl rfl)
theorem dX10_work_175 : decode cX10_work 175 = .ok (.iload 4, 2) := dk_21 4 (dk_at dksX10_work_7 10 rfl rfl)
theorem dX10_work_177 : decode cX10_work 177 = .ok (.ifCond .le 24, 3) := dk_158 0 24 (dk_at dksX10_work_7 12 rfl rfl)
theorem dX10_work_180 : decode cX10_work 180 = .ok (.aload_n 0, 1) := dk_42 (dk_at dksX10_work_7 15 rfl rfl)
theorem dX10_work_181 : decode cX10_work 181 = .ok (.iload_n 1, 1) := dk_27 (dk_at dksX10_work_7 16 rfl rfl)
theorem dX10_work_182 : decode cX10_work 182 = .ok (.iconst 2, 1) := dk_5 (dk_at dksX10_work_7 17 rfl rfl)
theorem dX10_work_183 : decode cX10_work 183 = .ok (.if_icmp .ne 7, 3) := dk_160 0 7 (dk_at dksX10_work_7 18 rfl rfl)
theorem dX10_work_186 : decode cX10_work 186 = .ok (.iconst 1, 1) := dk_4 (dk_at dksX10_work_7 21 rfl rfl)
theorem dX10_work_187 : decode cX10_work 187 = .ok (.goto 4, 3) := dk_167 0 4 (dk_at dksX10_work_8 0 rfl rfl)
theorem dX10_work_190 : decode cX10_work 190 = .ok (.iconst 0, 1) := dk_3 (dk_at dksX10_work_8 3 rfl rfl)
theorem dX10_work_191 : decode cX10_work 191 = .ok (.invokevirtual 223, 3) := dk_182 0 223 (dk_at dksX10_work_8 4 rfl rfl)
theorem dX10_work_194 : decode cX10_work 194 = .ok (.ifCond .eq 7, 3) := dk_153 0 7 (dk_at dksX10_work_8 7 rfl rfl)
theorem dX10_work_197 : decode cX10_work 197 = .ok (.iconst 1, 1) := dk_4 (dk_at dksX10_work_8 10 rfl rfl)
theorem dX10_work_198 : decode cX10_work 198 = .ok (.goto 4, 3) := dk_167 0 4 (dk_at dksX10_work_8 11 rfl rfl)
theorem dX10_work_201 : decode cX10_work 201 = .ok (.iconst 0, 1) := dk_3 (dk_at dksX10_work_8 14 rfl rfl)
theorem dX10_work_202 : decode cX10_work 202 = .ok (.istore 5, 2) := dk_54 5 (dk_at dksX10_work_8 15 rfl rfl)
theorem dX10_work_204 : decode cX10_work 204 = .ok (.goto (-73), 3) := dk_167 255 183 (dk_at dksX10_work_8 17 rfl rfl)
theorem dX10_work_207 : decode cX10_work 207 = .ok (.iinc 4 1, 3) := dk_132 4 1 (dk_at dksX10_work_8 20 rfl rfl)
theorem dX10_work_210 : decode cX10_work 210 = .ok (.goto (-112), 3) := dk_167 255 144 (dk_at dksX10_work_9 0 rfl rfl)
theorem dX10_work_213 : decode cX10_work 213 = .ok (.iload_n 3, 1) := dk_29 (dk_at dksX10_work_9 3 rfl rfl)
theorem dX10_work_214 : decode cX10_work 214 = .ok (.ifCond .ne 12, 3) := dk_154 0 12 (dk_at dksX10_work_9 4 rfl rfl)
theorem dX10_work_217 : decode cX10_work 217 = .ok (.aload_n 0, 1) := dk_42 (dk_at dksX10_work_9 7 rfl rfl)
theorem dX10_work_218 : decode cX10_work 218 = .ok (.getfield 48, 3) := dk_180 0 48 (dk_at dksX10_work_9 8 rfl rfl)
theorem dX10_work_221 : decode cX10_work 221 = .ok (.iload_n 1, 1) := dk_27 (dk_at dksX10_work_9 11 rfl rfl)
theorem dX10_work_222 : decode cX10_work 222 = .ok (.iconst 0, 1) := dk_3 (dk_at dksX10_work_9 12 rfl rfl)
theorem dX10_work_223 : decode cX10_work 223 = .ok (.iastore, 1) := dk_79 (dk_at dksX10_work_9 13 rfl rfl)
theorem dX10_work_224 : decode cX10_work 224 = .ok (.iconst (-1), 1) := dk_2 (dk_at dksX10_work_9 14 rfl rfl)
theorem dX10_work_225 : decode cX10_work 225 = .ok (.ireturn, 1) := dk_172 (dk_at dksX10_work_9 15 rfl rfl)
theorem dX10_work_226 : decode cX10_work 226 = .ok (.aload_n 0, 1) := dk_42 (dk_at dksX10_work_9 16 rfl rfl)
theorem dX10_work_227 : decode cX10_work 227 = .ok (.getfield 41, 3) := dk_180 0 41 (dk_at dksX10_work_9 17 rfl rfl)
theorem dX10_work_230 : decode cX10_work 230 = .ok (.iload_n 1, 1) := dk_27 (dk_at dksX10_work_9 20 rfl rfl)
theorem dX10_work_231 : decode cX10_work 231 = .ok (.iconst 1, 1) := dk_4 (dk_at dksX10_work_9 21 rfl rfl)
theorem dX10_work_232 : decode cX10_work 232 = .ok (.bastore, 1) := dk_84 (dk_at dksX10_work_9 22 rfl rfl)
theorem dX10_work_233 : decode cX10_work 233 = .ok (.aload_n 0, 1) := dk_42 (dk_at dksX10_work_9 23 rfl rfl)
theorem dX10_work_234 : decode cX10_work 234 = .ok (.getfield 45, 3) := dk_180 0 45 (dk_at dksX10_work_10 0 rfl rfl)
theorem dX10_work_237 : decode cX10_work 237 = .ok (.iload_n 1, 1) := dk_27 (dk_at dksX10_work_10 3 rfl rfl)
theorem dX10_work_238 : decode cX10_work 238 = .ok (.iload_n 2, 1) := dk_28 (dk_at dksX10_work_10 4 rfl rfl)
theorem dX10_work_239 : decode cX10_work 239 = .ok (.iastore, 1) := dk_79 (dk_at dksX10_work_10 5 rfl rfl)
theorem dX10_work_240 : decode cX10_work 240 = .ok (.aload_n 0, 1) := dk_42 (dk_at dksX10_work_10 6 rfl rfl)
theorem dX10_work_241 : decode cX10_work 241 = .ok (.getfield 48, 3) := dk_180 0 48 (dk_at dksX10_work_10 7 rfl rfl)
theorem dX10_work_244 : decode cX10_work 244 = .ok (.iload_n 1, 1) := dk_27 (dk_at dksX10_work_10 10 rfl rfl)
theorem dX10_work_245 : decode cX10_work 245 = .ok (.iaload, 1) := dk_46 (dk_at dksX10_work_10 11 rfl rfl)
theorem dX10_work_246 : decode cX10_work 246 = .ok (.ireturn, 1) := dk_172 (dk_at dksX10_work_10 12 rfl rfl)
abbrev cX10_most : ByteArray := prog_14_method_35_code
def yX10_most : MethodName := ⟨RX10, "most", "(I)I"⟩
def dkwX10_most_0 : List UInt8 := [42, 180, 0, 143, 154, 0, 7, 3, 167, 0, 4, 27, 172]
abbrev dktX10_most_0 : List UInt8 := dkwX10_most_0 ++ []
theorem dksX10_most_0 : cX10_most.data.toList.drop 0 = dktX10_most_0 := by decide +kernel
theorem dX10_most_0 : decode cX10_most 0 = .ok (.aload_n 0, 1) := dk_42 (dk_at dksX10_most_0 0 rfl rfl)
theorem dX10_most_1 : decode cX10_most 1 = .ok (.getfield 143, 3) := dk_180 0 143 (dk_at dksX10_most_0 1 rfl rfl)
theorem dX10_most_4 : decode cX10_most 4 = .ok (.ifCond .ne 7, 3) := dk_154 0 7 (dk_at dksX10_most_0 4 rfl rfl)
theorem dX10_most_7 : decode cX10_most 7 = .ok (.iconst 0, 1) := dk_3 (dk_at dksX10_most_0 7 rfl rfl)
theorem dX10_most_8 : decode cX10_most 8 = .ok (.goto 4, 3) := dk_167 0 4 (dk_at dksX10_most_0 8 rfl rfl)
theorem dX10_most_11 : decode cX10_most 11 = .ok (.iload_n 1, 1) := dk_27 (dk_at dksX10_most_0 11 rfl rfl)
theorem dX10_most_12 : decode cX10_most 12 = .ok (.ireturn, 1) := dk_172 (dk_at dksX10_most_0 12 rfl rfl)
abbrev cX10_begin : ByteArray := prog_14_method_34_code
def yX10_begin : MethodName := ⟨RX10, "begin", "(IZ)V"⟩
def dkwX10_begin_2 : List UInt8 := [180, 0, 78, 42, 180, 0, 143, 4, 100, 27, 79, 177]
abbrev dktX10_begin_2 : List UInt8 := dkwX10_begin_2 ++ []
def dkwX10_begin_1 : List UInt8 := [153, 0, 14, 42, 180, 0, 78, 3, 27, 116, 79, 167, 0, 22, 42, 180, 0, 143, 158, 0, 15, 42]
abbrev dktX10_begin_1 : List UInt8 := dkwX10_begin_1 ++ dktX10_begin_2
def dkwX10_begin_0 : List UInt8 := [3, 62, 29, 16, 6, 162, 0, 16, 42, 180, 0, 78, 29, 3, 79, 132, 3, 1, 167, 255, 240, 28]
abbrev dktX10_begin_0 : List UInt8 := dkwX10_begin_0 ++ dktX10_begin_1
theorem dksX10_begin_0 : cX10_begin.data.toList.drop 0 = dktX10_begin_0 := by decide +kernel
theorem dksX10_begin_1 : cX10_begin.data.toList.drop 22 = dktX10_begin_1 := dk_seg dksX10_begin_0 22 rfl rfl
theorem dksX10_begin_2 : cX10_begin.data.toList.drop 44 = dktX10_begin_2 := dk_seg dksX10_begin_1 22 rfl rfl
theorem dX10_begin_0 : decode cX10_begin 0 = .ok (.iconst 0, 1) := dk_3 (dk_at dksX10_begin_0 0 rfl rfl)
theorem dX10_begin_1 : decode cX10_begin 1 = .ok (.istore_n 3, 1) := dk_62 (dk_at dksX10_begin_0 1 rfl rfl)
theorem dX10_begin_2 : decode cX10_begin 2 = .ok (.iload_n 3, 1) := dk_29 (dk_at dksX10_begin_0 2 rfl rfl)
theorem dX10_begin_3 : decode cX10_begin 3 = .ok (.bipush 6, 2) := dk_16 6 (dk_at dksX10_begin_0 3 rfl rfl)
theorem dX10_begin_5 : decode cX10_begin 5 = .ok (.if_icmp .ge 16, 3) := dk_162 0 16 (dk_at dksX10_begin_0 5 rfl rfl)
theorem dX10_begin_8 : decode cX10_begin 8 = .ok (.aload_n 0, 1) := dk_42 (dk_at dksX10_begin_0 8 rfl rfl)
theorem dX10_begin_9 : decode cX10_begin 9 = .ok (.getfield 78, 3) := dk_180 0 78 (dk_at dksX10_begin_0 9 rfl rfl)
theorem dX10_begin_12 : decode cX10_begin 12 = .ok (.iload_n 3, 1) := dk_29 (dk_at dksX10_begin_0 12 rfl rfl)
theorem dX10_begin_13 : decode cX10_begin 13 = .ok (.iconst 0, 1) := dk_3 (dk_at dksX10_begin_0 13 rfl rfl)
theorem dX10_begin_14 : decode cX10_begin 14 = .ok (.iastore, 1) := dk_79 (dk_at dksX10_begin_0 14 rfl rfl)
theorem dX10_begin_15 : decode cX10_begin 15 = .ok (.iinc 3 1, 3) := dk_132 3 1 (dk_at dksX10_begin_0 15 rfl rfl)
theorem dX10_begin_18 : decode cX10_begin 18 = .ok (.goto (-16), 3) := dk_167 255 240 (dk_at dksX10_begin_0 18 rfl rfl)
theorem dX10_begin_21 : decode cX10_begin 21 = .ok (.iload_n 2, 1) := dk_28 (dk_at dksX10_begin_0 21 rfl rfl)
theorem dX10_begin_22 : decode cX10_begin 22 = .ok (.ifCond .eq 14, 3) := dk_153 0 14 (dk_at dksX10_begin_1 0 rfl rfl)
theorem dX10_begin_25 : decode cX10_begin 25 = .ok (.aload_n 0, 1) := dk_42 (dk_at dksX10_begin_1 3 rfl rfl)
theorem dX10_begin_26 : decode cX10_begin 26 = .ok (.getfield 78, 3) := dk_180 0 78 (dk_at dksX10_begin_1 4 rfl rfl)
theorem dX10_begin_29 : decode cX10_begin 29 = .ok (.iconst 0, 1) := dk_3 (dk_at dksX10_begin_1 7 rfl rfl)
theorem dX10_begin_30 : decode cX10_begin 30 = .ok (.iload_n 1, 1) := dk_27 (dk_at dksX10_begin_1 8 rfl rfl)
theorem dX10_begin_31 : decode cX10_begin 31 = .ok (.ineg, 1) := dk_116 (dk_at dksX10_begin_1 9 rfl rfl)
theorem dX10_begin_32 : decode cX10_begin 32 = .ok (.iastore, 1) := dk_79 (dk_at dksX10_begin_1 10 rfl rfl)
theorem dX10_begin_33 : decode cX10_begin 33 = .ok (.goto 22, 3) := dk_167 0 22 (dk_at dksX10_begin_1 11 rfl rfl)
theorem dX10_begin_36 : decode cX10_begin 36 = .ok (.aload_n 0, 1) := dk_42 (dk_at dksX10_begin_1 14 rfl rfl)
theorem dX10_begin_37 : decode cX10_begin 37 = .ok (.getfield 143, 3) := dk_180 0 143 (dk_at dksX10_begin_1 15 rfl rfl)
theorem dX10_begin_40 : decode cX10_begin 40 = .ok (.ifCond .le 15, 3) := dk_158 0 15 (dk_at dksX10_begin_1 18 rfl rfl)
theorem dX10_begin_43 : decode cX10_begin 43 = .ok (.aload_n 0, 1) := dk_42 (dk_at dksX10_begin_1 21 rfl rfl)
theorem dX10_begin_44 : decode cX10_begin 44 = .ok (.getfield 78, 3) := dk_180 0 78 (dk_at dksX10_begin_2 0 rfl rfl)
theorem dX10_begin_47 : decode cX10_begin 47 = .ok (.aload_n 0, 1) := dk_42 (dk_at dksX10_begin_2 3 rfl rfl)
theorem dX10_begin_48 : decode cX10_begin 48 = .ok (.getfield 143, 3) := dk_180 0 143 (dk_at dksX10_begin_2 4 rfl rfl)
theorem dX10_begin_51 : decode cX10_begin 51 = .ok (.iconst 1, 1) := dk_4 (dk_at dksX10_begin_2 7 rfl rfl)
theorem dX10_begin_52 : decode cX10_begin 52 = .ok (.isub, 1) := dk_100 (dk_at dksX10_begin_2 8 rfl rfl)
theorem dX10_begin_53 : decode cX10_begin 53 = .ok (.iload_n 1, 1) := dk_27 (dk_at dksX10_begin_2 9 rfl rfl)
theorem dX10_begin_54 : decode cX10_begin 54 = .ok (.iastore, 1) := dk_79 (dk_at dksX10_begin_2 10 rfl rfl)
theorem dX10_begin_55 : decode cX10_begin 55 = .ok (.return_, 1) := dk_177 (dk_at dksX10_begin_2 11 rfl rfl)
abbrev cX10_belongs : ByteArray := prog_14_method_33_code
def yX10_belongs : MethodName := ⟨RX10, "belongs", "(I)Z"⟩
def dkwX10_belongs_7 : List UInt8 := [54, 4, 132, 5, 1, 167, 255, 203, 21, 4, 172]
abbrev dktX10_belongs_7 : List UInt8 := dkwX10_belongs_7 ++ []
def dkwX10_belongs_6 : List UInt8 := [154, 0, 23, 27, 5, 161, 0, 14, 42, 27, 21, 5, 2, 182, 0, 202, 154, 0, 7, 4, 167, 0, 4, 3]
abbrev dktX10_belongs_6 : List UInt8 := dkwX10_belongs_6 ++ dktX10_belongs_7
def dkwX10_belongs_5 : List UInt8 := [42, 180, 0, 48, 27, 46, 162, 0, 48, 21, 4, 153, 0, 43, 42, 27, 21, 5, 4, 182, 0, 202]
abbrev dktX10_belongs_5 : List UInt8 := dkwX10_belongs_5 ++ dktX10_belongs_6
def dkwX10_belongs_4 : List UInt8 := [160, 0, 7, 4, 167, 0, 4, 3, 182, 0, 198, 154, 0, 5, 3, 172, 4, 54, 4, 3, 54, 5, 21, 5]
abbrev dktX10_belongs_4 : List UInt8 := dkwX10_belongs_4 ++ dktX10_belongs_5
def dkwX10_belongs_3 : List UInt8 := [159, 0, 7, 28, 154, 0, 33, 27, 5, 160, 0, 7, 29, 155, 0, 24, 42, 42, 180, 0, 78, 27, 4]
abbrev dktX10_belongs_3 : List UInt8 := dkwX10_belongs_3 ++ dktX10_belongs_4
def dkwX10_belongs_2 : List UInt8 := [153, 0, 13, 42, 180, 0, 78, 21, 4, 46, 167, 0, 4, 29, 62, 132, 4, 255, 167, 255, 206, 27, 4]
abbrev dktX10_belongs_2 : List UInt8 := dkwX10_belongs_2 ++ dktX10_belongs_3
def dkwX10_belongs_1 : List UInt8 := [180, 0, 78, 21, 4, 46, 154, 0, 7, 4, 167, 0, 4, 3, 61, 42, 180, 0, 78, 21, 4, 46]
abbrev dktX10_belongs_1 : List UInt8 := dkwX10_belongs_1 ++ dktX10_belongs_2
def dkwX10_belongs_0 : List UInt8 := [4, 61, 3, 62, 42, 180, 0, 143, 4, 100, 54, 4, 21, 4, 155, 0, 51, 28, 153, 0, 17, 42]
abbrev dktX10_belongs_0 : List UInt8 := dkwX10_belongs_0 ++ dktX10_belongs_1
theorem dksX10_belongs_0 : cX10_belongs.data.toList.drop 0 = dktX10_belongs_0 := by decide +kernel
theorem dksX10_belongs_1 : cX10_belongs.data.toList.drop 22 = dktX10_belongs_1 := dk_seg dksX10_belongs_0 22 rfl rfl
theorem dksX10_belongs_2 : cX10_belongs.data.toList.drop 44 = dktX10_belongs_2 := dk_seg dksX10_belongs_1 22 rfl rfl
theorem dksX10_belongs_3 : cX10_belongs.data.toList.drop 67 = dktX10_belongs_3 := dk_seg dksX10_belongs_2 23 rfl rfl
theorem dksX10_belongs_4 : cX10_belongs.data.toList.drop 90 = dktX10_belongs_4 := dk_seg dksX10_belongs_3 23 rfl rfl
theorem dksX10_belongs_5 : cX10_belongs.data.toList.drop 114 = dktX10_belongs_5 := dk_seg dksX10_belongs_4 24 rfl rfl
theorem dksX10_belongs_6 : cX10_belongs.data.toList.drop 136 = dktX10_belongs_6 := dk_seg dksX10_belongs_5 22 rfl rfl
theorem dksX10_belongs_7 : cX10_belongs.data.toList.drop 160 = dktX10_belongs_7 := dk_seg dksX10_belongs_6 24 rfl rfl
theorem dX10_belongs_0 : decode cX10_belongs 0 = .ok (.iconst 1, 1) := dk_4 (dk_at dksX10_belongs_0 0 rfl rfl)
theorem dX10_belongs_1 : decode cX10_belongs 1 = .ok (.istore_n 2, 1) := dk_61 (dk_at dksX10_belongs_0 1 rfl rfl)
theorem dX10_belongs_2 : decode cX10_belongs 2 = .ok (.iconst 0, 1) := dk_3 (dk_at dksX10_belongs_0 2 rfl rfl)
theorem dX10_belongs_3 : decode cX10_belongs 3 = .ok (.istore_n 3, 1) := dk_62 (dk_at dksX10_belongs_0 3 rfl rfl)
theorem dX10_belongs_4 : decode cX10_belongs 4 = .ok (.aload_n 0, 1) := dk_42 (dk_at dksX10_belongs_0 4 rfl rfl)
theorem dX10_belongs_5 : decode cX10_belongs 5 = .ok (.getfield 143, 3) := dk_180 0 143 (dk_at dksX10_belongs_0 5 rfl rfl)
theorem dX10_belongs_8 : decode cX10_belongs 8 = .ok (.iconst 1, 1) := dk_4 (dk_at dksX10_belongs_0 8 rfl rfl)
theorem dX10_belongs_9 : decode cX10_belongs 9 = .ok (.isub, 1) := dk_100 (dk_at dksX10_belongs_0 9 rfl rfl)
theorem dX10_belongs_10 : decode cX10_belongs 10 = .ok (.istore 4, 2) := dk_54 4 (dk_at dksX10_belongs_0 10 rfl rfl)
theorem dX10_belongs_12 : decode cX10_belongs 12 = .ok (.iload 4, 2) := dk_21 4 (dk_at dksX10_belongs_0 12 rfl rfl)
theorem dX10_belongs_14 : decode cX10_belongs 14 = .ok (.ifCond .lt 51, 3) := dk_155 0 51 (dk_at dksX10_belongs_0 14 rfl rfl)
theorem dX10_belongs_17 : decode cX10_belongs 17 = .ok (.iload_n 2, 1) := dk_28 (dk_at dksX10_belongs_0 17 rfl rfl)
theorem dX10_belongs_18 : decode cX10_belongs 18 = .ok (.ifCond .eq 17, 3) := dk_153 0 17 (dk_at dksX10_belongs_0 18 rfl rfl)
theorem dX10_belongs_21 : decode cX10_belongs 21 = .ok (.aload_n 0, 1) := dk_42 (dk_at dksX10_belongs_0 21 rfl rfl)
theorem dX10_belongs_22 : decode cX10_belongs 22 = .ok (.getfield 78, 3) := dk_180 0 78 (dk_at dksX10_belongs_1 0 rfl rfl)
theorem dX10_belongs_25 : decode cX10_belongs 25 = .ok (.iload 4, 2) := dk_21 4 (dk_at dksX10_belongs_1 3 rfl rfl)
theorem dX10_belongs_27 : decode cX10_belongs 27 = .ok (.iaload, 1) := dk_46 (dk_at dksX10_belongs_1 5 rfl rfl)
theorem dX10_belongs_28 : decode cX10_belongs 28 = .ok (.ifCond .ne 7, 3) := dk_154 0 7 (dk_at dksX10_belongs_1 6 rfl rfl)
theorem dX10_belongs_31 : decode cX10_belongs 31 = .ok (.iconst 1, 1) := dk_4 (dk_at dksX10_belongs_1 9 rfl rfl)
theorem dX10_belongs_32 : decode cX10_belongs 32 = .ok (.goto 4, 3) := dk_167 0 4 (dk_at dksX10_belongs_1 10 rfl rfl)
theorem dX10_belongs_35 : decode cX10_belongs 35 = .ok (.iconst 0, 1) := dk_3 (dk_at dksX10_belongs_1 13 rfl rfl)
theorem dX10_belongs_36 : decode cX10_belongs 36 = .ok (.istore_n 2, 1) := dk_61 (dk_at dksX10_belongs_1 14 rfl rfl)
theorem dX10_belongs_37 : decode cX10_belongs 37 = .ok (.aload_n 0, 1) := dk_42 (dk_at dksX10_belongs_1 15 rfl rfl)
theorem dX10_belongs_38 : decode cX10_belongs 38 = .ok (.getfield 78, 3) := dk_180 0 78 (dk_at dksX10_belongs_1 16 rfl rfl)
theorem dX10_belongs_41 : decode cX10_belongs 41 = .ok (.iload 4, 2) := dk_21 4 (dk_at dksX10_belongs_1 19 rfl rfl)
theorem dX10_belongs_43 : decode cX10_belongs 43 = .ok (.iaload, 1) := dk_46 (dk_at dksX10_belongs_1 21 rfl rfl)
theorem dX10_belongs_44 : decode cX10_belongs 44 = .ok (.ifCond .eq 13, 3) := dk_153 0 13 (dk_at dksX10_belongs_2 0 rfl rfl)
theorem dX10_belongs_47 : decode cX10_belongs 47 = .ok (.aload_n 0, 1) := dk_42 (dk_at dksX10_belongs_2 3 rfl rfl)
theorem dX10_belongs_48 : decode cX10_belongs 48 = .ok (.getfield 78, 3) := dk_180 0 78 (dk_at dksX10_belongs_2 4 rfl rfl)
theorem dX10_belongs_51 : decode cX10_belongs 51 = .ok (.iload 4, 2) := dk_21 4 (dk_at dksX10_belongs_2 7 rfl rfl)
theorem dX10_belongs_53 : decode cX10_belongs 53 = .ok (.iaload, 1) := dk_46 (dk_at dksX10_belongs_2 9 rfl rfl)
theorem dX10_belongs_54 : decode cX10_belongs 54 = .ok (.goto 4, 3) := dk_167 0 4 (dk_at dksX10_belongs_2 10 rfl rfl)
theorem dX10_belongs_57 : decode cX10_belongs 57 = .ok (.iload_n 3, 1) := dk_29 (dk_at dksX10_belongs_2 13 rfl rfl)
theorem dX10_belongs_58 : decode cX10_belongs 58 = .ok (.istore_n 3, 1) := dk_62 (dk_at dksX10_belongs_2 14 rfl rfl)
theorem dX10_belongs_59 : decode cX10_belongs 59 = .ok (.iinc 4 (-1), 3) := dk_132 4 255 (dk_at dksX10_belongs_2 15 rfl rfl)
theorem dX10_belongs_62 : decode cX10_belongs 62 = .ok (.goto (-50), 3) := dk_167 255 206 (dk_at dksX10_belongs_2 18 rfl rfl)
theorem dX10_belongs_65 : decode cX10_belongs 65 = .ok (.iload_n 1, 1) := dk_27 (dk_at dksX10_belongs_2 21 rfl rfl)
theorem dX10_belongs_66 : decode cX10_belongs 66 = .ok (.iconst 1, 1) := dk_4 (dk_at dksX10_belongs_2 22 rfl rfl)
theorem dX10_belongs_67 : decode cX10_belongs 67 = .ok (.if_icmp .eq 7, 3) := dk_159 0 7 (dk_at dksX10_belongs_3 0 rfl rfl)
theorem dX10_belongs_70 : decode cX10_belongs 70 = .ok (.iload_n 2, 1) := dk_28 (dk_at dksX10_belongs_3 3 rfl rfl)
theorem dX10_belongs_71 : decode cX10_belongs 71 = .ok (.ifCond .ne 33, 3) := dk_154 0 33 (dk_at dksX10_belongs_3 4 rfl rfl)
theorem dX10_belongs_74 : decode cX10_belongs 74 = .ok (.iload_n 1, 1) := dk_27 (dk_at dksX10_belongs_3 7 rfl rfl)
theorem dX10_belongs_75 : decode cX10_belongs 75 = .ok (.iconst 2, 1) := dk_5 (dk_at dksX10_belongs_3 8 rfl rfl)
theorem dX10_belongs_76 : decode cX10_belongs 76 = .ok (.if_icmp .ne 7, 3) := dk_160 0 7 (dk_at dksX10_belongs_3 9 rfl rfl)
theorem dX10_belongs_79 : decode cX10_belongs 79 = .ok (.iload_n 3, 1) := dk_29 (dk_at dksX10_belongs_3 12 rfl rfl)
theorem dX10_belongs_80 : decode cX10_belongs 80 = .ok (.ifCond .lt 24, 3) := dk_155 0 24 (dk_at dksX10_belongs_3 13 rfl rfl)
theorem dX10_belongs_83 : decode cX10_belongs 83 = .ok (.aload_n 0, 1) := dk_42 (dk_at dksX10_belongs_3 16 rfl rfl)
theorem dX10_belongs_84 : decode cX10_belongs 84 = .ok (.aload_n 0, 1) := dk_42 (dk_at dksX10_belongs_3 17 rfl rfl)
theorem dX10_belongs_85 : decode cX10_belongs 85 = .ok (.getfield 78, 3) := dk_180 0 78 (dk_at dksX10_belongs_3 18 rfl rfl)
theorem dX10_belongs_88 : decode cX10_belongs 88 = .ok (.iload_n 1, 1) := dk_27 (dk_at dksX10_belongs_3 21 rfl rfl)
theorem dX10_belongs_89 : decode cX10_belongs 89 = .ok (.iconst 1, 1) := dk_4 (dk_at dksX10_belongs_3 22 rfl rfl)
theorem dX10_belongs_90 : decode cX10_belongs 90 = .ok (.if_icmp .ne 7, 3) := dk_160 0 7 (dk_at dksX10_belongs_4 0 rfl rfl)
theorem dX10_belongs_93 : decode cX10_belongs 93 = .ok (.iconst 1, 1) := dk_4 (dk_at dksX10_belongs_4 3 rfl rfl)
theorem dX10_belongs_94 : decode cX10_belongs 94 = .ok (.goto 4, 3) := dk_167 0 4 (dk_at dksX10_belongs_4 4 rfl rfl)
theorem dX10_belongs_97 : decode cX10_belongs 97 = .ok (.iconst 0, 1) := dk_3 (dk_at dksX10_belongs_4 7 rfl rfl)
theorem dX10_belongs_98 : decode cX10_belongs 98 = .ok (.invokevirtual 198, 3) := dk_182 0 198 (dk_at dksX10_belongs_4 8 rfl rfl)
theorem dX10_belongs_101 : decode cX10_belongs 101 = .ok (.ifCond .ne 5, 3) := dk_154 0 5 (dk_at dksX10_belongs_4 11 rfl rfl)
theorem dX10_belongs_104 : decode cX10_belongs 104 = .ok (.iconst 0, 1) := dk_3 (dk_at dksX10_belongs_4 14 rfl rfl)
theorem dX10_belongs_105 : decode cX10_belongs 105 = .ok (.ireturn, 1) := dk_172 (dk_at dksX10_belongs_4 15 rfl rfl)
theorem dX10_belongs_106 : decode cX10_belongs 106 = .ok (.iconst 1, 1) := dk_4 (dk_at dksX10_belongs_4 16 rfl rfl)
theorem dX10_belongs_107 : decode cX10_belongs 107 = .ok (.istore 4, 2) := dk_54 4 (dk_at dksX10_belongs_4 17 rfl rfl)
theorem dX10_belongs_109 : decode cX10_belongs 109 = .ok (.iconst 0, 1) := dk_3 (dk_at dksX10_belongs_4 19 rfl rfl)
theorem dX10_belongs_110 : decode cX10_belongs 110 = .ok (.istore 5, 2) := dk_54 5 (dk_at dksX10_belongs_4 20 rfl rfl)
theorem dX10_belongs_112 : decode cX10_belongs 112 = .ok (.iload 5, 2) := dk_21 5 (dk_at dksX10_belongs_4 22 rfl rfl)
theorem dX10_belongs_114 : decode cX10_belongs 114 = .ok (.aload_n 0, 1) := dk_42 (dk_at dksX10_belongs_5 0 rfl rfl)
theorem dX10_belongs_115 : decode cX10_belongs 115 = .ok (.getfield 48, 3) := dk_180 0 48 (dk_at dksX10_belongs_5 1 rfl rfl)
theorem dX10_belongs_118 : decode cX10_belongs 118 = .ok (.iload_n 1, 1) := dk_27 (dk_at dksX10_belongs_5 4 rfl rfl)
theorem dX10_belongs_119 : decode cX10_belongs 119 = .ok (.iaload, 1) := dk_46 (dk_at dksX10_belongs_5 5 rfl rfl)
theorem dX10_belongs_120 : decode cX10_belongs 120 = .ok (.if_icmp .ge 48, 3) := dk_162 0 48 (dk_at dksX10_belongs_5 6 rfl rfl)
theorem dX10_belongs_123 : decode cX10_belongs 123 = .ok (.iload 4, 2) := dk_21 4 (dk_at dksX10_belongs_5 9 rfl rfl)
theorem dX10_belongs_125 : decode cX10_belongs 125 = .ok (.ifCond .eq 43, 3) := dk_153 0 43 (dk_at dksX10_belongs_5 11 rfl rfl)
theorem dX10_belongs_128 : decode cX10_belongs 128 = .ok (.aload_n 0, 1) := dk_42 (dk_at dksX10_belongs_5 14 rfl rfl)
theorem dX10_belongs_129 : decode cX10_belongs 129 = .ok (.iload_n 1, 1) := dk_27 (dk_at dksX10_belongs_5 15 rfl rfl)
theorem dX10_belongs_130 : decode cX10_belongs 130 = .ok (.iload 5, 2) := dk_21 5 (dk_at dksX10_belongs_5 16 rfl rfl)
theorem dX10_belongs_132 : decode cX10_belongs 132 = .ok (.iconst 1, 1) := dk_4 (dk_at dksX10_belongs_5 18 rfl rfl)
theorem dX10_belongs_133 : decode cX10_belongs 133 = .ok (.invokevirtual 202, 3) := dk_182 0 202 (dk_at dksX10_belongs_5 19 rfl rfl)
theorem dX10_belongs_136 : decode cX10_belongs 136 = .ok (.ifCond .ne 23, 3) := dk_154 0 23 (dk_at dksX10_belongs_6 0 rfl rfl)
theorem dX10_belongs_139 : decode cX10_belongs 139 = .ok (.iload_n 1, 1) := dk_27 (dk_at dksX10_belongs_6 3 rfl rfl)
theorem dX10_belongs_140 : decode cX10_belongs 140 = .ok (.iconst 2, 1) := dk_5 (dk_at dksX10_belongs_6 4 rfl rfl)
theorem dX10_belongs_141 : decode cX10_belongs 141 = .ok (.if_icmp .lt 14, 3) := dk_161 0 14 (dk_at dksX10_belongs_6 5 rfl rfl)
theorem dX10_belongs_144 : decode cX10_belongs 144 = .ok (.aload_n 0, 1) := dk_42 (dk_at dksX10_belongs_6 8 rfl rfl)
theorem dX10_belongs_145 : decode cX10_belongs 145 = .ok (.iload_n 1, 1) := dk_27 (dk_at dksX10_belongs_6 9 rfl rfl)
theorem dX10_belongs_146 : decode cX10_belongs 146 = .ok (.iload 5, 2) := dk_21 5 (dk_at dksX10_belongs_6 10 rfl rfl)
theorem dX10_belongs_148 : decode cX10_belongs 148 = .ok (.iconst (-1), 1) := dk_2 (dk_at dksX10_belongs_6 12 rfl rfl)
theorem dX10_belongs_149 : decode cX10_belongs 149 = .ok (.invokevirtual 202, 3) := dk_182 0 202 (dk_at dksX10_belongs_6 13 rfl rfl)
theorem dX10_belongs_152 : decode cX10_belongs 152 = .ok (.ifCond .ne 7, 3) := dk_154 0 7 (dk_at dksX10_belongs_6 16 rfl rfl)
theorem dX10_belongs_155 : decode cX10_belongs 155 = .ok (.iconst 1, 1) := dk_4 (dk_at dksX10_belongs_6 19 rfl rfl)
theorem dX10_belongs_156 : decode cX10_belongs 156 = .ok (.goto 4, 3) := dk_167 0 4 (dk_at dksX10_belongs_6 20 rfl rfl)
theorem dX10_belongs_159 : decode cX10_belongs 159 = .ok (.iconst 0, 1) := dk_3 (dk_at dksX10_belongs_6 23 rfl rfl)
theorem dX10_belongs_160 : decode cX10_belongs 160 = .ok (.istore 4, 2) := dk_54 4 (dk_at dksX10_belongs_7 0 rfl rfl)
theorem dX10_belongs_162 : decode cX10_belongs 162 = .ok (.iinc 5 1, 3) := dk_132 5 1 (dk_at dksX10_belongs_7 2 rfl rfl)
theorem dX10_belongs_165 : decode cX10_belongs 165 = .ok (.goto (-53), 3) := dk_167 255 203 (dk_at dksX10_belongs_7 5 rfl rfl)
theorem dX10_belongs_168 : decode cX10_belongs 168 = .ok (.iload 4, 2) := dk_21 4 (dk_at dksX10_belongs_7 8 rfl rfl)
theorem dX10_belongs_170 : decode cX10_belongs 170 = .ok (.ireturn, 1) := dk_172 (dk_at dksX10_belongs_7 10 rfl rfl)
abbrev cX10_solves : ByteArray := prog_14_method_31_code
def yX10_solves : MethodName := ⟨RX10, "solves", "([IZ)Z"⟩
def dkwX10_solves_4 : List UInt8 := [132, 4, 1, 167, 255, 162, 29, 172]
abbrev dktX10_solves_4 : List UInt8 := dkwX10_solves_4 ++ []
def dkwX10_solves_3 : List UInt8 := [16, 7, 21, 4, 104, 42, 180, 0, 143, 96, 46, 167, 0, 4, 3, 160, 0, 7, 4, 167, 0, 4, 3, 62]
abbrev dktX10_solves_3 : List UInt8 := dkwX10_solves_3 ++ dktX10_solves_4
def dkwX10_solves_2 : List UInt8 := [43, 21, 6, 46, 104, 96, 54, 5, 132, 6, 1, 167, 255, 221, 21, 5, 28, 153, 0, 21, 42, 180, 0, 38]
abbrev dktX10_solves_2 : List UInt8 := dkwX10_solves_2 ++ dktX10_solves_3
def dkwX10_solves_1 : List UInt8 := [21, 6, 42, 180, 0, 143, 162, 0, 32, 21, 5, 42, 180, 0, 38, 16, 7, 21, 4, 104, 21, 6, 96, 46]
abbrev dktX10_solves_1 : List UInt8 := dkwX10_solves_1 ++ dktX10_solves_2
def dkwX10_solves_0 : List UInt8 := [4, 62, 3, 54, 4, 21, 4, 42, 180, 0, 137, 162, 0, 91, 29, 153, 0, 87, 3, 54, 5, 3, 54, 6]
abbrev dktX10_solves_0 : List UInt8 := dkwX10_solves_0 ++ dktX10_solves_1
theorem dksX10_solves_0 : cX10_solves.data.toList.drop 0 = dktX10_solves_0 := by decide +kernel
theorem dksX10_solves_1 : cX10_solves.data.toList.drop 24 = dktX10_solves_1 := dk_seg dksX10_solves_0 24 rfl rfl
theorem dksX10_solves_2 : cX10_solves.data.toList.drop 48 = dktX10_solves_2 := dk_seg dksX10_solves_1 24 rfl rfl
theorem dksX10_solves_3 : cX10_solves.data.toList.drop 72 = dktX10_solves_3 := dk_seg dksX10_solves_2 24 rfl rfl
theorem dksX10_solves_4 : cX10_solves.data.toList.drop 96 = dktX10_solves_4 := dk_seg dksX10_solves_3 24 rfl rfl
theorem dX10_solves_0 : decode cX10_solves 0 = .ok (.iconst 1, 1) := dk_4 (dk_at dksX10_solves_0 0 rfl rfl)
theorem dX10_solves_1 : decode cX10_solves 1 = .ok (.istore_n 3, 1) := dk_62 (dk_at dksX10_solves_0 1 rfl rfl)
theorem dX10_solves_2 : decode cX10_solves 2 = .ok (.iconst 0, 1) := dk_3 (dk_at dksX10_solves_0 2 rfl rfl)
theorem dX10_solves_3 : decode cX10_solves 3 = .ok (.istore 4, 2) := dk_54 4 (dk_at dksX10_solves_0 3 rfl rfl)
theorem dX10_solves_5 : decode cX10_solves 5 = .ok (.iload 4, 2) := dk_21 4 (dk_at dksX10_solves_0 5 rfl rfl)
theorem dX10_solves_7 : decode cX10_solves 7 = .ok (.aload_n 0, 1) := dk_42 (dk_at dksX10_solves_0 7 rfl rfl)
theorem dX10_solves_8 : decode cX10_solves 8 = .ok (.getfield 137, 3) := dk_180 0 137 (dk_at dksX10_solves_0 8 rfl rfl)
theorem dX10_solves_11 : decode cX10_solves 11 = .ok (.if_icmp .ge 91, 3) := dk_162 0 91 (dk_at dksX10_solves_0 11 rfl rfl)
theorem dX10_solves_14 : decode cX10_solves 14 = .ok (.iload_n 3, 1) := dk_29 (dk_at dksX10_solves_0 14 rfl rfl)
theorem dX10_solves_15 : decode cX10_solves 15 = .ok (.ifCond .eq 87, 3) := dk_153 0 87 (dk_at dksX10_solves_0 15 rfl rfl)
theorem dX10_solves_18 : decode cX10_solves 18 = .ok (.iconst 0, 1) := dk_3 (dk_at dksX10_solves_0 18 rfl rfl)
theorem dX10_solves_19 : decode cX10_solves 19 = .ok (.istore 5, 2) := dk_54 5 (dk_at dksX10_solves_0 19 rfl rfl)
theorem dX10_solves_21 : decode cX10_solves 21 = .ok (.iconst 0, 1) := dk_3 (dk_at dksX10_solves_0 21 rfl rfl)
theorem dX10_solves_22 : decode cX10_solves 22 = .ok (.istore 6, 2) := dk_54 6 (dk_at dksX10_solves_0 22 rfl rfl)
theorem dX10_solves_24 : decode cX10_solves 24 = .ok (.iload 6, 2) := dk_21 6 (dk_at dksX10_solves_1 0 rfl rfl)
theorem dX10_solves_26 : decode cX10_solves 26 = .ok (.aload_n 0, 1) := dk_42 (dk_at dksX10_solves_1 2 rfl rfl)
theorem dX10_solves_27 : decode cX10_solves 27 = .ok (.getfield 143, 3) := dk_180 0 143 (dk_at dksX10_solves_1 3 rfl rfl)
theorem dX10_solves_30 : decode cX10_solves 30 = .ok (.if_icmp .ge 32, 3) := dk_162 0 32 (dk_at dksX10_solves_1 6 rfl rfl)
theorem dX10_solves_33 : decode cX10_solves 33 = .ok (.iload 5, 2) := dk_21 5 (dk_at dksX10_solves_1 9 rfl rfl)
theorem dX10_solves_35 : decode cX10_solves 35 = .ok (.aload_n 0, 1) := dk_42 (dk_at dksX10_solves_1 11 rfl rfl)
theorem dX10_solves_36 : decode cX10_solves 36 = .ok (.getfield 38, 3) := dk_180 0 38 (dk_at dksX10_solves_1 12 rfl rfl)
theorem dX10_solves_39 : decode cX10_solves 39 = .ok (.bipush 7, 2) := dk_16 7 (dk_at dksX10_solves_1 15 rfl rfl)
theorem dX10_solves_41 : decode cX10_solves 41 = .ok (.iload 4, 2) := dk_21 4 (dk_at dksX10_solves_1 17 rfl rfl)
theorem dX10_solves_43 : decode cX10_solves 43 = .ok (.imul, 1) := dk_104 (dk_at dksX10_solves_1 19 rfl rfl)
theorem dX10_solves_44 : decode cX10_solves 44 = .ok (.iload 6, 2) := dk_21 6 (dk_at dksX10_solves_1 20 rfl rfl)
theorem dX10_solves_46 : decode cX10_solves 46 = .ok (.iadd, 1) := dk_96 (dk_at dksX10_solves_1 22 rfl rfl)
theorem dX10_solves_47 : decode cX10_solves 47 = .ok (.iaload, 1) := dk_46 (dk_at dksX10_solves_1 23 rfl rfl)
theorem dX10_solves_48 : decode cX10_solves 48 = .ok (.aload_n 1, 1) := dk_43 (dk_at dksX10_solves_2 0 rfl rfl)
theorem dX10_solves_49 : decode cX10_solves 49 = .ok (.iload 6, 2) := dk_21 6 (dk_at dksX10_solves_2 1 rfl rfl)
theorem dX10_solves_51 : decode cX10_solves 51 = .ok (.iaload, 1) := dk_46 (dk_at dksX10_solves_2 3 rfl rfl)
theorem dX10_solves_52 : decode cX10_solves 52 = .ok (.imul, 1) := dk_104 (dk_at dksX10_solves_2 4 rfl rfl)
theorem dX10_solves_53 : decode cX10_solves 53 = .ok (.iadd, 1) := dk_96 (dk_at dksX10_solves_2 5 rfl rfl)
theorem dX10_solves_54 : decode cX10_solves 54 = .ok (.istore 5, 2) := dk_54 5 (dk_at dksX10_solves_2 6 rfl rfl)
theorem dX10_solves_56 : decode cX10_solves 56 = .ok (.iinc 6 1, 3) := dk_132 6 1 (dk_at dksX10_solves_2 8 rfl rfl)
theorem dX10_solves_59 : decode cX10_solves 59 = .ok (.goto (-35), 3) := dk_167 255 221 (dk_at dksX10_solves_2 11 rfl rfl)
theorem dX10_solves_62 : decode cX10_solves 62 = .ok (.iload 5, 2) := dk_21 5 (dk_at dksX10_solves_2 14 rfl rfl)
theorem dX10_solves_64 : decode cX10_solves 64 = .ok (.iload_n 2, 1) := dk_28 (dk_at dksX10_solves_2 16 rfl rfl)
theorem dX10_solves_65 : decode cX10_solves 65 = .ok (.ifCond .eq 21, 3) := dk_153 0 21 (dk_at dksX10_solves_2 17 rfl rfl)
theorem dX10_solves_68 : decode cX10_solves 68 = .ok (.aload_n 0, 1) := dk_42 (dk_at dksX10_solves_2 20 rfl rfl)
theorem dX10_solves_69 : decode cX10_solves 69 = .ok (.getfield 38, 3) := dk_180 0 38 (dk_at dksX10_solves_2 21 rfl rfl)
theorem dX10_solves_72 : decode cX10_solves 72 = .ok (.bipush 7, 2) := dk_16 7 (dk_at dksX10_solves_3 0 rfl rfl)
theorem dX10_solves_74 : decode cX10_solves 74 = .ok (.iload 4, 2) := dk_21 4 (dk_at dksX10_solves_3 2 rfl rfl)
theorem dX10_solves_76 : decode cX10_solves 76 = .ok (.imul, 1) := dk_104 (dk_at dksX10_solves_3 4 rfl rfl)
theorem dX10_solves_77 : decode cX10_solves 77 = .ok (.aload_n 0, 1) := dk_42 (dk_at dksX10_solves_3 5 rfl rfl)
theorem dX10_solves_78 : decode cX10_solves 78 = .ok (.getfield 143, 3) := dk_180 0 143 (dk_at dksX10_solves_3 6 rfl rfl)
theorem dX10_solves_81 : decode cX10_solves 81 = .ok (.iadd, 1) := dk_96 (dk_at dksX10_solves_3 9 rfl rfl)
theorem dX10_solves_82 : decode cX10_solves 82 = .ok (.iaload, 1) := dk_46 (dk_at dksX10_solves_3 10 rfl rfl)
theorem dX10_solves_83 : decode cX10_solves 83 = .ok (.goto 4, 3) := dk_167 0 4 (dk_at dksX10_solves_3 11 rfl rfl)
theorem dX10_solves_86 : decode cX10_solves 86 = .ok (.iconst 0, 1) := dk_3 (dk_at dksX10_solves_3 14 rfl rfl)
theorem dX10_solves_87 : decode cX10_solves 87 = .ok (.if_icmp .ne 7, 3) := dk_160 0 7 (dk_at dksX10_solves_3 15 rfl rfl)
theorem dX10_solves_90 : decode cX10_solves 90 = .ok (.iconst 1, 1) := dk_4 (dk_at dksX10_solves_3 18 rfl rfl)
theorem dX10_solves_91 : decode cX10_solves 91 = .ok (.goto 4, 3) := dk_167 0 4 (dk_at dksX10_solves_3 19 rfl rfl)
theorem dX10_solves_94 : decode cX10_solves 94 = .ok (.iconst 0, 1) := dk_3 (dk_at dksX10_solves_3 22 rfl rfl)
theorem dX10_solves_95 : decode cX10_solves 95 = .ok (.istore_n 3, 1) := dk_62 (dk_at dksX10_solves_3 23 rfl rfl)
theorem dX10_solves_96 : decode cX10_solves 96 = .ok (.iinc 4 1, 3) := dk_132 4 1 (dk_at dksX10_solves_4 0 rfl rfl)
theorem dX10_solves_99 : decode cX10_solves 99 = .ok (.goto (-94), 3) := dk_167 255 162 (dk_at dksX10_solves_4 3 rfl rfl)
theorem dX10_solves_102 : decode cX10_solves 102 = .ok (.iload_n 3, 1) := dk_29 (dk_at dksX10_solves_4 6 rfl rfl)
theorem dX10_solves_103 : decode cX10_solves 103 = .ok (.ireturn, 1) := dk_172 (dk_at dksX10_solves_4 7 rfl rfl)
abbrev cX10_isBelow : ByteArray := prog_14_method_32_code
def yX10_isBelow : MethodName := ⟨RX10, "isBelow", "(III)Z"⟩
def dkwX10_isBelow_4 : List UInt8 := [4, 167, 0, 4, 3, 54, 4, 132, 5, 1, 167, 255, 158, 21, 4, 172]
abbrev dktX10_isBelow_4 : List UInt8 := dkwX10_isBelow_4 ++ []
def dkwX10_isBelow_3 : List UInt8 := [167, 0, 29, 3, 167, 0, 25, 21, 6, 157, 0, 19, 21, 6, 42, 180, 0, 78, 21, 5, 46, 161, 0, 7]
abbrev dktX10_isBelow_3 : List UInt8 := dkwX10_isBelow_3 ++ dktX10_isBelow_4
def dkwX10_isBelow_2 : List UInt8 := [21, 5, 46, 155, 0, 28, 21, 6, 155, 0, 19, 21, 6, 42, 180, 0, 78, 21, 5, 46, 163, 0, 7, 4]
abbrev dktX10_isBelow_2 : List UInt8 := dkwX10_isBelow_2 ++ dktX10_isBelow_3
def dkwX10_isBelow_1 : List UInt8 := [180, 0, 52, 17, 46, 224, 27, 104, 16, 6, 28, 104, 96, 21, 5, 96, 51, 104, 54, 6, 42, 180, 0, 78]
abbrev dktX10_isBelow_1 : List UInt8 := dkwX10_isBelow_1 ++ dktX10_isBelow_2
def dkwX10_isBelow_0 : List UInt8 := [4, 54, 4, 3, 54, 5, 21, 5, 42, 180, 0, 143, 162, 0, 95, 21, 4, 153, 0, 90, 29, 42]
abbrev dktX10_isBelow_0 : List UInt8 := dkwX10_isBelow_0 ++ dktX10_isBelow_1
theorem dksX10_isBelow_0 : cX10_isBelow.data.toList.drop 0 = dktX10_isBelow_0 := by decide +kernel
theorem dksX10_isBelow_1 : cX10_isBelow.data.toList.drop 22 = dktX10_isBelow_1 := dk_seg dksX10_isBelow_0 22 rfl rfl
theorem dksX10_isBelow_2 : cX10_isBelow.data.toList.drop 46 = dktX10_isBelow_2 := dk_seg dksX10_isBelow_1 24 rfl rfl
theorem dksX10_isBelow_3 : cX10_isBelow.data.toList.drop 70 = dktX10_isBelow_3 := dk_seg dksX10_isBelow_2 24 rfl rfl
theorem dksX10_isBelow_4 : cX10_isBelow.data.toList.drop 94 = dktX10_isBelow_4 := dk_seg dksX10_isBelow_3 24 rfl rfl
theorem dX10_isBelow_0 : decode cX10_isBelow 0 = .ok (.iconst 1, 1) := dk_4 (dk_at dksX10_isBelow_0 0 rfl rfl)
theorem dX10_isBelow_1 : decode cX10_isBelow 1 = .ok (.istore 4, 2) := dk_54 4 (dk_at dksX10_isBelow_0 1 rfl rfl)
theorem dX10_isBelow_3 : decode cX10_isBelow 3 = .ok (.iconst 0, 1) := dk_3 (dk_at dksX10_isBelow_0 3 rfl rfl)
theorem dX10_isBelow_4 : decode cX10_isBelow 4 = .ok (.istore 5, 2) := dk_54 5 (dk_at dksX10_isBelow_0 4 rfl rfl)
theorem dX10_isBelow_6 : decode cX10_isBelow 6 = .ok (.iload 5, 2) := dk_21 5 (dk_at dksX10_isBelow_0 6 rfl rfl)
theorem dX10_isBelow_8 : decode cX10_isBelow 8 = .ok (.aload_n 0, 1) := dk_42 (dk_at dksX10_isBelow_0 8 rfl rfl)
theorem dX10_isBelow_9 : decode cX10_isBelow 9 = .ok (.getfield 143, 3) := dk_180 0 143 (dk_at dksX10_isBelow_0 9 rfl rfl)
theorem dX10_isBelow_12 : decode cX10_isBelow 12 = .ok (.if_icmp .ge 95, 3) := dk_162 0 95 (dk_at dksX10_isBelow_0 12 rfl rfl)
theorem dX10_isBelow_15 : decode cX10_isBelow 15 = .ok (.iload 4, 2) := dk_21 4 (dk_at dksX10_isBelow_0 15 rfl rfl)
theorem dX10_isBelow_17 : decode cX10_isBelow 17 = .ok (.ifCond .eq 90, 3) := dk_153 0 90 (dk_at dksX10_isBelow_0 17 rfl rfl)
theorem dX10_isBelow_20 : decode cX10_isBelow 20 = .ok (.iload_n 3, 1) := dk_29 (dk_at dksX10_isBelow_0 20 rfl rfl)
theorem dX10_isBelow_21 : decode cX10_isBelow 21 = .ok (.aload_n 0, 1) := dk_42 (dk_at dksX10_isBelow_0 21 rfl rfl)
theorem dX10_isBelow_22 : decode cX10_isBelow 22 = .ok (.getfield 52, 3) := dk_180 0 52 (dk_at dksX10_isBelow_1 0 rfl rfl)
theorem dX10_isBelow_25 : decode cX10_isBelow 25 = .ok (.sipush 12000, 3) := dk_17 46 224 (dk_at dksX10_isBelow_1 3 rfl rfl)
theorem dX10_isBelow_28 : decode cX10_isBelow 28 = .ok (.iload_n 1, 1) := dk_27 (dk_at dksX10_isBelow_1 6 rfl rfl)
theorem dX10_isBelow_29 : decode cX10_isBelow 29 = .ok (.imul, 1) := dk_104 (dk_at dksX10_isBelow_1 7 rfl rfl)
theorem dX10_isBelow_30 : decode cX10_isBelow 30 = .ok (.bipush 6, 2) := dk_16 6 (dk_at dksX10_isBelow_1 8 rfl rfl)
theorem dX10_isBelow_32 : decode cX10_isBelow 32 = .ok (.iload_n 2, 1) := dk_28 (dk_at dksX10_isBelow_1 10 rfl rfl)
theorem dX10_isBelow_33 : decode cX10_isBelow 33 = .ok (.imul, 1) := dk_104 (dk_at dksX10_isBelow_1 11 rfl rfl)
theorem dX10_isBelow_34 : decode cX10_isBelow 34 = .ok (.iadd, 1) := dk_96 (dk_at dksX10_isBelow_1 12 rfl rfl)
theorem dX10_isBelow_35 : decode cX10_isBelow 35 = .ok (.iload 5, 2) := dk_21 5 (dk_at dksX10_isBelow_1 13 rfl rfl)
theorem dX10_isBelow_37 : decode cX10_isBelow 37 = .ok (.iadd, 1) := dk_96 (dk_at dksX10_isBelow_1 15 rfl rfl)
theorem dX10_isBelow_38 : decode cX10_isBelow 38 = .ok (.baload, 1) := dk_51 (dk_at dksX10_isBelow_1 16 rfl rfl)
theorem dX10_isBelow_39 : decode cX10_isBelow 39 = .ok (.imul, 1) := dk_104 (dk_at dksX10_isBelow_1 17 rfl rfl)
theorem dX10_isBelow_40 : decode cX10_isBelow 40 = .ok (.istore 6, 2) := dk_54 6 (dk_at dksX10_isBelow_1 18 rfl rfl)
theorem dX10_isBelow_42 : decode cX10_isBelow 42 = .ok (.aload_n 0, 1) := dk_42 (dk_at dksX10_isBelow_1 20 rfl rfl)
theorem dX10_isBelow_43 : decode cX10_isBelow 43 = .ok (.getfield 78, 3) := dk_180 0 78 (dk_at dksX10_isBelow_1 21 rfl rfl)
theorem dX10_isBelow_46 : decode cX10_isBelow 46 = .ok (.iload 5, 2) := dk_21 5 (dk_at dksX10_isBelow_2 0 rfl rfl)
theorem dX10_isBelow_48 : decode cX10_isBelow 48 = .ok (.iaload, 1) := dk_46 (dk_at dksX10_isBelow_2 2 rfl rfl)
theorem dX10_isBelow_49 : decode cX10_isBelow 49 = .ok (.ifCond .lt 28, 3) := dk_155 0 28 (dk_at dksX10_isBelow_2 3 rfl rfl)
theorem dX10_isBelow_52 : decode cX10_isBelow 52 = .ok (.iload 6, 2) := dk_21 6 (dk_at dksX10_isBelow_2 6 rfl rfl)
theorem dX10_isBelow_54 : decode cX10_isBelow 54 = .ok (.ifCond .lt 19, 3) := dk_155 0 19 (dk_at dksX10_isBelow_2 8 rfl rfl)
theorem dX10_isBelow_57 : decode cX10_isBelow 57 = .ok (.iload 6, 2) := dk_21 6 (dk_at dksX10_isBelow_2 11 rfl rfl)
theorem dX10_isBelow_59 : decode cX10_isBelow 59 = .ok (.aload_n 0, 1) := dk_42 (dk_at dksX10_isBelow_2 13 rfl rfl)
theorem dX10_isBelow_60 : decode cX10_isBelow 60 = .ok (.getfield 78, 3) := dk_180 0 78 (dk_at dksX10_isBelow_2 14 rfl rfl)
theorem dX10_isBelow_63 : decode cX10_isBelow 63 = .ok (.iload 5, 2) := dk_21 5 (dk_at dksX10_isBelow_2 17 rfl rfl)
theorem dX10_isBelow_65 : decode cX10_isBelow 65 = .ok (.iaload, 1) := dk_46 (dk_at dksX10_isBelow_2 19 rfl rfl)
theorem dX10_isBelow_66 : decode cX10_isBelow 66 = .ok (.if_icmp .gt 7, 3) := dk_163 0 7 (dk_at dksX10_isBelow_2 20 rfl rfl)
theorem dX10_isBelow_69 : decode cX10_isBelow 69 = .ok (.iconst 1, 1) := dk_4 (dk_at dksX10_isBelow_2 23 rfl rfl)
theorem dX10_isBelow_70 : decode cX10_isBelow 70 = .ok (.goto 29, 3) := dk_167 0 29 (dk_at dksX10_isBelow_3 0 rfl rfl)
theorem dX10_isBelow_73 : decode cX10_isBelow 73 = .ok (.iconst 0, 1) := dk_3 (dk_at dksX10_isBelow_3 3 rfl rfl)
theorem dX10_isBelow_74 : decode cX10_isBelow 74 = .ok (.goto 25, 3) := dk_167 0 25 (dk_at dksX10_isBelow_3 4 rfl rfl)
theorem dX10_isBelow_77 : decode cX10_isBelow 77 = .ok (.iload 6, 2) := dk_21 6 (dk_at dksX10_isBelow_3 7 rfl rfl)
theorem dX10_isBelow_79 : decode cX10_isBelow 79 = .ok (.ifCond .gt 19, 3) := dk_157 0 19 (dk_at dksX10_isBelow_3 9 rfl rfl)
theorem dX10_isBelow_82 : decode cX10_isBelow 82 = .ok (.iload 6, 2) := dk_21 6 (dk_at dksX10_isBelow_3 12 rfl rfl)
theorem dX10_isBelow_84 : decode cX10_isBelow 84 = .ok (.aload_n 0, 1) := dk_42 (dk_at dksX10_isBelow_3 14 rfl rfl)
theorem dX10_isBelow_85 : decode cX10_isBelow 85 = .ok (.getfield 78, 3) := dk_180 0 78 (dk_at dksX10_isBelow_3 15 rfl rfl)
theorem dX10_isBelow_88 : decode cX10_isBelow 88 = .ok (.iload 5, 2) := dk_21 5 (dk_at dksX10_isBelow_3 18 rfl rfl)
theorem dX10_isBelow_90 : decode cX10_isBelow 90 = .ok (.iaload, 1) := dk_46 (dk_at dksX10_isBelow_3 20 rfl rfl)
theorem dX10_isBelow_91 : decode cX10_isBelow 91 = .ok (.if_icmp .lt 7, 3) := dk_161 0 7 (dk_at dksX10_isBelow_3 21 rfl rfl)
theorem dX10_isBelow_94 : decode cX10_isBelow 94 = .ok (.iconst 1, 1) := dk_4 (dk_at dksX10_isBelow_4 0 rfl rfl)
theorem dX10_isBelow_95 : decode cX10_isBelow 95 = .ok (.goto 4, 3) := dk_167 0 4 (dk_at dksX10_isBelow_4 1 rfl rfl)
theorem dX10_isBelow_98 : decode cX10_isBelow 98 = .ok (.iconst 0, 1) := dk_3 (dk_at dksX10_isBelow_4 4 rfl rfl)
theorem dX10_isBelow_99 : decode cX10_isBelow 99 = .ok (.istore 4, 2) := dk_54 4 (dk_at dksX10_isBelow_4 5 rfl rfl)
theorem dX10_isBelow_101 : decode cX10_isBelow 101 = .ok (.iinc 5 1, 3) := dk_132 5 1 (dk_at dksX10_isBelow_4 7 rfl rfl)
theorem dX10_isBelow_104 : decode cX10_isBelow 104 = .ok (.goto (-98), 3) := dk_167 255 158 (dk_at dksX10_isBelow_4 10 rfl rfl)
theorem dX10_isBelow_107 : decode cX10_isBelow 107 = .ok (.iload 4, 2) := dk_21 4 (dk_at dksX10_isBelow_4 13 rfl rfl)
theorem dX10_isBelow_109 : decode cX10_isBelow 109 = .ok (.ireturn, 1) := dk_172 (dk_at dksX10_isBelow_4 15 rfl rfl)
abbrev cX10_put : ByteArray := prog_14_method_39_code
def yX10_put : MethodName := ⟨RX10, "put", "(I)V"⟩
def dkwX10_put_2 : List UInt8 := [180, 0, 48, 27, 42, 180, 0, 48, 27, 46, 4, 96, 79, 177]
abbrev dktX10_put_2 : List UInt8 := dkwX10_put_2 ++ []
def dkwX10_put_1 : List UInt8 := [180, 0, 48, 27, 46, 104, 96, 28, 96, 42, 180, 0, 78, 28, 46, 145, 84, 132, 2, 1, 167, 255, 216, 42]
abbrev dktX10_put_1 : List UInt8 := dkwX10_put_1 ++ dktX10_put_2
def dkwX10_put_0 : List UInt8 := [3, 61, 28, 42, 180, 0, 143, 162, 0, 38, 42, 180, 0, 52, 17, 46, 224, 27, 104, 16, 6, 42]
abbrev dktX10_put_0 : List UInt8 := dkwX10_put_0 ++ dktX10_put_1
theorem dksX10_put_0 : cX10_put.data.toList.drop 0 = dktX10_put_0 := by decide +kernel
theorem dksX10_put_1 : cX10_put.data.toList.drop 22 = dktX10_put_1 := dk_seg dksX10_put_0 22 rfl rfl
theorem dksX10_put_2 : cX10_put.data.toList.drop 46 = dktX10_put_2 := dk_seg dksX10_put_1 24 rfl rfl
theorem dX10_put_0 : decode cX10_put 0 = .ok (.iconst 0, 1) := dk_3 (dk_at dksX10_put_0 0 rfl rfl)
theorem dX10_put_1 : decode cX10_put 1 = .ok (.istore_n 2, 1) := dk_61 (dk_at dksX10_put_0 1 rfl rfl)
theorem dX10_put_2 : decode cX10_put 2 = .ok (.iload_n 2, 1) := dk_28 (dk_at dksX10_put_0 2 rfl rfl)
theorem dX10_put_3 : decode cX10_put 3 = .ok (.aload_n 0, 1) := dk_42 (dk_at dksX10_put_0 3 rfl rfl)
theorem dX10_put_4 : decode cX10_put 4 = .ok (.getfield 143, 3) := dk_180 0 143 (dk_at dksX10_put_0 4 rfl rfl)
theorem dX10_put_7 : decode cX10_put 7 = .ok (.if_icmp .ge 38, 3) := dk_162 0 38 (dk_at dksX10_put_0 7 rfl rfl)
theorem dX10_put_10 : decode cX10_put 10 = .ok (.aload_n 0, 1) := dk_42 (dk_at dksX10_put_0 10 rfl rfl)
theorem dX10_put_11 : decode cX10_put 11 = .ok (.getfield 52, 3) := dk_180 0 52 (dk_at dksX10_put_0 11 rfl rfl)
theorem dX10_put_14 : decode cX10_put 14 = .ok (.sipush 12000, 3) := dk_17 46 224 (dk_at dksX10_put_0 14 rfl rfl)
theorem dX10_put_17 : decode cX10_put 17 = .ok (.iload_n 1, 1) := dk_27 (dk_at dksX10_put_0 17 rfl rfl)
theorem dX10_put_18 : decode cX10_put 18 = .ok (.imul, 1) := dk_104 (dk_at dksX10_put_0 18 rfl rfl)
theorem dX10_put_19 : decode cX10_put 19 = .ok (.bipush 6, 2) := dk_16 6 (dk_at dksX10_put_0 19 rfl rfl)
theorem dX10_put_21 : decode cX10_put 21 = .ok (.aload_n 0, 1) := dk_42 (dk_at dksX10_put_0 21 rfl rfl)
theorem dX10_put_22 : decode cX10_put 22 = .ok (.getfield 48, 3) := dk_180 0 48 (dk_at dksX10_put_1 0 rfl rfl)
theorem dX10_put_25 : decode cX10_put 25 = .ok (.iload_n 1, 1) := dk_27 (dk_at dksX10_put_1 3 rfl rfl)
theorem dX10_put_26 : decode cX10_put 26 = .ok (.iaload, 1) := dk_46 (dk_at dksX10_put_1 4 rfl rfl)
theorem dX10_put_27 : decode cX10_put 27 = .ok (.imul, 1) := dk_104 (dk_at dksX10_put_1 5 rfl rfl)
theorem dX10_put_28 : decode cX10_put 28 = .ok (.iadd, 1) := dk_96 (dk_at dksX10_put_1 6 rfl rfl)
theorem dX10_put_29 : decode cX10_put 29 = .ok (.iload_n 2, 1) := dk_28 (dk_at dksX10_put_1 7 rfl rfl)
theorem dX10_put_30 : decode cX10_put 30 = .ok (.iadd, 1) := dk_96 (dk_at dksX10_put_1 8 rfl rfl)
theorem dX10_put_31 : decode cX10_put 31 = .ok (.aload_n 0, 1) := dk_42 (dk_at dksX10_put_1 9 rfl rfl)
theorem dX10_put_32 : decode cX10_put 32 = .ok (.getfield 78, 3) := dk_180 0 78 (dk_at dksX10_put_1 10 rfl rfl)
theorem dX10_put_35 : decode cX10_put 35 = .ok (.iload_n 2, 1) := dk_28 (dk_at dksX10_put_1 13 rfl rfl)
theorem dX10_put_36 : decode cX10_put 36 = .ok (.iaload, 1) := dk_46 (dk_at dksX10_put_1 14 rfl rfl)
theorem dX10_put_37 : decode cX10_put 37 = .ok (.i2b, 1) := dk_145 (dk_at dksX10_put_1 15 rfl rfl)
theorem dX10_put_38 : decode cX10_put 38 = .ok (.bastore, 1) := dk_84 (dk_at dksX10_put_1 16 rfl rfl)
theorem dX10_put_39 : decode cX10_put 39 = .ok (.iinc 2 1, 3) := dk_132 2 1 (dk_at dksX10_put_1 17 rfl rfl)
theorem dX10_put_42 : decode cX10_put 42 = .ok (.goto (-40), 3) := dk_167 255 216 (dk_at dksX10_put_1 20 rfl rfl)
theorem dX10_put_45 : decode cX10_put 45 = .ok (.aload_n 0, 1) := dk_42 (dk_at dksX10_put_1 23 rfl rfl)
theorem dX10_put_46 : decode cX10_put 46 = .ok (.getfield 48, 3) := dk_180 0 48 (dk_at dksX10_put_2 0 rfl rfl)
theorem dX10_put_49 : decode cX10_put 49 = .ok (.iload_n 1, 1) := dk_27 (dk_at dksX10_put_2 3 rfl rfl)
theorem dX10_put_50 : decode cX10_put 50 = .ok (.aload_n 0, 1) := dk_42 (dk_at dksX10_put_2 4 rfl rfl)
theorem dX10_put_51 : decode cX10_put 51 = .ok (.getfield 48, 3) := dk_180 0 48 (dk_at dksX10_put_2 5 rfl rfl)
theorem dX10_put_54 : decode cX10_put 54 = .ok (.iload_n 1, 1) := dk_27 (dk_at dksX10_put_2 8 rfl rfl)
theorem dX10_put_55 : decode cX10_put 55 = .ok (.iaload, 1) := dk_46 (dk_at dksX10_put_2 9 rfl rfl)
theorem dX10_put_56 : decode cX10_put 56 = .ok (.iconst 1, 1) := dk_4 (dk_at dksX10_put_2 10 rfl rfl)
theorem dX10_put_57 : decode cX10_put 57 = .ok (.iadd, 1) := dk_96 (dk_at dksX10_put_2 11 rfl rfl)
theorem dX10_put_58 : decode cX10_put 58 = .ok (.iastore, 1) := dk_79 (dk_at dksX10_put_2 12 rfl rfl)
theorem dX10_put_59 : decode cX10_put 59 = .ok (.return_, 1) := dk_177 (dk_at dksX10_put_2 13 rfl rfl)
abbrev cX10_next : ByteArray := prog_14_method_36_code
def yX10_next : MethodName := ⟨RX10, "next", "(Z)Z"⟩
def dkwX10_next_6 : List UInt8 := [167, 255, 123, 3, 172]
abbrev dktX10_next_6 : List UInt8 := dkwX10_next_6 ++ []
def dkwX10_next_5 : List UInt8 := [21, 6, 79, 42, 29, 4, 96, 21, 5, 21, 7, 100, 27, 182, 0, 206, 4, 172, 21, 5, 61, 132, 3, 255]
abbrev dktX10_next_5 : List UInt8 := dkwX10_next_5 ++ dktX10_next_6
def dkwX10_next_4 : List UInt8 := [29, 21, 4, 116, 79, 4, 172, 21, 8, 154, 0, 33, 21, 7, 21, 5, 163, 0, 26, 42, 180, 0, 78, 29]
abbrev dktX10_next_4 : List UInt8 := dkwX10_next_4 ++ dktX10_next_5
def dkwX10_next_3 : List UInt8 := [167, 0, 4, 3, 54, 8, 21, 8, 153, 0, 23, 27, 153, 0, 19, 21, 4, 156, 0, 14, 42, 180, 0, 78]
abbrev dktX10_next_3 : List UInt8 := dkwX10_next_3 ++ dktX10_next_4
def dkwX10_next_2 : List UInt8 := [156, 0, 9, 21, 6, 116, 167, 0, 5, 21, 6, 54, 7, 29, 42, 180, 0, 143, 4, 100, 160, 0, 7, 4]
abbrev dktX10_next_2 : List UInt8 := dkwX10_next_2 ++ dktX10_next_3
def dkwX10_next_1 : List UInt8 := [156, 0, 9, 21, 4, 116, 167, 0, 5, 21, 4, 96, 54, 5, 21, 4, 4, 96, 54, 6, 21, 6]
abbrev dktX10_next_1 : List UInt8 := dkwX10_next_1 ++ dktX10_next_2
def dkwX10_next_0 : List UInt8 := [3, 61, 42, 180, 0, 143, 4, 100, 62, 29, 155, 0, 135, 42, 180, 0, 78, 29, 46, 54, 4, 28, 21, 4]
abbrev dktX10_next_0 : List UInt8 := dkwX10_next_0 ++ dktX10_next_1
theorem dksX10_next_0 : cX10_next.data.toList.drop 0 = dktX10_next_0 := by decide +kernel
theorem dksX10_next_1 : cX10_next.data.toList.drop 24 = dktX10_next_1 := dk_seg dksX10_next_0 24 rfl rfl
theorem dksX10_next_2 : cX10_next.data.toList.drop 46 = dktX10_next_2 := dk_seg dksX10_next_1 22 rfl rfl
theorem dksX10_next_3 : cX10_next.data.toList.drop 70 = dktX10_next_3 := dk_seg dksX10_next_2 24 rfl rfl
theorem dksX10_next_4 : cX10_next.data.toList.drop 94 = dktX10_next_4 := dk_seg dksX10_next_3 24 rfl rfl
theorem dksX10_next_5 : cX10_next.data.toList.drop 118 = dktX10_next_5 := dk_seg dksX10_next_4 24 rfl rfl
theorem dksX10_next_6 : cX10_next.data.toList.drop 142 = dktX10_next_6 := dk_seg dksX10_next_5 24 rfl rfl
theorem dX10_next_0 : decode cX10_next 0 = .ok (.iconst 0, 1) := dk_3 (dk_at dksX10_next_0 0 rfl rfl)
theorem dX10_next_1 : decode cX10_next 1 = .ok (.istore_n 2, 1) := dk_61 (dk_at dksX10_next_0 1 rfl rfl)
theorem dX10_next_2 : decode cX10_next 2 = .ok (.aload_n 0, 1) := dk_42 (dk_at dksX10_next_0 2 rfl rfl)
theorem dX10_next_3 : decode cX10_next 3 = .ok (.getfield 143, 3) := dk_180 0 143 (dk_at dksX10_next_0 3 rfl rfl)
theorem dX10_next_6 : decode cX10_next 6 = .ok (.iconst 1, 1) := dk_4 (dk_at dksX10_next_0 6 rfl rfl)
theorem dX10_next_7 : decode cX10_next 7 = .ok (.isub, 1) := dk_100 (dk_at dksX10_next_0 7 rfl rfl)
theorem dX10_next_8 : decode cX10_next 8 = .ok (.istore_n 3, 1) := dk_62 (dk_at dksX10_next_0 8 rfl rfl)
theorem dX10_next_9 : decode cX10_next 9 = .ok (.iload_n 3, 1) := dk_29 (dk_at dksX10_next_0 9 rfl rfl)
theorem dX10_next_10 : decode cX10_next 10 = .ok (.ifCond .lt 135, 3) := dk_155 0 135 (dk_at dksX10_next_0 10 rfl rfl)
theorem dX10_next_13 : decode cX10_next 13 = .ok (.aload_n 0, 1) := dk_42 (dk_at dksX10_next_0 13 rfl rfl)
theorem dX10_next_14 : decode cX10_next 14 = .ok (.getfield 78, 3) := dk_180 0 78 (dk_at dksX10_next_0 14 rfl rfl)
theorem dX10_next_17 : decode cX10_next 17 = .ok (.iload_n 3, 1) := dk_29 (dk_at dksX10_next_0 17 rfl rfl)
theorem dX10_next_18 : decode cX10_next 18 = .ok (.iaload, 1) := dk_46 (dk_at dksX10_next_0 18 rfl rfl)
theorem dX10_next_19 : decode cX10_next 19 = .ok (.istore 4, 2) := dk_54 4 (dk_at dksX10_next_0 19 rfl rfl)
theorem dX10_next_21 : decode cX10_next 21 = .ok (.iload_n 2, 1) := dk_28 (dk_at dksX10_next_0 21 rfl rfl)
theorem dX10_next_22 : decode cX10_next 22 = .ok (.iload 4, 2) := dk_21 4 (dk_at dksX10_next_0 22 rfl rfl)
theorem dX10_next_24 : decode cX10_next 24 = .ok (.ifCond .ge 9, 3) := dk_156 0 9 (dk_at dksX10_next_1 0 rfl rfl)
theorem dX10_next_27 : decode cX10_next 27 = .ok (.iload 4, 2) := dk_21 4 (dk_at dksX10_next_1 3 rfl rfl)
theorem dX10_next_29 : decode cX10_next 29 = .ok (.ineg, 1) := dk_116 (dk_at dksX10_next_1 5 rfl rfl)
theorem dX10_next_30 : decode cX10_next 30 = .ok (.goto 5, 3) := dk_167 0 5 (dk_at dksX10_next_1 6 rfl rfl)
theorem dX10_next_33 : decode cX10_next 33 = .ok (.iload 4, 2) := dk_21 4 (dk_at dksX10_next_1 9 rfl rfl)
theorem dX10_next_35 : decode cX10_next 35 = .ok (.iadd, 1) := dk_96 (dk_at dksX10_next_1 11 rfl rfl)
theorem dX10_next_36 : decode cX10_next 36 = .ok (.istore 5, 2) := dk_54 5 (dk_at dksX10_next_1 12 rfl rfl)
theorem dX10_next_38 : decode cX10_next 38 = .ok (.iload 4, 2) := dk_21 4 (dk_at dksX10_next_1 14 rfl rfl)
theorem dX10_next_40 : decode cX10_next 40 = .ok (.iconst 1, 1) := dk_4 (dk_at dksX10_next_1 16 rfl rfl)
theorem dX10_next_41 : decode cX10_next 41 = .ok (.iadd, 1) := dk_96 (dk_at dksX10_next_1 17 rfl rfl)
theorem dX10_next_42 : decode cX10_next 42 = .ok (.istore 6, 2) := dk_54 6 (dk_at dksX10_next_1 18 rfl rfl)
theorem dX10_next_44 : decode cX10_next 44 = .ok (.iload 6, 2) := dk_21 6 (dk_at dksX10_next_1 20 rfl rfl)
theorem dX10_next_46 : decode cX10_next 46 = .ok (.ifCond .ge 9, 3) := dk_156 0 9 (dk_at dksX10_next_2 0 rfl rfl)
theorem dX10_next_49 : decode cX10_next 49 = .ok (.iload 6, 2) := dk_21 6 (dk_at dksX10_next_2 3 rfl rfl)
theorem dX10_next_51 : decode cX10_next 51 = .ok (.ineg, 1) := dk_116 (dk_at dksX10_next_2 5 rfl rfl)
theorem dX10_next_52 : decode cX10_next 52 = .ok (.goto 5, 3) := dk_167 0 5 (dk_at dksX10_next_2 6 rfl rfl)
theorem dX10_next_55 : decode cX10_next 55 = .ok (.iload 6, 2) := dk_21 6 (dk_at dksX10_next_2 9 rfl rfl)
theorem dX10_next_57 : decode cX10_next 57 = .ok (.istore 7, 2) := dk_54 7 (dk_at dksX10_next_2 11 rfl rfl)
theorem dX10_next_59 : decode cX10_next 59 = .ok (.iload_n 3, 1) := dk_29 (dk_at dksX10_next_2 13 rfl rfl)
theorem dX10_next_60 : decode cX10_next 60 = .ok (.aload_n 0, 1) := dk_42 (dk_at dksX10_next_2 14 rfl rfl)
theorem dX10_next_61 : decode cX10_next 61 = .ok (.getfield 143, 3) := dk_180 0 143 (dk_at dksX10_next_2 15 rfl rfl)
theorem dX10_next_64 : decode cX10_next 64 = .ok (.iconst 1, 1) := dk_4 (dk_at dksX10_next_2 18 rfl rfl)
theorem dX10_next_65 : decode cX10_next 65 = .ok (.isub, 1) := dk_100 (dk_at dksX10_next_2 19 rfl rfl)
theorem dX10_next_66 : decode cX10_next 66 = .ok (.if_icmp .ne 7, 3) := dk_160 0 7 (dk_at dksX10_next_2 20 rfl rfl)
theorem dX10_next_69 : decode cX10_next 69 = .ok (.iconst 1, 1) := dk_4 (dk_at dksX10_next_2 23 rfl rfl)
theorem dX10_next_70 : decode cX10_next 70 = .ok (.goto 4, 3) := dk_167 0 4 (dk_at dksX10_next_3 0 rfl rfl)
theorem dX10_next_73 : decode cX10_next 73 = .ok (.iconst 0, 1) := dk_3 (dk_at dksX10_next_3 3 rfl rfl)
theorem dX10_next_74 : decode cX10_next 74 = .ok (.istore 8, 2) := dk_54 8 (dk_at dksX10_next_3 4 rfl rfl)
theorem dX10_next_76 : decode cX10_next 76 = .ok (.iload 8, 2) := dk_21 8 (dk_at dksX10_next_3 6 rfl rfl)
theorem dX10_next_78 : decode cX10_next 78 = .ok (.ifCond .eq 23, 3) := dk_153 0 23 (dk_at dksX10_next_3 8 rfl rfl)
theorem dX10_next_81 : decode cX10_next 81 = .ok (.iload_n 1, 1) := dk_27 (dk_at dksX10_next_3 11 rfl rfl)
theorem dX10_next_82 : decode cX10_next 82 = .ok (.ifCond .eq 19, 3) := dk_153 0 19 (dk_at dksX10_next_3 12 rfl rfl)
theorem dX10_next_85 : decode cX10_next 85 = .ok (.iload 4, 2) := dk_21 4 (dk_at dksX10_next_3 15 rfl rfl)
theorem dX10_next_87 : decode cX10_next 87 = .ok (.ifCond .ge 14, 3) := dk_156 0 14 (dk_at dksX10_next_3 17 rfl rfl)
theorem dX10_next_90 : decode cX10_next 90 = .ok (.aload_n 0, 1) := dk_42 (dk_at dksX10_next_3 20 rfl rfl)
theorem dX10_next_91 : decode cX10_next 91 = .ok (.getfield 78, 3) := dk_180 0 78 (dk_at dksX10_next_3 21 rfl rfl)
theorem dX10_next_94 : decode cX10_next 94 = .ok (.iload_n 3, 1) := dk_29 (dk_at dksX10_next_4 0 rfl rfl)
theorem dX10_next_95 : decode cX10_next 95 = .ok (.iload 4, 2) := dk_21 4 (dk_at dksX10_next_4 1 rfl rfl)
theorem dX10_next_97 : decode cX10_next 97 = .ok (.ineg, 1) := dk_116 (dk_at dksX10_next_4 3 rfl rfl)
theorem dX10_next_98 : decode cX10_next 98 = .ok (.iastore, 1) := dk_79 (dk_at dksX10_next_4 4 rfl rfl)
theorem dX10_next_99 : decode cX10_next 99 = .ok (.iconst 1, 1) := dk_4 (dk_at dksX10_next_4 5 rfl rfl)
theorem dX10_next_100 : decode cX10_next 100 = .ok (.ireturn, 1) := dk_172 (dk_at dksX10_next_4 6 rfl rfl)
theorem dX10_next_101 : decode cX10_next 101 = .ok (.iload 8, 2) := dk_21 8 (dk_at dksX10_next_4 7 rfl rfl)
theorem dX10_next_103 : decode cX10_next 103 = .ok (.ifCond .ne 33, 3) := dk_154 0 33 (dk_at dksX10_next_4 9 rfl rfl)
theorem dX10_next_106 : decode cX10_next 106 = .ok (.iload 7, 2) := dk_21 7 (dk_at dksX10_next_4 12 rfl rfl)
theorem dX10_next_108 : decode cX10_next 108 = .ok (.iload 5, 2) := dk_21 5 (dk_at dksX10_next_4 14 rfl rfl)
theorem dX10_next_110 : decode cX10_next 110 = .ok (.if_icmp .gt 26, 3) := dk_163 0 26 (dk_at dksX10_next_4 16 rfl rfl)
theorem dX10_next_113 : decode cX10_next 113 = .ok (.aload_n 0, 1) := dk_42 (dk_at dksX10_next_4 19 rfl rfl)
theorem dX10_next_114 : decode cX10_next 114 = .ok (.getfield 78, 3) := dk_180 0 78 (dk_at dksX10_next_4 20 rfl rfl)
theorem dX10_next_117 : decode cX10_next 117 = .ok (.iload_n 3, 1) := dk_29 (dk_at dksX10_next_4 23 rfl rfl)
theorem dX10_next_118 : decode cX10_next 118 = .ok (.iload 6, 2) := dk_21 6 (dk_at dksX10_next_5 0 rfl rfl)
theorem dX10_next_120 : decode cX10_next 120 = .ok (.iastore, 1) := dk_79 (dk_at dksX10_next_5 2 rfl rfl)
theorem dX10_next_121 : decode cX10_next 121 = .ok (.aload_n 0, 1) := dk_42 (dk_at dksX10_next_5 3 rfl rfl)
theorem dX10_next_122 : decode cX10_next 122 = .ok (.iload_n 3, 1) := dk_29 (dk_at dksX10_next_5 4 rfl rfl)
theorem dX10_next_123 : decode cX10_next 123 = .ok (.iconst 1, 1) := dk_4 (dk_at dksX10_next_5 5 rfl rfl)
theorem dX10_next_124 : decode cX10_next 124 = .ok (.iadd, 1) := dk_96 (dk_at dksX10_next_5 6 rfl rfl)
theorem dX10_next_125 : decode cX10_next 125 = .ok (.iload 5, 2) := dk_21 5 (dk_at dksX10_next_5 7 rfl rfl)
theorem dX10_next_127 : decode cX10_next 127 = .ok (.iload 7, 2) := dk_21 7 (dk_at dksX10_next_5 9 rfl rfl)
theorem dX10_next_129 : decode cX10_next 129 = .ok (.isub, 1) := dk_100 (dk_at dksX10_next_5 11 rfl rfl)
theorem dX10_next_130 : decode cX10_next 130 = .ok (.iload_n 1, 1) := dk_27 (dk_at dksX10_next_5 12 rfl rfl)
theorem dX10_next_131 : decode cX10_next 131 = .ok (.invokevirtual 206, 3) := dk_182 0 206 (dk_at dksX10_next_5 13 rfl rfl)
theorem dX10_next_134 : decode cX10_next 134 = .ok (.iconst 1, 1) := dk_4 (dk_at dksX10_next_5 16 rfl rfl)
theorem dX10_next_135 : decode cX10_next 135 = .ok (.ireturn, 1) := dk_172 (dk_at dksX10_next_5 17 rfl rfl)
theorem dX10_next_136 : decode cX10_next 136 = .ok (.iload 5, 2) := dk_21 5 (dk_at dksX10_next_5 18 rfl rfl)
theorem dX10_next_138 : decode cX10_next 138 = .ok (.istore_n 2, 1) := dk_61 (dk_at dksX10_next_5 20 rfl rfl)
theorem dX10_next_139 : decode cX10_next 139 = .ok (.iinc 3 (-1), 3) := dk_132 3 255 (dk_at dksX10_next_5 21 rfl rfl)
theorem dX10_next_142 : decode cX10_next 142 = .ok (.goto (-133), 3) := dk_167 255 123 (dk_at dksX10_next_6 0 rfl rfl)
theorem dX10_next_145 : decode cX10_next 145 = .ok (.iconst 0, 1) := dk_3 (dk_at dksX10_next_6 3 rfl rfl)
theorem dX10_next_146 : decode cX10_next 146 = .ok (.ireturn, 1) := dk_172 (dk_at dksX10_next_6 4 rfl rfl)
abbrev cX10_spread : ByteArray := prog_14_method_37_code
def yX10_spread : MethodName := ⟨RX10, "spread", "(IIZ)V"⟩
def dkwX10_spread_2 : List UInt8 := [180, 0, 143, 4, 100, 28, 79, 177]
abbrev dktX10_spread_2 : List UInt8 := dkwX10_spread_2 ++ []
def dkwX10_spread_1 : List UInt8 := [167, 255, 236, 29, 153, 0, 14, 42, 180, 0, 78, 27, 28, 116, 79, 167, 0, 15, 42, 180, 0, 78, 42]
abbrev dktX10_spread_1 : List UInt8 := dkwX10_spread_1 ++ dktX10_spread_2
def dkwX10_spread_0 : List UInt8 := [27, 54, 4, 21, 4, 42, 180, 0, 143, 162, 0, 17, 42, 180, 0, 78, 21, 4, 3, 79, 132, 4, 1]
abbrev dktX10_spread_0 : List UInt8 := dkwX10_spread_0 ++ dktX10_spread_1
theorem dksX10_spread_0 : cX10_spread.data.toList.drop 0 = dktX10_spread_0 := by decide +kernel
theorem dksX10_spread_1 : cX10_spread.data.toList.drop 23 = dktX10_spread_1 := dk_seg dksX10_spread_0 23 rfl rfl
theorem dksX10_spread_2 : cX10_spread.data.toList.drop 46 = dktX10_spread_2 := dk_seg dksX10_spread_1 23 rfl rfl
theorem dX10_spread_0 : decode cX10_spread 0 = .ok (.iload_n 1, 1) := dk_27 (dk_at dksX10_spread_0 0 rfl rfl)
theorem dX10_spread_1 : decode cX10_spread 1 = .ok (.istore 4, 2) := dk_54 4 (dk_at dksX10_spread_0 1 rfl rfl)
theorem dX10_spread_3 : decode cX10_spread 3 = .ok (.iload 4, 2) := dk_21 4 (dk_at dksX10_spread_0 3 rfl rfl)
theorem dX10_spread_5 : decode cX10_spread 5 = .ok (.aload_n 0, 1) := dk_42 (dk_at dksX10_spread_0 5 rfl rfl)
theorem dX10_spread_6 : decode cX10_spread 6 = .ok (.getfield 143, 3) := dk_180 0 143 (dk_at dksX10_spread_0 6 rfl rfl)
theorem dX10_spread_9 : decode cX10_spread 9 = .ok (.if_icmp .ge 17, 3) := dk_162 0 17 (dk_at dksX10_spread_0 9 rfl rfl)
theorem dX10_spread_12 : decode cX10_spread 12 = .ok (.aload_n 0, 1) := dk_42 (dk_at dksX10_spread_0 12 rfl rfl)
theorem dX10_spread_13 : decode cX10_spread 13 = .ok (.getfield 78, 3) := dk_180 0 78 (dk_at dksX10_spread_0 13 rfl rfl)
theorem dX10_spread_16 : decode cX10_spread 16 = .ok (.iload 4, 2) := dk_21 4 (dk_at dksX10_spread_0 16 rfl rfl)
theorem dX10_spread_18 : decode cX10_spread 18 = .ok (.iconst 0, 1) := dk_3 (dk_at dksX10_spread_0 18 rfl rfl)
theorem dX10_spread_19 : decode cX10_spread 19 = .ok (.iastore, 1) := dk_79 (dk_at dksX10_spread_0 19 rfl rfl)
theorem dX10_spread_20 : decode cX10_spread 20 = .ok (.iinc 4 1, 3) := dk_132 4 1 (dk_at dksX10_spread_0 20 rfl rfl)
theorem dX10_spread_23 : decode cX10_spread 23 = .ok (.goto (-20), 3) := dk_167 255 236 (dk_at dksX10_spread_1 0 rfl rfl)
theorem dX10_spread_26 : decode cX10_spread 26 = .ok (.iload_n 3, 1) := dk_29 (dk_at dksX10_spread_1 3 rfl rfl)
theorem dX10_spread_27 : decode cX10_spread 27 = .ok (.ifCond .eq 14, 3) := dk_153 0 14 (dk_at dksX10_spread_1 4 rfl rfl)
theorem dX10_spread_30 : decode cX10_spread 30 = .ok (.aload_n 0, 1) := dk_42 (dk_at dksX10_spread_1 7 rfl rfl)
theorem dX10_spread_31 : decode cX10_spread 31 = .ok (.getfield 78, 3) := dk_180 0 78 (dk_at dksX10_spread_1 8 rfl rfl)
theorem dX10_spread_34 : decode cX10_spread 34 = .ok (.iload_n 1, 1) := dk_27 (dk_at dksX10_spread_1 11 rfl rfl)
theorem dX10_spread_35 : decode cX10_spread 35 = .ok (.iload_n 2, 1) := dk_28 (dk_at dksX10_spread_1 12 rfl rfl)
theorem dX10_spread_36 : decode cX10_spread 36 = .ok (.ineg, 1) := dk_116 (dk_at dksX10_spread_1 13 rfl rfl)
theorem dX10_spread_37 : decode cX10_spread 37 = .ok (.iastore, 1) := dk_79 (dk_at dksX10_spread_1 14 rfl rfl)
theorem dX10_spread_38 : decode cX10_spread 38 = .ok (.goto 15, 3) := dk_167 0 15 (dk_at dksX10_spread_1 15 rfl rfl)
theorem dX10_spread_41 : decode cX10_spread 41 = .ok (.aload_n 0, 1) := dk_42 (dk_at dksX10_spread_1 18 rfl rfl)
theorem dX10_spread_42 : decode cX10_spread 42 = .ok (.getfield 78, 3) := dk_180 0 78 (dk_at dksX10_spread_1 19 rfl rfl)
theorem dX10_spread_45 : decode cX10_spread 45 = .ok (.aload_n 0, 1) := dk_42 (dk_at dksX10_spread_1 22 rfl rfl)
theorem dX10_spread_46 : decode cX10_spread 46 = .ok (.getfield 143, 3) := dk_180 0 143 (dk_at dksX10_spread_2 0 rfl rfl)
theorem dX10_spread_49 : decode cX10_spread 49 = .ok (.iconst 1, 1) := dk_4 (dk_at dksX10_spread_2 3 rfl rfl)
theorem dX10_spread_50 : decode cX10_spread 50 = .ok (.isub, 1) := dk_100 (dk_at dksX10_spread_2 4 rfl rfl)
theorem dX10_spread_51 : decode cX10_spread 51 = .ok (.iload_n 2, 1) := dk_28 (dk_at dksX10_spread_2 5 rfl rfl)
theorem dX10_spread_52 : decode cX10_spread 52 = .ok (.iastore, 1) := dk_79 (dk_at dksX10_spread_2 6 rfl rfl)
theorem dX10_spread_53 : decode cX10_spread 53 = .ok (.return_, 1) := dk_177 (dk_at dksX10_spread_2 7 rfl rfl)
abbrev cX10_at : ByteArray := prog_14_method_40_code
def yX10_at : MethodName := ⟨RX10, "at", "(III)I"⟩
def dkwX10_at_3 : List UInt8 := [17, 46, 224, 27, 104, 16, 6, 28, 104, 96, 29, 96, 51, 167, 0, 4, 3, 172]
abbrev dktX10_at_3 : List UInt8 := dkwX10_at_3 ++ []
def dkwX10_at_2 : List UInt8 := [42, 21, 4, 153, 0, 7, 3, 167, 0, 4, 4, 181, 0, 81, 21, 4, 153, 0, 23, 42, 180, 0, 52]
abbrev dktX10_at_2 : List UInt8 := dkwX10_at_2 ++ dktX10_at_3
def dkwX10_at_1 : List UInt8 := [153, 0, 21, 28, 155, 0, 17, 28, 42, 180, 0, 48, 27, 46, 162, 0, 7, 4, 167, 0, 4, 3, 54, 4]
abbrev dktX10_at_1 : List UInt8 := dkwX10_at_1 ++ dktX10_at_2
def dkwX10_at_0 : List UInt8 := [27, 155, 0, 43, 27, 5, 163, 0, 38, 42, 29, 182, 0, 194, 153, 0, 30, 42, 180, 0, 41, 27, 51]
abbrev dktX10_at_0 : List UInt8 := dkwX10_at_0 ++ dktX10_at_1
theorem dksX10_at_0 : cX10_at.data.toList.drop 0 = dktX10_at_0 := by decide +kernel
theorem dksX10_at_1 : cX10_at.data.toList.drop 23 = dktX10_at_1 := dk_seg dksX10_at_0 23 rfl rfl
theorem dksX10_at_2 : cX10_at.data.toList.drop 47 = dktX10_at_2 := dk_seg dksX10_at_1 24 rfl rfl
theorem dksX10_at_3 : cX10_at.data.toList.drop 70 = dktX10_at_3 := dk_seg dksX10_at_2 23 rfl rfl
theorem dX10_at_0 : decode cX10_at 0 = .ok (.iload_n 1, 1) := dk_27 (dk_at dksX10_at_0 0 rfl rfl)
theorem dX10_at_1 : decode cX10_at 1 = .ok (.ifCond .lt 43, 3) := dk_155 0 43 (dk_at dksX10_at_0 1 rfl rfl)
theorem dX10_at_4 : decode cX10_at 4 = .ok (.iload_n 1, 1) := dk_27 (dk_at dksX10_at_0 4 rfl rfl)
theorem dX10_at_5 : decode cX10_at 5 = .ok (.iconst 2, 1) := dk_5 (dk_at dksX10_at_0 5 rfl rfl)
theorem dX10_at_6 : decode cX10_at 6 = .ok (.if_icmp .gt 38, 3) := dk_163 0 38 (dk_at dksX10_at_0 6 rfl rfl)
theorem dX10_at_9 : decode cX10_at 9 = .ok (.aload_n 0, 1) := dk_42 (dk_at dksX10_at_0 9 rfl rfl)
theorem dX10_at_10 : decode cX10_at 10 = .ok (.iload_n 3, 1) := dk_29 (dk_at dksX10_at_0 10 rfl rfl)
theorem dX10_at_11 : decode cX10_at 11 = .ok (.invokevirtual 194, 3) := dk_182 0 194 (dk_at dksX10_at_0 11 rfl rfl)
theorem dX10_at_14 : decode cX10_at 14 = .ok (.ifCond .eq 30, 3) := dk_153 0 30 (dk_at dksX10_at_0 14 rfl rfl)
theorem dX10_at_17 : decode cX10_at 17 = .ok (.aload_n 0, 1) := dk_42 (dk_at dksX10_at_0 17 rfl rfl)
theorem dX10_at_18 : decode cX10_at 18 = .ok (.getfield 41, 3) := dk_180 0 41 (dk_at dksX10_at_0 18 rfl rfl)
theorem dX10_at_21 : decode cX10_at 21 = .ok (.iload_n 1, 1) := dk_27 (dk_at dksX10_at_0 21 rfl rfl)
theorem dX10_at_22 : decode cX10_at 22 = .ok (.baload, 1) := dk_51 (dk_at dksX10_at_0 22 rfl rfl)
theorem dX10_at_23 : decode cX10_at 23 = .ok (.ifCond .eq 21, 3) := dk_153 0 21 (dk_at dksX10_at_1 0 rfl rfl)
theorem dX10_at_26 : decode cX10_at 26 = .ok (.iload_n 2, 1) := dk_28 (dk_at dksX10_at_1 3 rfl rfl)
theorem dX10_at_27 : decode cX10_at 27 = .ok (.ifCond .lt 17, 3) := dk_155 0 17 (dk_at dksX10_at_1 4 rfl rfl)
theorem dX10_at_30 : decode cX10_at 30 = .ok (.iload_n 2, 1) := dk_28 (dk_at dksX10_at_1 7 rfl rfl)
theorem dX10_at_31 : decode cX10_at 31 = .ok (.aload_n 0, 1) := dk_42 (dk_at dksX10_at_1 8 rfl rfl)
theorem dX10_at_32 : decode cX10_at 32 = .ok (.getfield 48, 3) := dk_180 0 48 (dk_at dksX10_at_1 9 rfl rfl)
theorem dX10_at_35 : decode cX10_at 35 = .ok (.iload_n 1, 1) := dk_27 (dk_at dksX10_at_1 12 rfl rfl)
theorem dX10_at_36 : decode cX10_at 36 = .ok (.iaload, 1) := dk_46 (dk_at dksX10_at_1 13 rfl rfl)
theorem dX10_at_37 : decode cX10_at 37 = .ok (.if_icmp .ge 7, 3) := dk_162 0 7 (dk_at dksX10_at_1 14 rfl rfl)
theorem dX10_at_40 : decode cX10_at 40 = .ok (.iconst 1, 1) := dk_4 (dk_at dksX10_at_1 17 rfl rfl)
theorem dX10_at_41 : decode cX10_at 41 = .ok (.goto 4, 3) := dk_167 0 4 (dk_at dksX10_at_1 18 rfl rfl)
theorem dX10_at_44 : decode cX10_at 44 = .ok (.iconst 0, 1) := dk_3 (dk_at dksX10_at_1 21 rfl rfl)
theorem dX10_at_45 : decode cX10_at 45 = .ok (.istore 4, 2) := dk_54 4 (dk_at dksX10_at_1 22 rfl rfl)
theorem dX10_at_47 : decode cX10_at 47 = .ok (.aload_n 0, 1) := dk_42 (dk_at dksX10_at_2 0 rfl rfl)
theorem dX10_at_48 : decode cX10_at 48 = .ok (.iload 4, 2) := dk_21 4 (dk_at dksX10_at_2 1 rfl rfl)
theorem dX10_at_50 : decode cX10_at 50 = .ok (.ifCond .eq 7, 3) := dk_153 0 7 (dk_at dksX10_at_2 3 rfl rfl)
theorem dX10_at_53 : decode cX10_at 53 = .ok (.iconst 0, 1) := dk_3 (dk_at dksX10_at_2 6 rfl rfl)
theorem dX10_at_54 : decode cX10_at 54 = .ok (.goto 4, 3) := dk_167 0 4 (dk_at dksX10_at_2 7 rfl rfl)
theorem dX10_at_57 : decode cX10_at 57 = .ok (.iconst 1, 1) := dk_4 (dk_at dksX10_at_2 10 rfl rfl)
theorem dX10_at_58 : decode cX10_at 58 = .ok (.putfield 81, 3) := dk_181 0 81 (dk_at dksX10_at_2 11 rfl rfl)
theorem dX10_at_61 : decode cX10_at 61 = .ok (.iload 4, 2) := dk_21 4 (dk_at dksX10_at_2 14 rfl rfl)
theorem dX10_at_63 : decode cX10_at 63 = .ok (.ifCond .eq 23, 3) := dk_153 0 23 (dk_at dksX10_at_2 16 rfl rfl)
theorem dX10_at_66 : decode cX10_at 66 = .ok (.aload_n 0, 1) := dk_42 (dk_at dksX10_at_2 19 rfl rfl)
theorem dX10_at_67 : decode cX10_at 67 = .ok (.getfield 52, 3) := dk_180 0 52 (dk_at dksX10_at_2 20 rfl rfl)
theorem dX10_at_70 : decode cX10_at 70 = .ok (.sipush 12000, 3) := dk_17 46 224 (dk_at dksX10_at_3 0 rfl rfl)
theorem dX10_at_73 : decode cX10_at 73 = .ok (.iload_n 1, 1) := dk_27 (dk_at dksX10_at_3 3 rfl rfl)
theorem dX10_at_74 : decode cX10_at 74 = .ok (.imul, 1) := dk_104 (dk_at dksX10_at_3 4 rfl rfl)
theorem dX10_at_75 : decode cX10_at 75 = .ok (.bipush 6, 2) := dk_16 6 (dk_at dksX10_at_3 5 rfl rfl)
theorem dX10_at_77 : decode cX10_at 77 = .ok (.iload_n 2, 1) := dk_28 (dk_at dksX10_at_3 7 rfl rfl)
theorem dX10_at_78 : decode cX10_at 78 = .ok (.imul, 1) := dk_104 (dk_at dksX10_at_3 8 rfl rfl)
theorem dX10_at_79 : decode cX10_at 79 = .ok (.iadd, 1) := dk_96 (dk_at dksX10_at_3 9 rfl rfl)
theorem dX10_at_80 : decode cX10_at 80 = .ok (.iload_n 3, 1) := dk_29 (dk_at dksX10_at_3 10 rfl rfl)
theorem dX10_at_81 : decode cX10_at 81 = .ok (.iadd, 1) := dk_96 (dk_at dksX10_at_3 11 rfl rfl)
theorem dX10_at_82 : decode cX10_at 82 = .ok (.baload, 1) := dk_51 (dk_at dksX10_at_3 12 rfl rfl)
theorem dX10_at_83 : decode cX10_at 83 = .ok (.goto 4, 3) := dk_167 0 4 (dk_at dksX10_at_3 13 rfl rfl)
theorem dX10_at_86 : decode cX10_at 86 = .ok (.iconst 0, 1) := dk_3 (dk_at dksX10_at_3 16 rfl rfl)
theorem dX10_at_87 : decode cX10_at 87 = .ok (.ireturn, 1) := dk_172 (dk_at dksX10_at_3 17 rfl rfl)
abbrev cX10_tell : ByteArray := prog_14_method_41_code
def yX10_tell : MethodName := ⟨RX10, "tell", "(II)V"⟩
def dkwX10_tell_2 : List UInt8 := [79, 177]
abbrev dktX10_tell_2 : List UInt8 := dkwX10_tell_2 ++ []
def dkwX10_tell_1 : List UInt8 := [164, 0, 7, 5, 167, 0, 4, 3, 181, 0, 81, 42, 180, 0, 81, 154, 0, 10, 42, 180, 0, 56, 27, 28]
abbrev dktX10_tell_1 : List UInt8 := dkwX10_tell_1 ++ dktX10_tell_2
def dkwX10_tell_0 : List UInt8 := [42, 42, 27, 182, 0, 194, 154, 0, 7, 4, 167, 0, 20, 28, 16, 157, 161, 0, 9, 28, 16, 99]
abbrev dktX10_tell_0 : List UInt8 := dkwX10_tell_0 ++ dktX10_tell_1
theorem dksX10_tell_0 : cX10_tell.data.toList.drop 0 = dktX10_tell_0 := by decide +kernel
theorem dksX10_tell_1 : cX10_tell.data.toList.drop 22 = dktX10_tell_1 := dk_seg dksX10_tell_0 22 rfl rfl
theorem dksX10_tell_2 : cX10_tell.data.toList.drop 46 = dktX10_tell_2 := dk_seg dksX10_tell_1 24 rfl rfl
theorem dX10_tell_0 : decode cX10_tell 0 = .ok (.aload_n 0, 1) := dk_42 (dk_at dksX10_tell_0 0 rfl rfl)
theorem dX10_tell_1 : decode cX10_tell 1 = .ok (.aload_n 0, 1) := dk_42 (dk_at dksX10_tell_0 1 rfl rfl)
theorem dX10_tell_2 : decode cX10_tell 2 = .ok (.iload_n 1, 1) := dk_27 (dk_at dksX10_tell_0 2 rfl rfl)
theorem dX10_tell_3 : decode cX10_tell 3 = .ok (.invokevirtual 194, 3) := dk_182 0 194 (dk_at dksX10_tell_0 3 rfl rfl)
theorem dX10_tell_6 : decode cX10_tell 6 = .ok (.ifCond .ne 7, 3) := dk_154 0 7 (dk_at dksX10_tell_0 6 rfl rfl)
theorem dX10_tell_9 : decode cX10_tell 9 = .ok (.iconst 1, 1) := dk_4 (dk_at dksX10_tell_0 9 rfl rfl)
theorem dX10_tell_10 : decode cX10_tell 10 = .ok (.goto 20, 3) := dk_167 0 20 (dk_at dksX10_tell_0 10 rfl rfl)
theorem dX10_tell_13 : decode cX10_tell 13 = .ok (.iload_n 2, 1) := dk_28 (dk_at dksX10_tell_0 13 rfl rfl)
theorem dX10_tell_14 : decode cX10_tell 14 = .ok (.bipush (-99), 2) := dk_16 157 (dk_at dksX10_tell_0 14 rfl rfl)
theorem dX10_tell_16 : decode cX10_tell 16 = .ok (.if_icmp .lt 9, 3) := dk_161 0 9 (dk_at dksX10_tell_0 16 rfl rfl)
theorem dX10_tell_19 : decode cX10_tell 19 = .ok (.iload_n 2, 1) := dk_28 (dk_at dksX10_tell_0 19 rfl rfl)
theorem dX10_tell_20 : decode cX10_tell 20 = .ok (.bipush 99, 2) := dk_16 99 (dk_at dksX10_tell_0 20 rfl rfl)
theorem dX10_tell_22 : decode cX10_tell 22 = .ok (.if_icmp .le 7, 3) := dk_164 0 7 (dk_at dksX10_tell_1 0 rfl rfl)
theorem dX10_tell_25 : decode cX10_tell 25 = .ok (.iconst 2, 1) := dk_5 (dk_at dksX10_tell_1 3 rfl rfl)
theorem dX10_tell_26 : decode cX10_tell 26 = .ok (.goto 4, 3) := dk_167 0 4 (dk_at dksX10_tell_1 4 rfl rfl)
theorem dX10_tell_29 : decode cX10_tell 29 = .ok (.iconst 0, 1) := dk_3 (dk_at dksX10_tell_1 7 rfl rfl)
theorem dX10_tell_30 : decode cX10_tell 30 = .ok (.putfield 81, 3) := dk_181 0 81 (dk_at dksX10_tell_1 8 rfl rfl)
theorem dX10_tell_33 : decode cX10_tell 33 = .ok (.aload_n 0, 1) := dk_42 (dk_at dksX10_tell_1 11 rfl rfl)
theorem dX10_tell_34 : decode cX10_tell 34 = .ok (.getfield 81, 3) := dk_180 0 81 (dk_at dksX10_tell_1 12 rfl rfl)
theorem dX10_tell_37 : decode cX10_tell 37 = .ok (.ifCond .ne 10, 3) := dk_154 0 10 (dk_at dksX10_tell_1 15 rfl rfl)
theorem dX10_tell_40 : decode cX10_tell 40 = .ok (.aload_n 0, 1) := dk_42 (dk_at dksX10_tell_1 18 rfl rfl)
theorem dX10_tell_41 : decode cX10_tell 41 = .ok (.getfield 56, 3) := dk_180 0 56 (dk_at dksX10_tell_1 19 rfl rfl)
theorem dX10_tell_44 : decode cX10_tell 44 = .ok (.iload_n 1, 1) := dk_27 (dk_at dksX10_tell_1 22 rfl rfl)
theorem dX10_tell_45 : decode cX10_tell 45 = .ok (.iload_n 2, 1) := dk_28 (dk_at dksX10_tell_1 23 rfl rfl)
theorem dX10_tell_46 : decode cX10_tell 46 = .ok (.iastore, 1) := dk_79 (dk_at dksX10_tell_2 0 rfl rfl)
theorem dX10_tell_47 : decode cX10_tell 47 = .ok (.return_, 1) := dk_177 (dk_at dksX10_tell_2 1 rfl rfl)
abbrev cX10_holds : ByteArray := prog_14_method_43_code
def yX10_holds : MethodName := ⟨RX10, "holds", "()I"⟩
def dkwX10_holds_3 : List UInt8 := [167, 0, 4, 3, 96, 172]
abbrev dktX10_holds_3 : List UInt8 := dkwX10_holds_3 ++ []
def dkwX10_holds_2 : List UInt8 := [180, 0, 56, 3, 182, 0, 198, 153, 0, 7, 5, 167, 0, 4, 3, 96, 42, 182, 0, 227, 153, 0, 7, 7]
abbrev dktX10_holds_2 : List UInt8 := dkwX10_holds_2 ++ dktX10_holds_3
def dkwX10_holds_1 : List UInt8 := [167, 0, 51, 42, 42, 180, 0, 56, 4, 182, 0, 198, 153, 0, 7, 4, 167, 0, 4, 3, 42, 42]
abbrev dktX10_holds_1 : List UInt8 := dkwX10_holds_1 ++ dktX10_holds_2
def dkwX10_holds_0 : List UInt8 := [42, 42, 180, 0, 133, 153, 0, 7, 3, 167, 0, 4, 4, 181, 0, 81, 42, 180, 0, 81, 158, 0, 7, 3]
abbrev dktX10_holds_0 : List UInt8 := dkwX10_holds_0 ++ dktX10_holds_1
theorem dksX10_holds_0 : cX10_holds.data.toList.drop 0 = dktX10_holds_0 := by decide +kernel
theorem dksX10_holds_1 : cX10_holds.data.toList.drop 24 = dktX10_holds_1 := dk_seg dksX10_holds_0 24 rfl rfl
theorem dksX10_holds_2 : cX10_holds.data.toList.drop 46 = dktX10_holds_2 := dk_seg dksX10_holds_1 22 rfl rfl
theorem dksX10_holds_3 : cX10_holds.data.toList.drop 70 = dktX10_holds_3 := dk_seg dksX10_holds_2 24 rfl rfl
theorem dX10_holds_0 : decode cX10_holds 0 = .ok (.aload_n 0, 1) := dk_42 (dk_at dksX10_holds_0 0 rfl rfl)
theorem dX10_holds_1 : decode cX10_holds 1 = .ok (.aload_n 0, 1) := dk_42 (dk_at dksX10_holds_0 1 rfl rfl)
theorem dX10_holds_2 : decode cX10_holds 2 = .ok (.getfield 133, 3) := dk_180 0 133 (dk_at dksX10_holds_0 2 rfl rfl)
theorem dX10_holds_5 : decode cX10_holds 5 = .ok (.ifCond .eq 7, 3) := dk_153 0 7 (dk_at dksX10_holds_0 5 rfl rfl)
theorem dX10_holds_8 : decode cX10_holds 8 = .ok (.iconst 0, 1) := dk_3 (dk_at dksX10_holds_0 8 rfl rfl)
theorem dX10_holds_9 : decode cX10_holds 9 = .ok (.goto 4, 3) := dk_167 0 4 (dk_at dksX10_holds_0 9 rfl rfl)
theorem dX10_holds_12 : decode cX10_holds 12 = .ok (.iconst 1, 1) := dk_4 (dk_at dksX10_holds_0 12 rfl rfl)
theorem dX10_holds_13 : decode cX10_holds 13 = .ok (.putfield 81, 3) := dk_181 0 81 (dk_at dksX10_holds_0 13 rfl rfl)
theorem dX10_holds_16 : decode cX10_holds 16 = .ok (.aload_n 0, 1) := dk_42 (dk_at dksX10_holds_0 16 rfl rfl)
theorem dX10_holds_17 : decode cX10_holds 17 = .ok (.getfield 81, 3) := dk_180 0 81 (dk_at dksX10_holds_0 17 rfl rfl)
theorem dX10_holds_20 : decode cX10_holds 20 = .ok (.ifCond .le 7, 3) := dk_158 0 7 (dk_at dksX10_holds_0 20 rfl rfl)
theorem dX10_holds_23 : decode cX10_holds 23 = .ok (.iconst 0, 1) := dk_3 (dk_at dksX10_holds_0 23 rfl rfl)
theorem dX10_holds_24 : decode cX10_holds 24 = .ok (.goto 51, 3) := dk_167 0 51 (dk_at dksX10_holds_1 0 rfl rfl)
theorem dX10_holds_27 : decode cX10_holds 27 = .ok (.aload_n 0, 1) := dk_42 (dk_at dksX10_holds_1 3 rfl rfl)
theorem dX10_holds_28 : decode cX10_holds 28 = .ok (.aload_n 0, 1) := dk_42 (dk_at dksX10_holds_1 4 rfl rfl)
theorem dX10_holds_29 : decode cX10_holds 29 = .ok (.getfield 56, 3) := dk_180 0 56 (dk_at dksX10_holds_1 5 rfl rfl)
theorem dX10_holds_32 : decode cX10_holds 32 = .ok (.iconst 1, 1) := dk_4 (dk_at dksX10_holds_1 8 rfl rfl)
theorem dX10_holds_33 : decode cX10_holds 33 = .ok (.invokevirtual 198, 3) := dk_182 0 198 (dk_at dksX10_holds_1 9 rfl rfl)
theorem dX10_holds_36 : decode cX10_holds 36 = .ok (.ifCond .eq 7, 3) := dk_153 0 7 (dk_at dksX10_holds_1 12 rfl rfl)
theorem dX10_holds_39 : decode cX10_holds 39 = .ok (.iconst 1, 1) := dk_4 (dk_at dksX10_holds_1 15 rfl rfl)
theorem dX10_holds_40 : decode cX10_holds 40 = .ok (.goto 4, 3) := dk_167 0 4 (dk_at dksX10_holds_1 16 rfl rfl)
theorem dX10_holds_43 : decode cX10_holds 43 = .ok (.iconst 0, 1) := dk_3 (dk_at dksX10_holds_1 19 rfl rfl)
theorem dX10_holds_44 : decode cX10_holds 44 = .ok (.aload_n 0, 1) := dk_42 (dk_at dksX10_holds_1 20 rfl rfl)
theorem dX10_holds_45 : decode cX10_holds 45 = .ok (.aload_n 0, 1) := dk_42 (dk_at dksX10_holds_1 21 rfl rfl)
theorem dX10_holds_46 : decode cX10_holds 46 = .ok (.getfield 56, 3) := dk_180 0 56 (dk_at dksX10_holds_2 0 rfl rfl)
theorem dX10_holds_49 : decode cX10_holds 49 = .ok (.iconst 0, 1) := dk_3 (dk_at dksX10_holds_2 3 rfl rfl)
theorem dX10_holds_50 : decode cX10_holds 50 = .ok (.invokevirtual 198, 3) := dk_182 0 198 (dk_at dksX10_holds_2 4 rfl rfl)
theorem dX10_holds_53 : decode cX10_holds 53 = .ok (.ifCond .eq 7, 3) := dk_153 0 7 (dk_at dksX10_holds_2 7 rfl rfl)
theorem dX10_holds_56 : decode cX10_holds 56 = .ok (.iconst 2, 1) := dk_5 (dk_at dksX10_holds_2 10 rfl rfl)
theorem dX10_holds_57 : decode cX10_holds 57 = .ok (.goto 4, 3) := dk_167 0 4 (dk_at dksX10_holds_2 11 rfl rfl)
theorem dX10_holds_60 : decode cX10_holds 60 = .ok (.iconst 0, 1) := dk_3 (dk_at dksX10_holds_2 14 rfl rfl)
theorem dX10_holds_61 : decode cX10_holds 61 = .ok (.iadd, 1) := dk_96 (dk_at dksX10_holds_2 15 rfl rfl)
theorem dX10_holds_62 : decode cX10_holds 62 = .ok (.aload_n 0, 1) := dk_42 (dk_at dksX10_holds_2 16 rfl rfl)
theorem dX10_holds_63 : decode cX10_holds 63 = .ok (.invokevirtual 227, 3) := dk_182 0 227 (dk_at dksX10_holds_2 17 rfl rfl)
theorem dX10_holds_66 : decode cX10_holds 66 = .ok (.ifCond .eq 7, 3) := dk_153 0 7 (dk_at dksX10_holds_2 20 rfl rfl)
theorem dX10_holds_69 : decode cX10_holds 69 = .ok (.iconst 4, 1) := dk_7 (dk_at dksX10_holds_2 23 rfl rfl)
theorem dX10_holds_70 : decode cX10_holds 70 = .ok (.goto 4, 3) := dk_167 0 4 (dk_at dksX10_holds_3 0 rfl rfl)
theorem dX10_holds_73 : decode cX10_holds 73 = .ok (.iconst 0, 1) := dk_3 (dk_at dksX10_holds_3 3 rfl rfl)
theorem dX10_holds_74 : decode cX10_holds 74 = .ok (.iadd, 1) := dk_96 (dk_at dksX10_holds_3 4 rfl rfl)
theorem dX10_holds_75 : decode cX10_holds 75 = .ok (.ireturn, 1) := dk_172 (dk_at dksX10_holds_3 5 rfl rfl)
abbrev cX10_isPlain : ByteArray := prog_14_method_42_code
def yX10_isPlain : MethodName := ⟨RX10, "isPlain", "()Z"⟩
def dkwX10_isPlain_1 : List UInt8 := [155, 0, 7, 4, 167, 0, 4, 3, 60, 132, 2, 1, 167, 255, 226, 27, 172]
abbrev dktX10_isPlain_1 : List UInt8 := dkwX10_isPlain_1 ++ []
def dkwX10_isPlain_0 : List UInt8 := [4, 60, 3, 61, 28, 42, 180, 0, 143, 162, 0, 28, 27, 153, 0, 16, 42, 180, 0, 56, 28, 46]
abbrev dktX10_isPlain_0 : List UInt8 := dkwX10_isPlain_0 ++ dktX10_isPlain_1
theorem dksX10_isPlain_0 : cX10_isPlain.data.toList.drop 0 = dktX10_isPlain_0 := by decide +kernel
theorem dksX10_isPlain_1 : cX10_isPlain.data.toList.drop 22 = dktX10_isPlain_1 := dk_seg dksX10_isPlain_0 22 rfl rfl
theorem dX10_isPlain_0 : decode cX10_isPlain 0 = .ok (.iconst 1, 1) := dk_4 (dk_at dksX10_isPlain_0 0 rfl rfl)
theorem dX10_isPlain_1 : decode cX10_isPlain 1 = .ok (.istore_n 1, 1) := dk_60 (dk_at dksX10_isPlain_0 1 rfl rfl)
theorem dX10_isPlain_2 : decode cX10_isPlain 2 = .ok (.iconst 0, 1) := dk_3 (dk_at dksX10_isPlain_0 2 rfl rfl)
theorem dX10_isPlain_3 : decode cX10_isPlain 3 = .ok (.istore_n 2, 1) := dk_61 (dk_at dksX10_isPlain_0 3 rfl rfl)
theorem dX10_isPlain_4 : decode cX10_isPlain 4 = .ok (.iload_n 2, 1) := dk_28 (dk_at dksX10_isPlain_0 4 rfl rfl)
theorem dX10_isPlain_5 : decode cX10_isPlain 5 = .ok (.aload_n 0, 1) := dk_42 (dk_at dksX10_isPlain_0 5 rfl rfl)
theorem dX10_isPlain_6 : decode cX10_isPlain 6 = .ok (.getfield 143, 3) := dk_180 0 143 (dk_at dksX10_isPlain_0 6 rfl rfl)
theorem dX10_isPlain_9 : decode cX10_isPlain 9 = .ok (.if_icmp .ge 28, 3) := dk_162 0 28 (dk_at dksX10_isPlain_0 9 rfl rfl)
theorem dX10_isPlain_12 : decode cX10_isPlain 12 = .ok (.iload_n 1, 1) := dk_27 (dk_at dksX10_isPlain_0 12 rfl rfl)
theorem dX10_isPlain_13 : decode cX10_isPlain 13 = .ok (.ifCond .eq 16, 3) := dk_153 0 16 (dk_at dksX10_isPlain_0 13 rfl rfl)
theorem dX10_isPlain_16 : decode cX10_isPlain 16 = .ok (.aload_n 0, 1) := dk_42 (dk_at dksX10_isPlain_0 16 rfl rfl)
theorem dX10_isPlain_17 : decode cX10_isPlain 17 = .ok (.getfield 56, 3) := dk_180 0 56 (dk_at dksX10_isPlain_0 17 rfl rfl)
theorem dX10_isPlain_20 : decode cX10_isPlain 20 = .ok (.iload_n 2, 1) := dk_28 (dk_at dksX10_isPlain_0 20 rfl rfl)
theorem dX10_isPlain_21 : decode cX10_isPlain 21 = .ok (.iaload, 1) := dk_46 (dk_at dksX10_isPlain_0 21 rfl rfl)
theorem dX10_isPlain_22 : decode cX10_isPlain 22 = .ok (.ifCond .lt 7, 3) := dk_155 0 7 (dk_at dksX10_isPlain_1 0 rfl rfl)
theorem dX10_isPlain_25 : decode cX10_isPlain 25 = .ok (.iconst 1, 1) := dk_4 (dk_at dksX10_isPlain_1 3 rfl rfl)
theorem dX10_isPlain_26 : decode cX10_isPlain 26 = .ok (.goto 4, 3) := dk_167 0 4 (dk_at dksX10_isPlain_1 4 rfl rfl)
theorem dX10_isPlain_29 : decode cX10_isPlain 29 = .ok (.iconst 0, 1) := dk_3 (dk_at dksX10_isPlain_1 7 rfl rfl)
theorem dX10_isPlain_30 : decode cX10_isPlain 30 = .ok (.istore_n 1, 1) := dk_60 (dk_at dksX10_isPlain_1 8 rfl rfl)
theorem dX10_isPlain_31 : decode cX10_isPlain 31 = .ok (.iinc 2 1, 3) := dk_132 2 1 (dk_at dksX10_isPlain_1 9 rfl rfl)
theorem dX10_isPlain_34 : decode cX10_isPlain 34 = .ok (.goto (-30), 3) := dk_167 255 226 (dk_at dksX10_isPlain_1 12 rfl rfl)
theorem dX10_isPlain_37 : decode cX10_isPlain 37 = .ok (.iload_n 1, 1) := dk_27 (dk_at dksX10_isPlain_1 15 rfl rfl)
theorem dX10_isPlain_38 : decode cX10_isPlain 38 = .ok (.ireturn, 1) := dk_172 (dk_at dksX10_isPlain_1 16 rfl rfl)
abbrev cX10_split : ByteArray := prog_14_method_44_code
def yX10_split : MethodName := ⟨RX10, "split", "()I"⟩
def dkwX10_split_12 : List UInt8 := [167, 255, 164, 42, 4, 181, 0, 146, 28, 172]
abbrev dktX10_split_12 : List UInt8 := dkwX10_split_12 ++ []
def dkwX10_split_11 : List UInt8 := [167, 255, 217, 42, 180, 0, 62, 29, 42, 180, 0, 62, 29, 46, 4, 96, 79, 167, 255, 187, 132, 3, 1]
abbrev dktX10_split_11 : List UInt8 := dkwX10_split_11 ++ dktX10_split_12
def dkwX10_split_10 : List UInt8 := [180, 0, 78, 21, 4, 46, 42, 180, 0, 52, 16, 6, 29, 104, 21, 4, 96, 51, 100, 79, 132, 4, 1]
abbrev dktX10_split_10 : List UInt8 := dkwX10_split_10 ++ dktX10_split_11
def dkwX10_split_9 : List UInt8 := [153, 0, 65, 3, 54, 4, 21, 4, 42, 180, 0, 143, 162, 0, 36, 42, 180, 0, 78, 21, 4, 42]
abbrev dktX10_split_9 : List UInt8 := dkwX10_split_9 ++ dktX10_split_10
def dkwX10_split_8 : List UInt8 := [29, 42, 180, 0, 48, 3, 46, 162, 0, 88, 42, 180, 0, 62, 29, 3, 79, 42, 3, 29, 4, 182, 0, 202]
abbrev dktX10_split_8 : List UInt8 := dkwX10_split_8 ++ dktX10_split_9
def dkwX10_split_7 : List UInt8 := [180, 0, 52, 17, 46, 224, 16, 6, 28, 104, 96, 29, 96, 51, 100, 79, 132, 3, 1, 167, 255, 217, 3, 62]
abbrev dktX10_split_7 : List UInt8 := dkwX10_split_7 ++ dktX10_split_8
def dkwX10_split_6 : List UInt8 := [3, 62, 29, 42, 180, 0, 143, 162, 0, 37, 42, 180, 0, 78, 29, 42, 180, 0, 78, 29, 46, 42]
abbrev dktX10_split_6 : List UInt8 := dkwX10_split_6 ++ dktX10_split_7
def dkwX10_split_5 : List UInt8 := [132, 2, 1, 167, 255, 233, 3, 61, 42, 4, 28, 4, 182, 0, 202, 154, 0, 9, 132, 2, 1, 167, 255, 243]
abbrev dktX10_split_5 : List UInt8 := dkwX10_split_5 ++ dktX10_split_6
def dkwX10_split_4 : List UInt8 := [2, 172, 3, 61, 28, 42, 180, 0, 143, 162, 0, 21, 42, 180, 0, 78, 28, 42, 180, 0, 56, 28, 46, 79]
abbrev dktX10_split_4 : List UInt8 := dkwX10_split_4 ++ dktX10_split_5
def dkwX10_split_3 : List UInt8 := [51, 153, 0, 23, 27, 42, 180, 0, 45, 3, 46, 163, 0, 13, 27, 42, 180, 0, 45, 4, 46, 164, 0, 5]
abbrev dktX10_split_3 : List UInt8 := dkwX10_split_3 ++ dktX10_split_4
def dkwX10_split_2 : List UInt8 := [180, 0, 56, 4, 182, 0, 198, 153, 0, 41, 42, 180, 0, 41, 3, 51, 153, 0, 32, 42, 180, 0, 41, 4]
abbrev dktX10_split_2 : List UInt8 := dkwX10_split_2 ++ dktX10_split_3
def dkwX10_split_1 : List UInt8 := [96, 60, 132, 2, 1, 167, 255, 236, 42, 180, 0, 133, 153, 0, 60, 42, 182, 0, 227, 153, 0, 53, 42, 42]
abbrev dktX10_split_1 : List UInt8 := dkwX10_split_1 ++ dktX10_split_2
def dkwX10_split_0 : List UInt8 := [42, 3, 181, 0, 81, 3, 60, 3, 61, 28, 42, 180, 0, 143, 162, 0, 18, 27, 42, 180, 0, 56, 28, 46]
abbrev dktX10_split_0 : List UInt8 := dkwX10_split_0 ++ dktX10_split_1
theorem dksX10_split_0 : cX10_split.data.toList.drop 0 = dktX10_split_0 := by decide +kernel
theorem dksX10_split_1 : cX10_split.data.toList.drop 24 = dktX10_split_1 := dk_seg dksX10_split_0 24 rfl rfl
theorem dksX10_split_2 : cX10_split.data.toList.drop 48 = dktX10_split_2 := dk_seg dksX10_split_1 24 rfl rfl
theorem dksX10_split_3 : cX10_split.data.toList.drop 72 = dktX10_split_3 := dk_seg dksX10_split_2 24 rfl rfl
theorem dksX10_split_4 : cX10_split.data.toList.drop 96 = dktX10_split_4 := dk_seg dksX10_split_3 24 rfl rfl
theorem dksX10_split_5 : cX10_split.data.toList.drop 120 = dktX10_split_5 := dk_seg dksX10_split_4 24 rfl rfl
theorem dksX10_split_6 : cX10_split.data.toList.drop 144 = dktX10_split_6 := dk_seg dksX10_split_5 24 rfl rfl
theorem dksX10_split_7 : cX10_split.data.toList.drop 166 = dktX10_split_7 := dk_seg dksX10_split_6 22 rfl rfl
theorem dksX10_split_8 : cX10_split.data.toList.drop 190 = dktX10_split_8 := dk_seg dksX10_split_7 24 rfl rfl
theorem dksX10_split_9 : cX10_split.data.toList.drop 214 = dktX10_split_9 := dk_seg dksX10_split_8 24 rfl rfl
theorem dksX10_split_10 : cX10_split.data.toList.drop 236 = dktX10_split_10 := dk_seg dksX10_split_9 22 rfl rfl
theorem dksX10_split_11 : cX10_split.data.toList.drop 259 = dktX10_split_11 := dk_seg dksX10_split_10 23 rfl rfl
theorem dksX10_split_12 : cX10_split.data.toList.drop 282 = dktX10_split_12 := dk_seg dksX10_split_11 23 rfl rfl
theorem dX10_split_0 : decode cX10_split 0 = .ok (.aload_n 0, 1) := dk_42 (dk_at dksX10_split_0 0 rfl rfl)
theorem dX10_split_1 : decode cX10_split 1 = .ok (.iconst 0, 1) := dk_3 (dk_at dksX10_split_0 1 rfl rfl)
theorem dX10_split_2 : decode cX10_split 2 = .ok (.putfield 81, 3) := dk_181 0 81 (dk_at dksX10_split_0 2 rfl rfl)
theorem dX10_split_5 : decode cX10_split 5 = .ok (.iconst 0, 1) := dk_3 (dk_at dksX10_split_0 5 rfl rfl)
theorem dX10_split_6 : decode cX10_split 6 = .ok (.istore_n 1, 1) := dk_60 (dk_at dksX10_split_0 6 rfl rfl)
theorem dX10_split_7 : decode cX10_split 7 = .ok (.iconst 0, 1) := dk_3 (dk_at dksX10_split_0 7 rfl rfl)
theorem dX10_split_8 : decode cX10_split 8 = .ok (.istore_n 2, 1) := dk_61 (dk_at dksX10_split_0 8 rfl rfl)
theorem dX10_split_9 : decode cX10_split 9 = .ok (.iload_n 2, 1) := dk_28 (dk_at dksX10_split_0 9 rfl rfl)
theorem dX10_split_10 : decode cX10_split 10 = .ok (.aload_n 0, 1) := dk_42 (dk_at dksX10_split_0 10 rfl rfl)
theorem dX10_split_11 : decode cX10_split 11 = .ok (.getfield 143, 3) := dk_180 0 143 (dk_at dksX10_split_0 11 rfl rfl)
theorem dX10_split_14 : decode cX10_split 14 = .ok (.if_icmp .ge 18, 3) := dk_162 0 18 (dk_at dksX10_split_0 14 rfl rfl)
theorem dX10_split_17 : decode cX10_split 17 = .ok (.iload_n 1, 1) := dk_27 (dk_at dksX10_split_0 17 rfl rfl)
theorem dX10_split_18 : decode cX10_split 18 = .ok (.aload_n 0, 1) := dk_42 (dk_at dksX10_split_0 18 rfl rfl)
theorem dX10_split_19 : decode cX10_split 19 = .ok (.getfield 56, 3) := dk_180 0 56 (dk_at dksX10_split_0 19 rfl rfl)
theorem dX10_split_22 : decode cX10_split 22 = .ok (.iload_n 2, 1) := dk_28 (dk_at dksX10_split_0 22 rfl rfl)
theorem dX10_split_23 : decode cX10_split 23 = .ok (.iaload, 1) := dk_46 (dk_at dksX10_split_0 23 rfl rfl)
theorem dX10_split_24 : decode cX10_split 24 = .ok (.iadd, 1) := dk_96 (dk_at dksX10_split_1 0 rfl rfl)
theorem dX10_split_25 : decode cX10_split 25 = .ok (.istore_n 1, 1) := dk_60 (dk_at dksX10_split_1 1 rfl rfl)
theorem dX10_split_26 : decode cX10_split 26 = .ok (.iinc 2 1, 3) := dk_132 2 1 (dk_at dksX10_split_1 2 rfl rfl)
theorem dX10_split_29 : decode cX10_split 29 = .ok (.goto (-20), 3) := dk_167 255 236 (dk_at dksX10_split_1 5 rfl rfl)
theorem dX10_split_32 : decode cX10_split 32 = .ok (.aload_n 0, 1) := dk_42 (dk_at dksX10_split_1 8 rfl rfl)
theorem dX10_split_33 : decode cX10_split 33 = .ok (.getfield 133, 3) := dk_180 0 133 (dk_at dksX10_split_1 9 rfl rfl)
theorem dX10_split_36 : decode cX10_split 36 = .ok (.ifCond .eq 60, 3) := dk_153 0 60 (dk_at dksX10_split_1 12 rfl rfl)
theorem dX10_split_39 : decode cX10_split 39 = .ok (.aload_n 0, 1) := dk_42 (dk_at dksX10_split_1 15 rfl rfl)
theorem dX10_split_40 : decode cX10_split 40 = .ok (.invokevirtual 227, 3) := dk_182 0 227 (dk_at dksX10_split_1 16 rfl rfl)
theorem dX10_split_43 : decode cX10_split 43 = .ok (.ifCond .eq 53, 3) := dk_153 0 53 (dk_at dksX10_split_1 19 rfl rfl)
theorem dX10_split_46 : decode cX10_split 46 = .ok (.aload_n 0, 1) := dk_42 (dk_at dksX10_split_1 22 rfl rfl)
theorem dX10_split_47 : decode cX10_split 47 = .ok (.aload_n 0, 1) := dk_42 (dk_at dksX10_split_1 23 rfl rfl)
theorem dX10_split_48 : decode cX10_split 48 = .ok (.getfield 56, 3) := dk_180 0 56 (dk_at dksX10_split_2 0 rfl rfl)
theorem dX10_split_51 : decode cX10_split 51 = .ok (.iconst 1, 1) := dk_4 (dk_at dksX10_split_2 3 rfl rfl)
theorem dX10_split_52 : decode cX10_split 52 = .ok (.invokevirtual 198, 3) := dk_182 0 198 (dk_at dksX10_split_2 4 rfl rfl)
theorem dX10_split_55 : decode cX10_split 55 = .ok (.ifCond .eq 41, 3) := dk_153 0 41 (dk_at dksX10_split_2 7 rfl rfl)
theorem dX10_split_58 : decode cX10_split 58 = .ok (.aload_n 0, 1) := dk_42 (dk_at dksX10_split_2 10 rfl rfl)
theorem dX10_split_59 : decode cX10_split 59 = .ok (.getfield 41, 3) := dk_180 0 41 (dk_at dksX10_split_2 11 rfl rfl)
theorem dX10_split_62 : decode cX10_split 62 = .ok (.iconst 0, 1) := dk_3 (dk_at dksX10_split_2 14 rfl rfl)
theorem dX10_split_63 : decode cX10_split 63 = .ok (.baload, 1) := dk_51 (dk_at dksX10_split_2 15 rfl rfl)
theorem dX10_split_64 : decode cX10_split 64 = .ok (.ifCond .eq 32, 3) := dk_153 0 32 (dk_at dksX10_split_2 16 rfl rfl)
theorem dX10_split_67 : decode cX10_split 67 = .ok (.aload_n 0, 1) := dk_42 (dk_at dksX10_split_2 19 rfl rfl)
theorem dX10_split_68 : decode cX10_split 68 = .ok (.getfield 41, 3) := dk_180 0 41 (dk_at dksX10_split_2 20 rfl rfl)
theorem dX10_split_71 : decode cX10_split 71 = .ok (.iconst 1, 1) := dk_4 (dk_at dksX10_split_2 23 rfl rfl)
theorem dX10_split_72 : decode cX10_split 72 = .ok (.baload, 1) := dk_51 (dk_at dksX10_split_3 0 rfl rfl)
theorem dX10_split_73 : decode cX10_split 73 = .ok (.ifCond .eq 23, 3) := dk_153 0 23 (dk_at dksX10_split_3 1 rfl rfl)
theorem dX10_split_76 : decode cX10_split 76 = .ok (.iload_n 1, 1) := dk_27 (dk_at dksX10_split_3 4 rfl rfl)
theorem dX10_split_77 : decode cX10_split 77 = .ok (.aload_n 0, 1) := dk_42 (dk_at dksX10_split_3 5 rfl rfl)
theorem dX10_split_78 : decode cX10_split 78 = .ok (.getfield 45, 3) := dk_180 0 45 (dk_at dksX10_split_3 6 rfl rfl)
theorem dX10_split_81 : decode cX10_split 81 = .ok (.iconst 0, 1) := dk_3 (dk_at dksX10_split_3 9 rfl rfl)
theorem dX10_split_82 : decode cX10_split 82 = .ok (.iaload, 1) := dk_46 (dk_at dksX10_split_3 10 rfl rfl)
theorem dX10_split_83 : decode cX10_split 83 = .ok (.if_icmp .gt 13, 3) := dk_163 0 13 (dk_at dksX10_split_3 11 rfl rfl)
theorem dX10_split_86 : decode cX10_split 86 = .ok (.iload_n 1, 1) := dk_27 (dk_at dksX10_split_3 14 rfl rfl)
theorem dX10_split_87 : decode cX10_split 87 = .ok (.aload_n 0, 1) := dk_42 (dk_at dksX10_split_3 15 rfl rfl)
theorem dX10_split_88 : decode cX10_split 88 = .ok (.getfield 45, 3) := dk_180 0 45 (dk_at dksX10_split_3 16 rfl rfl)
theorem dX10_split_91 : decode cX10_split 91 = .ok (.iconst 1, 1) := dk_4 (dk_at dksX10_split_3 19 rfl rfl)
theorem dX10_split_92 : decode cX10_split 92 = .ok (.iaload, 1) := dk_46 (dk_at dksX10_split_3 20 rfl rfl)
theorem dX10_split_93 : decode cX10_split 93 = .ok (.if_icmp .le 5, 3) := dk_164 0 5 (dk_at dksX10_split_3 21 rfl rfl)
theorem dX10_split_96 : decode cX10_split 96 = .ok (.iconst (-1), 1) := dk_2 (dk_at dksX10_split_4 0 rfl rfl)
theorem dX10_split_97 : decode cX10_split 97 = .ok (.ireturn, 1) := dk_172 (dk_at dksX10_split_4 1 rfl rfl)
theorem dX10_split_98 : decode cX10_split 98 = .ok (.iconst 0, 1) := dk_3 (dk_at dksX10_split_4 2 rfl rfl)
theorem dX10_split_99 : decode cX10_split 99 = .ok (.istore_n 2, 1) := dk_61 (dk_at dksX10_split_4 3 rfl rfl)
theorem dX10_split_100 : decode cX10_split 100 = .ok (.iload_n 2, 1) := dk_28 (dk_at dksX10_split_4 4 rfl rfl)
theorem dX10_split_101 : decode cX10_split 101 = .ok (.aload_n 0, 1) := dk_42 (dk_at dksX10_split_4 5 rfl rfl)
theorem dX10_split_102 : decode cX10_split 102 = .ok (.getfield 143, 3) := dk_180 0 143 (dk_at dksX10_split_4 6 rfl rfl)
theorem dX10_split_105 : decode cX10_split 105 = .ok (.if_icmp .ge 21, 3) := dk_162 0 21 (dk_at dksX10_split_4 9 rfl rfl)
theorem dX10_split_108 : decode cX10_split 108 = .ok (.aload_n 0, 1) := dk_42 (dk_at dksX10_split_4 12 rfl rfl)
theorem dX10_split_109 : decode cX10_split 109 = .ok (.getfield 78, 3) := dk_180 0 78 (dk_at dksX10_split_4 13 rfl rfl)
theorem dX10_split_112 : decode cX10_split 112 = .ok (.iload_n 2, 1) := dk_28 (dk_at dksX10_split_4 16 rfl rfl)
theorem dX10_split_113 : decode cX10_split 113 = .ok (.aload_n 0, 1) := dk_42 (dk_at dksX10_split_4 17 rfl rfl)
theorem dX10_split_114 : decode cX10_split 114 = .ok (.getfield 56, 3) := dk_180 0 56 (dk_at dksX10_split_4 18 rfl rfl)
theorem dX10_split_117 : decode cX10_split 117 = .ok (.iload_n 2, 1) := dk_28 (dk_at dksX10_split_4 21 rfl rfl)
theorem dX10_split_118 : decode cX10_split 118 = .ok (.iaload, 1) := dk_46 (dk_at dksX10_split_4 22 rfl rfl)
theorem dX10_split_119 : decode cX10_split 119 = .ok (.iastore, 1) := dk_79 (dk_at dksX10_split_4 23 rfl rfl)
theorem dX10_split_120 : decode cX10_split 120 = .ok (.iinc 2 1, 3) := dk_132 2 1 (dk_at dksX10_split_5 0 rfl rfl)
theorem dX10_split_123 : decode cX10_split 123 = .ok (.goto (-23), 3) := dk_167 255 233 (dk_at dksX10_split_5 3 rfl rfl)
theorem dX10_split_126 : decode cX10_split 126 = .ok (.iconst 0, 1) := dk_3 (dk_at dksX10_split_5 6 rfl rfl)
theorem dX10_split_127 : decode cX10_split 127 = .ok (.istore_n 2, 1) := dk_61 (dk_at dksX10_split_5 7 rfl rfl)
theorem dX10_split_128 : decode cX10_split 128 = .ok (.aload_n 0, 1) := dk_42 (dk_at dksX10_split_5 8 rfl rfl)
theorem dX10_split_129 : decode cX10_split 129 = .ok (.iconst 1, 1) := dk_4 (dk_at dksX10_split_5 9 rfl rfl)
theorem dX10_split_130 : decode cX10_split 130 = .ok (.iload_n 2, 1) := dk_28 (dk_at dksX10_split_5 10 rfl rfl)
theorem dX10_split_131 : decode cX10_split 131 = .ok (.iconst 1, 1) := dk_4 (dk_at dksX10_split_5 11 rfl rfl)
theorem dX10_split_132 : decode cX10_split 132 = .ok (.invokevirtual 202, 3) := dk_182 0 202 (dk_at dksX10_split_5 12 rfl rfl)
theorem dX10_split_135 : decode cX10_split 135 = .ok (.ifCond .ne 9, 3) := dk_154 0 9 (dk_at dksX10_split_5 15 rfl rfl)
theorem dX10_split_138 : decode cX10_split 138 = .ok (.iinc 2 1, 3) := dk_132 2 1 (dk_at dksX10_split_5 18 rfl rfl)
theorem dX10_split_141 : decode cX10_split 141 = .ok (.goto (-13), 3) := dk_167 255 243 (dk_at dksX10_split_5 21 rfl rfl)
theorem dX10_split_144 : decode cX10_split 144 = .ok (.iconst 0, 1) := dk_3 (dk_at dksX10_split_6 0 rfl rfl)
theorem dX10_split_145 : decode cX10_split 145 = .ok (.istore_n 3, 1) := dk_62 (dk_at dksX10_split_6 1 rfl rfl)
theorem dX10_split_146 : decode cX10_split 146 = .ok (.iload_n 3, 1) := dk_29 (dk_at dksX10_split_6 2 rfl rfl)
theorem dX10_split_147 : decode cX10_split 147 = .ok (.aload_n 0, 1) := dk_42 (dk_at dksX10_split_6 3 rfl rfl)
theorem dX10_split_148 : decode cX10_split 148 = .ok (.getfield 143, 3) := dk_180 0 143 (dk_at dksX10_split_6 4 rfl rfl)
theorem dX10_split_151 : decode cX10_split 151 = .ok (.if_icmp .ge 37, 3) := dk_162 0 37 (dk_at dksX10_split_6 7 rfl rfl)
theorem dX10_split_154 : decode cX10_split 154 = .ok (.aload_n 0, 1) := dk_42 (dk_at dksX10_split_6 10 rfl rfl)
theorem dX10_split_155 : decode cX10_split 155 = .ok (.getfield 78, 3) := dk_180 0 78 (dk_at dksX10_split_6 11 rfl rfl)
theorem dX10_split_158 : decode cX10_split 158 = .ok (.iload_n 3, 1) := dk_29 (dk_at dksX10_split_6 14 rfl rfl)
theorem dX10_split_159 : decode cX10_split 159 = .ok (.aload_n 0, 1) := dk_42 (dk_at dksX10_split_6 15 rfl rfl)
theorem dX10_split_160 : decode cX10_split 160 = .ok (.getfield 78, 3) := dk_180 0 78 (dk_at dksX10_split_6 16 rfl rfl)
theorem dX10_split_163 : decode cX10_split 163 = .ok (.iload_n 3, 1) := dk_29 (dk_at dksX10_split_6 19 rfl rfl)
theorem dX10_split_164 : decode cX10_split 164 = .ok (.iaload, 1) := dk_46 (dk_at dksX10_split_6 20 rfl rfl)
theorem dX10_split_165 : decode cX10_split 165 = .ok (.aload_n 0, 1) := dk_42 (dk_at dksX10_split_6 21 rfl rfl)
theorem dX10_split_166 : decode cX10_split 166 = .ok (.getfield 52, 3) := dk_180 0 52 (dk_at dksX10_split_7 0 rfl rfl)
theorem dX10_split_169 : decode cX10_split 169 = .ok (.sipush 12000, 3) := dk_17 46 224 (dk_at dksX10_split_7 3 rfl rfl)
theorem dX10_split_172 : decode cX10_split 172 = .ok (.bipush 6, 2) := dk_16 6 (dk_at dksX10_split_7 6 rfl rfl)
theorem dX10_split_174 : decode cX10_split 174 = .ok (.iload_n 2, 1) := dk_28 (dk_at dksX10_split_7 8 rfl rfl)
theorem dX10_split_175 : decode cX10_split 175 = .ok (.imul, 1) := dk_104 (dk_at dksX10_split_7 9 rfl rfl)
theorem dX10_split_176 : decode cX10_split 176 = .ok (.iadd, 1) := dk_96 (dk_at dksX10_split_7 10 rfl rfl)
theorem dX10_split_177 : decode cX10_split 177 = .ok (.iload_n 3, 1) := dk_29 (dk_at dksX10_split_7 11 rfl rfl)
theorem dX10_split_178 : decode cX10_split 178 = .ok (.iadd, 1) := dk_96 (dk_at dksX10_split_7 12 rfl rfl)
theorem dX10_split_179 : decode cX10_split 179 = .ok (.baload, 1) := dk_51 (dk_at dksX10_split_7 13 rfl rfl)
theorem dX10_split_180 : decode cX10_split 180 = .ok (.isub, 1) := dk_100 (dk_at dksX10_split_7 14 rfl rfl)
theorem dX10_split_181 : decode cX10_split 181 = .ok (.iastore, 1) := dk_79 (dk_at dksX10_split_7 15 rfl rfl)
theorem dX10_split_182 : decode cX10_split 182 = .ok (.iinc 3 1, 3) := dk_132 3 1 (dk_at dksX10_split_7 16 rfl rfl)
theorem dX10_split_185 : decode cX10_split 185 = .ok (.goto (-39), 3) := dk_167 255 217 (dk_at dksX10_split_7 19 rfl rfl)
theorem dX10_split_188 : decode cX10_split 188 = .ok (.iconst 0, 1) := dk_3 (dk_at dksX10_split_7 22 rfl rfl)
theorem dX10_split_189 : decode cX10_split 189 = .ok (.istore_n 3, 1) := dk_62 (dk_at dksX10_split_7 23 rfl rfl)
theorem dX10_split_190 : decode cX10_split 190 = .ok (.iload_n 3, 1) := dk_29 (dk_at dksX10_split_8 0 rfl rfl)
theorem dX10_split_191 : decode cX10_split 191 = .ok (.aload_n 0, 1) := dk_42 (dk_at dksX10_split_8 1 rfl rfl)
theorem dX10_split_192 : decode cX10_split 192 = .ok (.getfield 48, 3) := dk_180 0 48 (dk_at dksX10_split_8 2 rfl rfl)
theorem dX10_split_195 : decode cX10_split 195 = .ok (.iconst 0, 1) := dk_3 (dk_at dksX10_split_8 5 rfl rfl)
theorem dX10_split_196 : decode cX10_split 196 = .ok (.iaload, 1) := dk_46 (dk_at dksX10_split_8 6 rfl rfl)
theorem dX10_split_197 : decode cX10_split 197 = .ok (.if_icmp .ge 88, 3) := dk_162 0 88 (dk_at dksX10_split_8 7 rfl rfl)
theorem dX10_split_200 : decode cX10_split 200 = .ok (.aload_n 0, 1) := dk_42 (dk_at dksX10_split_8 10 rfl rfl)
theorem dX10_split_201 : decode cX10_split 201 = .ok (.getfield 62, 3) := dk_180 0 62 (dk_at dksX10_split_8 11 rfl rfl)
theorem dX10_split_204 : decode cX10_split 204 = .ok (.iload_n 3, 1) := dk_29 (dk_at dksX10_split_8 14 rfl rfl)
theorem dX10_split_205 : decode cX10_split 205 = .ok (.iconst 0, 1) := dk_3 (dk_at dksX10_split_8 15 rfl rfl)
theorem dX10_split_206 : decode cX10_split 206 = .ok (.iastore, 1) := dk_79 (dk_at dksX10_split_8 16 rfl rfl)
theorem dX10_split_207 : decode cX10_split 207 = .ok (.aload_n 0, 1) := dk_42 (dk_at dksX10_split_8 17 rfl rfl)
theorem dX10_split_208 : decode cX10_split 208 = .ok (.iconst 0, 1) := dk_3 (dk_at dksX10_split_8 18 rfl rfl)
theorem dX10_split_209 : decode cX10_split 209 = .ok (.iload_n 3, 1) := dk_29 (dk_at dksX10_split_8 19 rfl rfl)
theorem dX10_split_210 : decode cX10_split 210 = .ok (.iconst 1, 1) := dk_4 (dk_at dksX10_split_8 20 rfl rfl)
theorem dX10_split_211 : decode cX10_split 211 = .ok (.invokevirtual 202, 3) := dk_182 0 202 (dk_at dksX10_split_8 21 rfl rfl)
theorem dX10_split_214 : decode cX10_split 214 = .ok (.ifCond .eq 65, 3) := dk_153 0 65 (dk_at dksX10_split_9 0 rfl rfl)
theorem dX10_split_217 : decode cX10_split 217 = .ok (.iconst 0, 1) := dk_3 (dk_at dksX10_split_9 3 rfl rfl)
theorem dX10_split_218 : decode cX10_split 218 = .ok (.istore 4, 2) := dk_54 4 (dk_at dksX10_split_9 4 rfl rfl)
theorem dX10_split_220 : decode cX10_split 220 = .ok (.iload 4, 2) := dk_21 4 (dk_at dksX10_split_9 6 rfl rfl)
theorem dX10_split_222 : decode cX10_split 222 = .ok (.aload_n 0, 1) := dk_42 (dk_at dksX10_split_9 8 rfl rfl)
theorem dX10_split_223 : decode cX10_split 223 = .ok (.getfield 143, 3) := dk_180 0 143 (dk_at dksX10_split_9 9 rfl rfl)
theorem dX10_split_226 : decode cX10_split 226 = .ok (.if_icmp .ge 36, 3) := dk_162 0 36 (dk_at dksX10_split_9 12 rfl rfl)
theorem dX10_split_229 : decode cX10_split 229 = .ok (.aload_n 0, 1) := dk_42 (dk_at dksX10_split_9 15 rfl rfl)
theorem dX10_split_230 : decode cX10_split 230 = .ok (.getfield 78, 3) := dk_180 0 78 (dk_at dksX10_split_9 16 rfl rfl)
theorem dX10_split_233 : decode cX10_split 233 = .ok (.iload 4, 2) := dk_21 4 (dk_at dksX10_split_9 19 rfl rfl)
theorem dX10_split_235 : decode cX10_split 235 = .ok (.aload_n 0, 1) := dk_42 (dk_at dksX10_split_9 21 rfl rfl)
theorem dX10_split_236 : decode cX10_split 236 = .ok (.getfield 78, 3) := dk_180 0 78 (dk_at dksX10_split_10 0 rfl rfl)
theorem dX10_split_239 : decode cX10_split 239 = .ok (.iload 4, 2) := dk_21 4 (dk_at dksX10_split_10 3 rfl rfl)
theorem dX10_split_241 : decode cX10_split 241 = .ok (.iaload, 1) := dk_46 (dk_at dksX10_split_10 5 rfl rfl)
theorem dX10_split_242 : decode cX10_split 242 = .ok (.aload_n 0, 1) := dk_42 (dk_at dksX10_split_10 6 rfl rfl)
theorem dX10_split_243 : decode cX10_split 243 = .ok (.getfield 52, 3) := dk_180 0 52 (dk_at dksX10_split_10 7 rfl rfl)
theorem dX10_split_246 : decode cX10_split 246 = .ok (.bipush 6, 2) := dk_16 6 (dk_at dksX10_split_10 10 rfl rfl)
theorem dX10_split_248 : decode cX10_split 248 = .ok (.iload_n 3, 1) := dk_29 (dk_at dksX10_split_10 12 rfl rfl)
theorem dX10_split_249 : decode cX10_split 249 = .ok (.imul, 1) := dk_104 (dk_at dksX10_split_10 13 rfl rfl)
theorem dX10_split_250 : decode cX10_split 250 = .ok (.iload 4, 2) := dk_21 4 (dk_at dksX10_split_10 14 rfl rfl)
theorem dX10_split_252 : decode cX10_split 252 = .ok (.iadd, 1) := dk_96 (dk_at dksX10_split_10 16 rfl rfl)
theorem dX10_split_253 : decode cX10_split 253 = .ok (.baload, 1) := dk_51 (dk_at dksX10_split_10 17 rfl rfl)
theorem dX10_split_254 : decode cX10_split 254 = .ok (.isub, 1) := dk_100 (dk_at dksX10_split_10 18 rfl rfl)
theorem dX10_split_255 : decode cX10_split 255 = .ok (.iastore, 1) := dk_79 (dk_at dksX10_split_10 19 rfl rfl)
theorem dX10_split_256 : decode cX10_split 256 = .ok (.iinc 4 1, 3) := dk_132 4 1 (dk_at dksX10_split_10 20 rfl rfl)
theorem dX10_split_259 : decode cX10_split 259 = .ok (.goto (-39), 3) := dk_167 255 217 (dk_at dksX10_split_11 0 rfl rfl)
theorem dX10_split_262 : decode cX10_split 262 = .ok (.aload_n 0, 1) := dk_42 (dk_at dksX10_split_11 3 rfl rfl)
theorem dX10_split_263 : decode cX10_split 263 = .ok (.getfield 62, 3) := dk_180 0 62 (dk_at dksX10_split_11 4 rfl rfl)
theorem dX10_split_266 : decode cX10_split 266 = .ok (.iload_n 3, 1) := dk_29 (dk_at dksX10_split_11 7 rfl rfl)
theorem dX10_split_267 : decode cX10_split 267 = .ok (.aload_n 0, 1) := dk_42 (dk_at dksX10_split_11 8 rfl rfl)
theorem dX10_split_268 : decode cX10_split 268 = .ok (.getfield 62, 3) := dk_180 0 62 (dk_at dksX10_split_11 9 rfl rfl)
theorem dX10_split_271 : decode cX10_split 271 = .ok (.iload_n 3, 1) := dk_29 (dk_at dksX10_split_11 12 rfl rfl)
theorem dX10_split_272 : decode cX10_split 272 = .ok (.iaload, 1) := dk_46 (dk_at dksX10_split_11 13 rfl rfl)
theorem dX10_split_273 : decode cX10_split 273 = .ok (.iconst 1, 1) := dk_4 (dk_at dksX10_split_11 14 rfl rfl)
theorem dX10_split_274 : decode cX10_split 274 = .ok (.iadd, 1) := dk_96 (dk_at dksX10_split_11 15 rfl rfl)
theorem dX10_split_275 : decode cX10_split 275 = .ok (.iastore, 1) := dk_79 (dk_at dksX10_split_11 16 rfl rfl)
theorem dX10_split_276 : decode cX10_split 276 = .ok (.goto (-69), 3) := dk_167 255 187 (dk_at dksX10_split_11 17 rfl rfl)
theorem dX10_split_279 : decode cX10_split 279 = .ok (.iinc 3 1, 3) := dk_132 3 1 (dk_at dksX10_split_11 20 rfl rfl)
theorem dX10_split_282 : decode cX10_split 282 = .ok (.goto (-92), 3) := dk_167 255 164 (dk_at dksX10_split_12 0 rfl rfl)
theorem dX10_split_285 : decode cX10_split 285 = .ok (.aload_n 0, 1) := dk_42 (dk_at dksX10_split_12 3 rfl rfl)
theorem dX10_split_286 : decode cX10_split 286 = .ok (.iconst 1, 1) := dk_4 (dk_at dksX10_split_12 4 rfl rfl)
theorem dX10_split_287 : decode cX10_split 287 = .ok (.putfield 146, 3) := dk_181 0 146 (dk_at dksX10_split_12 5 rfl rfl)
theorem dX10_split_290 : decode cX10_split 290 = .ok (.iload_n 2, 1) := dk_28 (dk_at dksX10_split_12 8 rfl rfl)
theorem dX10_split_291 : decode cX10_split 291 = .ok (.ireturn, 1) := dk_172 (dk_at dksX10_split_12 9 rfl rfl)
abbrev cX10_times : ByteArray := prog_14_method_45_code
def yX10_times : MethodName := ⟨RX10, "times", "(I)I"⟩
def dkwX10_times_1 : List UInt8 := [162, 0, 12, 42, 180, 0, 62, 27, 46, 167, 0, 4, 2, 172]
abbrev dktX10_times_1 : List UInt8 := dkwX10_times_1 ++ []
def dkwX10_times_0 : List UInt8 := [42, 3, 181, 0, 81, 42, 180, 0, 146, 153, 0, 26, 27, 155, 0, 22, 27, 42, 180, 0, 48, 3, 46]
abbrev dktX10_times_0 : List UInt8 := dkwX10_times_0 ++ dktX10_times_1
theorem dksX10_times_0 : cX10_times.data.toList.drop 0 = dktX10_times_0 := by decide +kernel
theorem dksX10_times_1 : cX10_times.data.toList.drop 23 = dktX10_times_1 := dk_seg dksX10_times_0 23 rfl rfl
theorem dX10_times_0 : decode cX10_times 0 = .ok (.aload_n 0, 1) := dk_42 (dk_at dksX10_times_0 0 rfl rfl)
theorem dX10_times_1 : decode cX10_times 1 = .ok (.iconst 0, 1) := dk_3 (dk_at dksX10_times_0 1 rfl rfl)
theorem dX10_times_2 : decode cX10_times 2 = .ok (.putfield 81, 3) := dk_181 0 81 (dk_at dksX10_times_0 2 rfl rfl)
theorem dX10_times_5 : decode cX10_times 5 = .ok (.aload_n 0, 1) := dk_42 (dk_at dksX10_times_0 5 rfl rfl)
theorem dX10_times_6 : decode cX10_times 6 = .ok (.getfield 146, 3) := dk_180 0 146 (dk_at dksX10_times_0 6 rfl rfl)
theorem dX10_times_9 : decode cX10_times 9 = .ok (.ifCond .eq 26, 3) := dk_153 0 26 (dk_at dksX10_times_0 9 rfl rfl)
theorem dX10_times_12 : decode cX10_times 12 = .ok (.iload_n 1, 1) := dk_27 (dk_at dksX10_times_0 12 rfl rfl)
theorem dX10_times_13 : decode cX10_times 13 = .ok (.ifCond .lt 22, 3) := dk_155 0 22 (dk_at dksX10_times_0 13 rfl rfl)
theorem dX10_times_16 : decode cX10_times 16 = .ok (.iload_n 1, 1) := dk_27 (dk_at dksX10_times_0 16 rfl rfl)
theorem dX10_times_17 : decode cX10_times 17 = .ok (.aload_n 0, 1) := dk_42 (dk_at dksX10_times_0 17 rfl rfl)
theorem dX10_times_18 : decode cX10_times 18 = .ok (.getfield 48, 3) := dk_180 0 48 (dk_at dksX10_times_0 18 rfl rfl)
theorem dX10_times_21 : decode cX10_times 21 = .ok (.iconst 0, 1) := dk_3 (dk_at dksX10_times_0 21 rfl rfl)
theorem dX10_times_22 : decode cX10_times 22 = .ok (.iaload, 1) := dk_46 (dk_at dksX10_times_0 22 rfl rfl)
theorem dX10_times_23 : decode cX10_times 23 = .ok (.if_icmp .ge 12, 3) := dk_162 0 12 (dk_at dksX10_times_1 0 rfl rfl)
theorem dX10_times_26 : decode cX10_times 26 = .ok (.aload_n 0, 1) := dk_42 (dk_at dksX10_times_1 3 rfl rfl)
theorem dX10_times_27 : decode cX10_times 27 = .ok (.getfield 62, 3) := dk_180 0 62 (dk_at dksX10_times_1 4 rfl rfl)
theorem dX10_times_30 : decode cX10_times 30 = .ok (.iload_n 1, 1) := dk_27 (dk_at dksX10_times_1 7 rfl rfl)
theorem dX10_times_31 : decode cX10_times 31 = .ok (.iaload, 1) := dk_46 (dk_at dksX10_times_1 8 rfl rfl)
theorem dX10_times_32 : decode cX10_times 32 = .ok (.goto 4, 3) := dk_167 0 4 (dk_at dksX10_times_1 9 rfl rfl)
theorem dX10_times_35 : decode cX10_times 35 = .ok (.iconst (-1), 1) := dk_2 (dk_at dksX10_times_1 12 rfl rfl)
theorem dX10_times_36 : decode cX10_times 36 = .ok (.ireturn, 1) := dk_172 (dk_at dksX10_times_1 13 rfl rfl)
abbrev cX10_cost : ByteArray := prog_14_method_46_code
def yX10_cost : MethodName := ⟨RX10, "cost", "(II)V"⟩
def dkwX10_cost_2 : List UInt8 := [79, 177]
abbrev dktX10_cost_2 : List UInt8 := dkwX10_cost_2 ++ []
def dkwX10_cost_1 : List UInt8 := [164, 0, 7, 5, 167, 0, 4, 3, 181, 0, 81, 42, 180, 0, 81, 154, 0, 10, 42, 180, 0, 59, 27, 28]
abbrev dktX10_cost_1 : List UInt8 := dkwX10_cost_1 ++ dktX10_cost_2
def dkwX10_cost_0 : List UInt8 := [42, 42, 27, 182, 0, 194, 154, 0, 7, 4, 167, 0, 20, 28, 16, 157, 161, 0, 9, 28, 16, 99]
abbrev dktX10_cost_0 : List UInt8 := dkwX10_cost_0 ++ dktX10_cost_1
theorem dksX10_cost_0 : cX10_cost.data.toList.drop 0 = dktX10_cost_0 := by decide +kernel
theorem dksX10_cost_1 : cX10_cost.data.toList.drop 22 = dktX10_cost_1 := dk_seg dksX10_cost_0 22 rfl rfl
theorem dksX10_cost_2 : cX10_cost.data.toList.drop 46 = dktX10_cost_2 := dk_seg dksX10_cost_1 24 rfl rfl
theorem dX10_cost_0 : decode cX10_cost 0 = .ok (.aload_n 0, 1) := dk_42 (dk_at dksX10_cost_0 0 rfl rfl)
theorem dX10_cost_1 : decode cX10_cost 1 = .ok (.aload_n 0, 1) := dk_42 (dk_at dksX10_cost_0 1 rfl rfl)
theorem dX10_cost_2 : decode cX10_cost 2 = .ok (.iload_n 1, 1) := dk_27 (dk_at dksX10_cost_0 2 rfl rfl)
theorem dX10_cost_3 : decode cX10_cost 3 = .ok (.invokevirtual 194, 3) := dk_182 0 194 (dk_at dksX10_cost_0 3 rfl rfl)
theorem dX10_cost_6 : decode cX10_cost 6 = .ok (.ifCond .ne 7, 3) := dk_154 0 7 (dk_at dksX10_cost_0 6 rfl rfl)
theorem dX10_cost_9 : decode cX10_cost 9 = .ok (.iconst 1, 1) := dk_4 (dk_at dksX10_cost_0 9 rfl rfl)
theorem dX10_cost_10 : decode cX10_cost 10 = .ok (.goto 20, 3) := dk_167 0 20 (dk_at dksX10_cost_0 10 rfl rfl)
theorem dX10_cost_13 : decode cX10_cost 13 = .ok (.iload_n 2, 1) := dk_28 (dk_at dksX10_cost_0 13 rfl rfl)
theorem dX10_cost_14 : decode cX10_cost 14 = .ok (.bipush (-99), 2) := dk_16 157 (dk_at dksX10_cost_0 14 rfl rfl)
theorem dX10_cost_16 : decode cX10_cost 16 = .ok (.if_icmp .lt 9, 3) := dk_161 0 9 (dk_at dksX10_cost_0 16 rfl rfl)
theorem dX10_cost_19 : decode cX10_cost 19 = .ok (.iload_n 2, 1) := dk_28 (dk_at dksX10_cost_0 19 rfl rfl)
theorem dX10_cost_20 : decode cX10_cost 20 = .ok (.bipush 99, 2) := dk_16 99 (dk_at dksX10_cost_0 20 rfl rfl)
theorem dX10_cost_22 : decode cX10_cost 22 = .ok (.if_icmp .le 7, 3) := dk_164 0 7 (dk_at dksX10_cost_1 0 rfl rfl)
theorem dX10_cost_25 : decode cX10_cost 25 = .ok (.iconst 2, 1) := dk_5 (dk_at dksX10_cost_1 3 rfl rfl)
theorem dX10_cost_26 : decode cX10_cost 26 = .ok (.goto 4, 3) := dk_167 0 4 (dk_at dksX10_cost_1 4 rfl rfl)
theorem dX10_cost_29 : decode cX10_cost 29 = .ok (.iconst 0, 1) := dk_3 (dk_at dksX10_cost_1 7 rfl rfl)
theorem dX10_cost_30 : decode cX10_cost 30 = .ok (.putfield 81, 3) := dk_181 0 81 (dk_at dksX10_cost_1 8 rfl rfl)
theorem dX10_cost_33 : decode cX10_cost 33 = .ok (.aload_n 0, 1) := dk_42 (dk_at dksX10_cost_1 11 rfl rfl)
theorem dX10_cost_34 : decode cX10_cost 34 = .ok (.getfield 81, 3) := dk_180 0 81 (dk_at dksX10_cost_1 12 rfl rfl)
theorem dX10_cost_37 : decode cX10_cost 37 = .ok (.ifCond .ne 10, 3) := dk_154 0 10 (dk_at dksX10_cost_1 15 rfl rfl)
theorem dX10_cost_40 : decode cX10_cost 40 = .ok (.aload_n 0, 1) := dk_42 (dk_at dksX10_cost_1 18 rfl rfl)
theorem dX10_cost_41 : decode cX10_cost 41 = .ok (.getfield 59, 3) := dk_180 0 59 (dk_at dksX10_cost_1 19 rfl rfl)
theorem dX10_cost_44 : decode cX10_cost 44 = .ok (.iload_n 1, 1) := dk_27 (dk_at dksX10_cost_1 22 rfl rfl)
theorem dX10_cost_45 : decode cX10_cost 45 = .ok (.iload_n 2, 1) := dk_28 (dk_at dksX10_cost_1 23 rfl rfl)
theorem dX10_cost_46 : decode cX10_cost 46 = .ok (.iastore, 1) := dk_79 (dk_at dksX10_cost_2 0 rfl rfl)
theorem dX10_cost_47 : decode cX10_cost 47 = .ok (.return_, 1) := dk_177 (dk_at dksX10_cost_2 1 rfl rfl)
abbrev cX10_best : ByteArray := prog_14_method_48_code
def yX10_best : MethodName := ⟨RX10, "best", "(I)I"⟩
def dkwX10_best_10 : List UInt8 := [28, 153, 0, 7, 4, 167, 0, 4, 3, 181, 0, 149, 29, 172]
abbrev dktX10_best_10 : List UInt8 := dkwX10_best_10 ++ []
def dkwX10_best_9 : List UInt8 := [167, 255, 92, 42, 28, 153, 0, 7, 3, 167, 0, 4, 6, 181, 0, 81, 42, 42, 180, 0, 149, 154, 0, 7]
abbrev dktX10_best_9 : List UInt8 := dkwX10_best_9 ++ dktX10_best_10
def dkwX10_best_8 : List UInt8 := [158, 0, 15, 42, 3, 182, 0, 223, 153, 0, 7, 4, 167, 0, 4, 3, 54, 5, 167, 255, 118, 132, 4, 1]
abbrev dktX10_best_8 : List UInt8 := dkwX10_best_8 ++ dktX10_best_9
def dkwX10_best_7 : List UInt8 := [21, 7, 42, 180, 0, 78, 21, 7, 46, 79, 132, 7, 1, 167, 255, 230, 21, 6, 62, 4, 61, 21, 4]
abbrev dktX10_best_7 : List UInt8 := dkwX10_best_7 ++ dktX10_best_8
def dkwX10_best_6 : List UInt8 := [42, 182, 0, 231, 153, 0, 40, 3, 54, 7, 21, 7, 42, 180, 0, 143, 162, 0, 23, 42, 180, 0, 65]
abbrev dktX10_best_6 : List UInt8 := dkwX10_best_6 ++ dktX10_best_7
def dkwX10_best_5 : List UInt8 := [54, 6, 132, 7, 1, 167, 255, 224, 28, 153, 0, 22, 21, 6, 29, 161, 0, 16, 21, 6, 29, 160, 0, 47]
abbrev dktX10_best_5 : List UInt8 := dkwX10_best_5 ++ dktX10_best_6
def dkwX10_best_4 : List UInt8 := [180, 0, 143, 162, 0, 29, 21, 6, 42, 180, 0, 59, 21, 7, 46, 42, 180, 0, 78, 21, 7, 46, 104, 96]
abbrev dktX10_best_4 : List UInt8 := dkwX10_best_4 ++ dktX10_best_5
def dkwX10_best_3 : List UInt8 := [153, 0, 139, 42, 42, 180, 0, 78, 4, 182, 0, 198, 153, 0, 104, 3, 54, 6, 3, 54, 7, 21, 7, 42]
abbrev dktX10_best_3 : List UInt8 := dkwX10_best_3 ++ dktX10_best_4
def dkwX10_best_2 : List UInt8 := [21, 4, 42, 27, 182, 0, 210, 163, 0, 160, 42, 21, 4, 3, 182, 0, 213, 4, 54, 5, 21, 5]
abbrev dktX10_best_2 : List UInt8 := dkwX10_best_2 ++ dktX10_best_3
def dkwX10_best_1 : List UInt8 := [167, 0, 4, 3, 181, 0, 81, 42, 180, 0, 81, 158, 0, 5, 3, 172, 3, 61, 3, 62, 3, 54, 4]
abbrev dktX10_best_1 : List UInt8 := dkwX10_best_1 ++ dktX10_best_2
def dkwX10_best_0 : List UInt8 := [42, 27, 155, 0, 9, 27, 16, 16, 164, 0, 7, 4, 167, 0, 15, 42, 180, 0, 133, 154, 0, 7, 5]
abbrev dktX10_best_0 : List UInt8 := dkwX10_best_0 ++ dktX10_best_1
theorem dksX10_best_0 : cX10_best.data.toList.drop 0 = dktX10_best_0 := by decide +kernel
theorem dksX10_best_1 : cX10_best.data.toList.drop 23 = dktX10_best_1 := dk_seg dksX10_best_0 23 rfl rfl
theorem dksX10_best_2 : cX10_best.data.toList.drop 46 = dktX10_best_2 := dk_seg dksX10_best_1 23 rfl rfl
theorem dksX10_best_3 : cX10_best.data.toList.drop 68 = dktX10_best_3 := dk_seg dksX10_best_2 22 rfl rfl
theorem dksX10_best_4 : cX10_best.data.toList.drop 92 = dktX10_best_4 := dk_seg dksX10_best_3 24 rfl rfl
theorem dksX10_best_5 : cX10_best.data.toList.drop 116 = dktX10_best_5 := dk_seg dksX10_best_4 24 rfl rfl
theorem dksX10_best_6 : cX10_best.data.toList.drop 140 = dktX10_best_6 := dk_seg dksX10_best_5 24 rfl rfl
theorem dksX10_best_7 : cX10_best.data.toList.drop 163 = dktX10_best_7 := dk_seg dksX10_best_6 23 rfl rfl
theorem dksX10_best_8 : cX10_best.data.toList.drop 186 = dktX10_best_8 := dk_seg dksX10_best_7 23 rfl rfl
theorem dksX10_best_9 : cX10_best.data.toList.drop 210 = dktX10_best_9 := dk_seg dksX10_best_8 24 rfl rfl
theorem dksX10_best_10 : cX10_best.data.toList.drop 234 = dktX10_best_10 := dk_seg dksX10_best_9 24 rfl rfl
theorem dX10_best_0 : decode cX10_best 0 = .ok (.aload_n 0, 1) := dk_42 (dk_at dksX10_best_0 0 rfl rfl)
theorem dX10_best_1 : decode cX10_best 1 = .ok (.iload_n 1, 1) := dk_27 (dk_at dksX10_best_0 1 rfl rfl)
theorem dX10_best_2 : decode cX10_best 2 = .ok (.ifCond .lt 9, 3) := dk_155 0 9 (dk_at dksX10_best_0 2 rfl rfl)
theorem dX10_best_5 : decode cX10_best 5 = .ok (.iload_n 1, 1) := dk_27 (dk_at dksX10_best_0 5 rfl rfl)
theorem dX10_best_6 : decode cX10_best 6 = .ok (.bipush 16, 2) := dk_16 16 (dk_at dksX10_best_0 6 rfl rfl)
theorem dX10_best_8 : decode cX10_best 8 = .ok (.if_icmp .le 7, 3) := dk_164 0 7 (dk_at dksX10_best_0 8 rfl rfl)
theorem dX10_best_11 : decode cX10_best 11 = .ok (.iconst 1, 1) := dk_4 (dk_at dksX10_best_0 11 rfl rfl)
theorem dX10_best_12 : decode cX10_best 12 = .ok (.goto 15, 3) := dk_167 0 15 (dk_at dksX10_best_0 12 rfl rfl)
theorem dX10_best_15 : decode cX10_best 15 = .ok (.aload_n 0, 1) := dk_42 (dk_at dksX10_best_0 15 rfl rfl)
theorem dX10_best_16 : decode cX10_best 16 = .ok (.getfield 133, 3) := dk_180 0 133 (dk_at dksX10_best_0 16 rfl rfl)
theorem dX10_best_19 : decode cX10_best 19 = .ok (.ifCond .ne 7, 3) := dk_154 0 7 (dk_at dksX10_best_0 19 rfl rfl)
theorem dX10_best_22 : decode cX10_best 22 = .ok (.iconst 2, 1) := dk_5 (dk_at dksX10_best_0 22 rfl rfl)
theorem dX10_best_23 : decode cX10_best 23 = .ok (.goto 4, 3) := dk_167 0 4 (dk_at dksX10_best_1 0 rfl rfl)
theorem dX10_best_26 : decode cX10_best 26 = .ok (.iconst 0, 1) := dk_3 (dk_at dksX10_best_1 3 rfl rfl)
theorem dX10_best_27 : decode cX10_best 27 = .ok (.putfield 81, 3) := dk_181 0 81 (dk_at dksX10_best_1 4 rfl rfl)
theorem dX10_best_30 : decode cX10_best 30 = .ok (.aload_n 0, 1) := dk_42 (dk_at dksX10_best_1 7 rfl rfl)
theorem dX10_best_31 : decode cX10_best 31 = .ok (.getfield 81, 3) := dk_180 0 81 (dk_at dksX10_best_1 8 rfl rfl)
theorem dX10_best_34 : decode cX10_best 34 = .ok (.ifCond .le 5, 3) := dk_158 0 5 (dk_at dksX10_best_1 11 rfl rfl)
theorem dX10_best_37 : decode cX10_best 37 = .ok (.iconst 0, 1) := dk_3 (dk_at dksX10_best_1 14 rfl rfl)
theorem dX10_best_38 : decode cX10_best 38 = .ok (.ireturn, 1) := dk_172 (dk_at dksX10_best_1 15 rfl rfl)
theorem dX10_best_39 : decode cX10_best 39 = .ok (.iconst 0, 1) := dk_3 (dk_at dksX10_best_1 16 rfl rfl)
theorem dX10_best_40 : decode cX10_best 40 = .ok (.istore_n 2, 1) := dk_61 (dk_at dksX10_best_1 17 rfl rfl)
theorem dX10_best_41 : decode cX10_best 41 = .ok (.iconst 0, 1) := dk_3 (dk_at dksX10_best_1 18 rfl rfl)
theorem dX10_best_42 : decode cX10_best 42 = .ok (.istore_n 3, 1) := dk_62 (dk_at dksX10_best_1 19 rfl rfl)
theorem dX10_best_43 : decode cX10_best 43 = .ok (.iconst 0, 1) := dk_3 (dk_at dksX10_best_1 20 rfl rfl)
theorem dX10_best_44 : decode cX10_best 44 = .ok (.istore 4, 2) := dk_54 4 (dk_at dksX10_best_1 21 rfl rfl)
theorem dX10_best_46 : decode cX10_best 46 = .ok (.iload 4, 2) := dk_21 4 (dk_at dksX10_best_2 0 rfl rfl)
theorem dX10_best_48 : decode cX10_best 48 = .ok (.aload_n 0, 1) := dk_42 (dk_at dksX10_best_2 2 rfl rfl)
theorem dX10_best_49 : decode cX10_best 49 = .ok (.iload_n 1, 1) := dk_27 (dk_at dksX10_best_2 3 rfl rfl)
theorem dX10_best_50 : decode cX10_best 50 = .ok (.invokevirtual 210, 3) := dk_182 0 210 (dk_at dksX10_best_2 4 rfl rfl)
theorem dX10_best_53 : decode cX10_best 53 = .ok (.if_icmp .gt 160, 3) := dk_163 0 160 (dk_at dksX10_best_2 7 rfl rfl)
theorem dX10_best_56 : decode cX10_best 56 = .ok (.aload_n 0, 1) := dk_42 (dk_at dksX10_best_2 10 rfl rfl)
theorem dX10_best_57 : decode cX10_best 57 = .ok (.iload 4, 2) := dk_21 4 (dk_at dksX10_best_2 11 rfl rfl)
theorem dX10_best_59 : decode cX10_best 59 = .ok (.iconst 0, 1) := dk_3 (dk_at dksX10_best_2 13 rfl rfl)
theorem dX10_best_60 : decode cX10_best 60 = .ok (.invokevirtual 213, 3) := dk_182 0 213 (dk_at dksX10_best_2 14 rfl rfl)
theorem dX10_best_63 : decode cX10_best 63 = .ok (.iconst 1, 1) := dk_4 (dk_at dksX10_best_2 17 rfl rfl)
theorem dX10_best_64 : decode cX10_best 64 = .ok (.istore 5, 2) := dk_54 5 (dk_at dksX10_best_2 18 rfl rfl)
theorem dX10_best_66 : decode cX10_best 66 = .ok (.iload 5, 2) := dk_21 5 (dk_at dksX10_best_2 20 rfl rfl)
theorem dX10_best_68 : decode cX10_best 68 = .ok (.ifCond .eq 139, 3) := dk_153 0 139 (dk_at dksX10_best_3 0 rfl rfl)
theorem dX10_best_71 : decode cX10_best 71 = .ok (.aload_n 0, 1) := dk_42 (dk_at dksX10_best_3 3 rfl rfl)
theorem dX10_best_72 : decode cX10_best 72 = .ok (.aload_n 0, 1) := dk_42 (dk_at dksX10_best_3 4 rfl rfl)
theorem dX10_best_73 : decode cX10_best 73 = .ok (.getfield 78, 3) := dk_180 0 78 (dk_at dksX10_best_3 5 rfl rfl)
theorem dX10_best_76 : decode cX10_best 76 = .ok (.iconst 1, 1) := dk_4 (dk_at dksX10_best_3 8 rfl rfl)
theorem dX10_best_77 : decode cX10_best 77 = .ok (.invokevirtual 198, 3) := dk_182 0 198 (dk_at dksX10_best_3 9 rfl rfl)
theorem dX10_best_80 : decode cX10_best 80 = .ok (.ifCond .eq 104, 3) := dk_153 0 104 (dk_at dksX10_best_3 12 rfl rfl)
theorem dX10_best_83 : decode cX10_best 83 = .ok (.iconst 0, 1) := dk_3 (dk_at dksX10_best_3 15 rfl rfl)
theorem dX10_best_84 : decode cX10_best 84 = .ok (.istore 6, 2) := dk_54 6 (dk_at dksX10_best_3 16 rfl rfl)
theorem dX10_best_86 : decode cX10_best 86 = .ok (.iconst 0, 1) := dk_3 (dk_at dksX10_best_3 18 rfl rfl)
theorem dX10_best_87 : decode cX10_best 87 = .ok (.istore 7, 2) := dk_54 7 (dk_at dksX10_best_3 19 rfl rfl)
theorem dX10_best_89 : decode cX10_best 89 = .ok (.iload 7, 2) := dk_21 7 (dk_at dksX10_best_3 21 rfl rfl)
theorem dX10_best_91 : decode cX10_best 91 = .ok (.aload_n 0, 1) := dk_42 (dk_at dksX10_best_3 23 rfl rfl)
theorem dX10_best_92 : decode cX10_best 92 = .ok (.getfield 143, 3) := dk_180 0 143 (dk_at dksX10_best_4 0 rfl rfl)
theorem dX10_best_95 : decode cX10_best 95 = .ok (.if_icmp .ge 29, 3) := dk_162 0 29 (dk_at dksX10_best_4 3 rfl rfl)
theorem dX10_best_98 : decode cX10_best 98 = .ok (.iload 6, 2) := dk_21 6 (dk_at dksX10_best_4 6 rfl rfl)
theorem dX10_best_100 : decode cX10_best 100 = .ok (.aload_n 0, 1) := dk_42 (dk_at dksX10_best_4 8 rfl rfl)
theorem dX10_best_101 : decode cX10_best 101 = .ok (.getfield 59, 3) := dk_180 0 59 (dk_at dksX10_best_4 9 rfl rfl)
theorem dX10_best_104 : decode cX10_best 104 = .ok (.iload 7, 2) := dk_21 7 (dk_at dksX10_best_4 12 rfl rfl)
theorem dX10_best_106 : decode cX10_best 106 = .ok (.iaload, 1) := dk_46 (dk_at dksX10_best_4 14 rfl rfl)
theorem dX10_best_107 : decode cX10_best 107 = .ok (.aload_n 0, 1) := dk_42 (dk_at dksX10_best_4 15 rfl rfl)
theorem dX10_best_108 : decode cX10_best 108 = .ok (.getfield 78, 3) := dk_180 0 78 (dk_at dksX10_best_4 16 rfl rfl)
theorem dX10_best_111 : decode cX10_best 111 = .ok (.iload 7, 2) := dk_21 7 (dk_at dksX10_best_4 19 rfl rfl)
theorem dX10_best_113 : decode cX10_best 113 = .ok (.iaload, 1) := dk_46 (dk_at dksX10_best_4 21 rfl rfl)
theorem dX10_best_114 : decode cX10_best 114 = .ok (.imul, 1) := dk_104 (dk_at dksX10_best_4 22 rfl rfl)
theorem dX10_best_115 : decode cX10_best 115 = .ok (.iadd, 1) := dk_96 (dk_at dksX10_best_4 23 rfl rfl)
theorem dX10_best_116 : decode cX10_best 116 = .ok (.istore 6, 2) := dk_54 6 (dk_at dksX10_best_5 0 rfl rfl)
theorem dX10_best_118 : decode cX10_best 118 = .ok (.iinc 7 1, 3) := dk_132 7 1 (dk_at dksX10_best_5 2 rfl rfl)
theorem dX10_best_121 : decode cX10_best 121 = .ok (.goto (-32), 3) := dk_167 255 224 (dk_at dksX10_best_5 5 rfl rfl)
theorem dX10_best_124 : decode cX10_best 124 = .ok (.iload_n 2, 1) := dk_28 (dk_at dksX10_best_5 8 rfl rfl)
theorem dX10_best_125 : decode cX10_best 125 = .ok (.ifCond .eq 22, 3) := dk_153 0 22 (dk_at dksX10_best_5 9 rfl rfl)
theorem dX10_best_128 : decode cX10_best 128 = .ok (.iload 6, 2) := dk_21 6 (dk_at dksX10_best_5 12 rfl rfl)
theorem dX10_best_130 : decode cX10_best 130 = .ok (.iload_n 3, 1) := dk_29 (dk_at dksX10_best_5 14 rfl rfl)
theorem dX10_best_131 : decode cX10_best 131 = .ok (.if_icmp .lt 16, 3) := dk_161 0 16 (dk_at dksX10_best_5 15 rfl rfl)
theorem dX10_best_134 : decode cX10_best 134 = .ok (.iload 6, 2) := dk_21 6 (dk_at dksX10_best_5 18 rfl rfl)
theorem dX10_best_136 : decode cX10_best 136 = .ok (.iload_n 3, 1) := dk_29 (dk_at dksX10_best_5 20 rfl rfl)
theorem dX10_best_137 : decode cX10_best 137 = .ok (.if_icmp .ne 47, 3) := dk_160 0 47 (dk_at dksX10_best_5 21 rfl rfl)
theorem dX10_best_140 : decode cX10_best 140 = .ok (.aload_n 0, 1) := dk_42 (dk_at dksX10_best_6 0 rfl rfl)
theorem dX10_best_141 : decode cX10_best 141 = .ok (.invokevirtual 231, 3) := dk_182 0 231 (dk_at dksX10_best_6 1 rfl rfl)
theorem dX10_best_144 : decode cX10_best 144 = .ok (.ifCond .eq 40, 3) := dk_153 0 40 (dk_at dksX10_best_6 4 rfl rfl)
theorem dX10_best_147 : decode cX10_best 147 = .ok (.iconst 0, 1) := dk_3 (dk_at dksX10_best_6 7 rfl rfl)
theorem dX10_best_148 : decode cX10_best 148 = .ok (.istore 7, 2) := dk_54 7 (dk_at dksX10_best_6 8 rfl rfl)
theorem dX10_best_150 : decode cX10_best 150 = .ok (.iload 7, 2) := dk_21 7 (dk_at dksX10_best_6 10 rfl rfl)
theorem dX10_best_152 : decode cX10_best 152 = .ok (.aload_n 0, 1) := dk_42 (dk_at dksX10_best_6 12 rfl rfl)
theorem dX10_best_153 : decode cX10_best 153 = .ok (.getfield 143, 3) := dk_180 0 143 (dk_at dksX10_best_6 13 rfl rfl)
theorem dX10_best_156 : decode cX10_best 156 = .ok (.if_icmp .ge 23, 3) := dk_162 0 23 (dk_at dksX10_best_6 16 rfl rfl)
theorem dX10_best_159 : decode cX10_best 159 = .ok (.aload_n 0, 1) := dk_42 (dk_at dksX10_best_6 19 rfl rfl)
theorem dX10_best_160 : decode cX10_best 160 = .ok (.getfield 65, 3) := dk_180 0 65 (dk_at dksX10_best_6 20 rfl rfl)
theorem dX10_best_163 : decode cX10_best 163 = .ok (.iload 7, 2) := dk_21 7 (dk_at dksX10_best_7 0 rfl rfl)
theorem dX10_best_165 : decode cX10_best 165 = .ok (.aload_n 0, 1) := dk_42 (dk_at dksX10_best_7 2 rfl rfl)
theorem dX10_best_166 : decode cX10_best 166 = .ok (.getfield 78, 3) := dk_180 0 78 (dk_at dksX10_best_7 3 rfl rfl)
theorem dX10_best_169 : decode cX10_best 169 = .ok (.iload 7, 2) := dk_21 7 (dk_at dksX10_best_7 6 rfl rfl)
theorem dX10_best_171 : decode cX10_best 171 = .ok (.iaload, 1) := dk_46 (dk_at dksX10_best_7 8 rfl rfl)
theorem dX10_best_172 : decode cX10_best 172 = .ok (.iastore, 1) := dk_79 (dk_at dksX10_best_7 9 rfl rfl)
theorem dX10_best_173 : decode cX10_best 173 = .ok (.iinc 7 1, 3) := dk_132 7 1 (dk_at dksX10_best_7 10 rfl rfl)
theorem dX10_best_176 : decode cX10_best 176 = .ok (.goto (-26), 3) := dk_167 255 230 (dk_at dksX10_best_7 13 rfl rfl)
theorem dX10_best_179 : decode cX10_best 179 = .ok (.iload 6, 2) := dk_21 6 (dk_at dksX10_best_7 16 rfl rfl)
theorem dX10_best_181 : decode cX10_best 181 = .ok (.istore_n 3, 1) := dk_62 (dk_at dksX10_best_7 18 rfl rfl)
theorem dX10_best_182 : decode cX10_best 182 = .ok (.iconst 1, 1) := dk_4 (dk_at dksX10_best_7 19 rfl rfl)
theorem dX10_best_183 : decode cX10_best 183 = .ok (.istore_n 2, 1) := dk_61 (dk_at dksX10_best_7 20 rfl rfl)
theorem dX10_best_184 : decode cX10_best 184 = .ok (.iload 4, 2) := dk_21 4 (dk_at dksX10_best_7 21 rfl rfl)
theorem dX10_best_186 : decode cX10_best 186 = .ok (.ifCond .le 15, 3) := dk_158 0 15 (dk_at dksX10_best_8 0 rfl rfl)
theorem dX10_best_189 : decode cX10_best 189 = .ok (.aload_n 0, 1) := dk_42 (dk_at dksX10_best_8 3 rfl rfl)
theorem dX10_best_190 : decode cX10_best 190 = .ok (.iconst 0, 1) := dk_3 (dk_at dksX10_best_8 4 rfl rfl)
theorem dX10_best_191 : decode cX10_best 191 = .ok (.invokevirtual 223, 3) := dk_182 0 223 (dk_at dksX10_best_8 5 rfl rfl)
theorem dX10_best_194 : decode cX10_best 194 = .ok (.ifCond .eq 7, 3) := dk_153 0 7 (dk_at dksX10_best_8 8 rfl rfl)
theorem dX10_best_197 : decode cX10_best 197 = .ok (.iconst 1, 1) := dk_4 (dk_at dksX10_best_8 11 rfl rfl)
theorem dX10_best_198 : decode cX10_best 198 = .ok (.goto 4, 3) := dk_167 0 4 (dk_at dksX10_best_8 12 rfl rfl)
theorem dX10_best_201 : decode cX10_best 201 = .ok (.iconst 0, 1) := dk_3 (dk_at dksX10_best_8 15 rfl rfl)
theorem dX10_best_202 : decode cX10_best 202 = .ok (.istore 5, 2) := dk_54 5 (dk_at dksX10_best_8 16 rfl rfl)
theorem dX10_best_204 : decode cX10_best 204 = .ok (.goto (-138), 3) := dk_167 255 118 (dk_at dksX10_best_8 18 rfl rfl)
theorem dX10_best_207 : decode cX10_best 207 = .ok (.iinc 4 1, 3) := dk_132 4 1 (dk_at dksX10_best_8 21 rfl rfl)
theorem dX10_best_210 : decode cX10_best 210 = .ok (.goto (-164), 3) := dk_167 255 92 (dk_at dksX10_best_9 0 rfl rfl)
theorem dX10_best_213 : decode cX10_best 213 = .ok (.aload_n 0, 1) := dk_42 (dk_at dksX10_best_9 3 rfl rfl)
theorem dX10_best_214 : decode cX10_best 214 = .ok (.iload_n 2, 1) := dk_28 (dk_at dksX10_best_9 4 rfl rfl)
theorem dX10_best_215 : decode cX10_best 215 = .ok (.ifCond .eq 7, 3) := dk_153 0 7 (dk_at dksX10_best_9 5 rfl rfl)
theorem dX10_best_218 : decode cX10_best 218 = .ok (.iconst 0, 1) := dk_3 (dk_at dksX10_best_9 8 rfl rfl)
theorem dX10_best_219 : decode cX10_best 219 = .ok (.goto 4, 3) := dk_167 0 4 (dk_at dksX10_best_9 9 rfl rfl)
theorem dX10_best_222 : decode cX10_best 222 = .ok (.iconst 3, 1) := dk_6 (dk_at dksX10_best_9 12 rfl rfl)
theorem dX10_best_223 : decode cX10_best 223 = .ok (.putfield 81, 3) := dk_181 0 81 (dk_at dksX10_best_9 13 rfl rfl)
theorem dX10_best_226 : decode cX10_best 226 = .ok (.aload_n 0, 1) := dk_42 (dk_at dksX10_best_9 16 rfl rfl)
theorem dX10_best_227 : decode cX10_best 227 = .ok (.aload_n 0, 1) := dk_42 (dk_at dksX10_best_9 17 rfl rfl)
theorem dX10_best_228 : decode cX10_best 228 = .ok (.getfield 149, 3) := dk_180 0 149 (dk_at dksX10_best_9 18 rfl rfl)
theorem dX10_best_231 : decode cX10_best 231 = .ok (.ifCond .ne 7, 3) := dk_154 0 7 (dk_at dksX10_best_9 21 rfl rfl)
theorem dX10_best_234 : decode cX10_best 234 = .ok (.iload_n 2, 1) := dk_28 (dk_at dksX10_best_10 0 rfl rfl)
theorem dX10_best_235 : decode cX10_best 235 = .ok (.ifCond .eq 7, 3) := dk_153 0 7 (dk_at dksX10_best_10 1 rfl rfl)
theorem dX10_best_238 : decode cX10_best 238 = .ok (.iconst 1, 1) := dk_4 (dk_at dksX10_best_10 4 rfl rfl)
theorem dX10_best_239 : decode cX10_best 239 = .ok (.goto 4, 3) := dk_167 0 4 (dk_at dksX10_best_10 5 rfl rfl)
theorem dX10_best_242 : decode cX10_best 242 = .ok (.iconst 0, 1) := dk_3 (dk_at dksX10_best_10 8 rfl rfl)
theorem dX10_best_243 : decode cX10_best 243 = .ok (.putfield 149, 3) := dk_181 0 149 (dk_at dksX10_best_10 9 rfl rfl)
theorem dX10_best_246 : decode cX10_best 246 = .ok (.iload_n 3, 1) := dk_29 (dk_at dksX10_best_10 12 rfl rfl)
theorem dX10_best_247 : decode cX10_best 247 = .ok (.ireturn, 1) := dk_172 (dk_at dksX10_best_10 13 rfl rfl)
abbrev cX10_isBefore : ByteArray := prog_14_method_47_code
def yX10_isBefore : MethodName := ⟨RX10, "isBefore", "()Z"⟩
def dkwX10_isBefore_2 : List UInt8 := [180, 0, 65, 27, 46, 162, 0, 7, 4, 167, 0, 4, 3, 172]
abbrev dktX10_isBefore_2 : List UInt8 := dkwX10_isBefore_2 ++ []
def dkwX10_isBefore_1 : List UInt8 := [160, 0, 9, 132, 1, 1, 167, 255, 230, 27, 42, 180, 0, 143, 162, 0, 22, 42, 180, 0, 78, 27, 46, 42]
abbrev dktX10_isBefore_1 : List UInt8 := dkwX10_isBefore_1 ++ dktX10_isBefore_2
def dkwX10_isBefore_0 : List UInt8 := [3, 60, 27, 42, 180, 0, 143, 162, 0, 24, 42, 180, 0, 78, 27, 46, 42, 180, 0, 65, 27, 46]
abbrev dktX10_isBefore_0 : List UInt8 := dkwX10_isBefore_0 ++ dktX10_isBefore_1
theorem dksX10_isBefore_0 : cX10_isBefore.data.toList.drop 0 = dktX10_isBefore_0 := by decide +kernel
theorem dksX10_isBefore_1 : cX10_isBefore.data.toList.drop 22 = dktX10_isBefore_1 := dk_seg dksX10_isBefore_0 22 rfl rfl
theorem dksX10_isBefore_2 : cX10_isBefore.data.toList.drop 46 = dktX10_isBefore_2 := dk_seg dksX10_isBefore_1 24 rfl rfl
theorem dX10_isBefore_0 : decode cX10_isBefore 0 = .ok (.iconst 0, 1) := dk_3 (dk_at dksX10_isBefore_0 0 rfl rfl)
theorem dX10_isBefore_1 : decode cX10_isBefore 1 = .ok (.istore_n 1, 1) := dk_60 (dk_at dksX10_isBefore_0 1 rfl rfl)
theorem dX10_isBefore_2 : decode cX10_isBefore 2 = .ok (.iload_n 1, 1) := dk_27 (dk_at dksX10_isBefore_0 2 rfl rfl)
theorem dX10_isBefore_3 : decode cX10_isBefore 3 = .ok (.aload_n 0, 1) := dk_42 (dk_at dksX10_isBefore_0 3 rfl rfl)
theorem dX10_isBefore_4 : decode cX10_isBefore 4 = .ok (.getfield 143, 3) := dk_180 0 143 (dk_at dksX10_isBefore_0 4 rfl rfl)
theorem dX10_isBefore_7 : decode cX10_isBefore 7 = .ok (.if_icmp .ge 24, 3) := dk_162 0 24 (dk_at dksX10_isBefore_0 7 rfl rfl)
theorem dX10_isBefore_10 : decode cX10_isBefore 10 = .ok (.aload_n 0, 1) := dk_42 (dk_at dksX10_isBefore_0 10 rfl rfl)
theorem dX10_isBefore_11 : decode cX10_isBefore 11 = .ok (.getfield 78, 3) := dk_180 0 78 (dk_at dksX10_isBefore_0 11 rfl rfl)
theorem dX10_isBefore_14 : decode cX10_isBefore 14 = .ok (.iload_n 1, 1) := dk_27 (dk_at dksX10_isBefore_0 14 rfl rfl)
theorem dX10_isBefore_15 : decode cX10_isBefore 15 = .ok (.iaload, 1) := dk_46 (dk_at dksX10_isBefore_0 15 rfl rfl)
theorem dX10_isBefore_16 : decode cX10_isBefore 16 = .ok (.aload_n 0, 1) := dk_42 (dk_at dksX10_isBefore_0 16 rfl rfl)
theorem dX10_isBefore_17 : decode cX10_isBefore 17 = .ok (.getfield 65, 3) := dk_180 0 65 (dk_at dksX10_isBefore_0 17 rfl rfl)
theorem dX10_isBefore_20 : decode cX10_isBefore 20 = .ok (.iload_n 1, 1) := dk_27 (dk_at dksX10_isBefore_0 20 rfl rfl)
theorem dX10_isBefore_21 : decode cX10_isBefore 21 = .ok (.iaload, 1) := dk_46 (dk_at dksX10_isBefore_0 21 rfl rfl)
theorem dX10_isBefore_22 : decode cX10_isBefore 22 = .ok (.if_icmp .ne 9, 3) := dk_160 0 9 (dk_at dksX10_isBefore_1 0 rfl rfl)
theorem dX10_isBefore_25 : decode cX10_isBefore 25 = .ok (.iinc 1 1, 3) := dk_132 1 1 (dk_at dksX10_isBefore_1 3 rfl rfl)
theorem dX10_isBefore_28 : decode cX10_isBefore 28 = .ok (.goto (-26), 3) := dk_167 255 230 (dk_at dksX10_isBefore_1 6 rfl rfl)
theorem dX10_isBefore_31 : decode cX10_isBefore 31 = .ok (.iload_n 1, 1) := dk_27 (dk_at dksX10_isBefore_1 9 rfl rfl)
theorem dX10_isBefore_32 : decode cX10_isBefore 32 = .ok (.aload_n 0, 1) := dk_42 (dk_at dksX10_isBefore_1 10 rfl rfl)
theorem dX10_isBefore_33 : decode cX10_isBefore 33 = .ok (.getfield 143, 3) := dk_180 0 143 (dk_at dksX10_isBefore_1 11 rfl rfl)
theorem dX10_isBefore_36 : decode cX10_isBefore 36 = .ok (.if_icmp .ge 22, 3) := dk_162 0 22 (dk_at dksX10_isBefore_1 14 rfl rfl)
theorem dX10_isBefore_39 : decode cX10_isBefore 39 = .ok (.aload_n 0, 1) := dk_42 (dk_at dksX10_isBefore_1 17 rfl rfl)
theorem dX10_isBefore_40 : decode cX10_isBefore 40 = .ok (.getfield 78, 3) := dk_180 0 78 (dk_at dksX10_isBefore_1 18 rfl rfl)
theorem dX10_isBefore_43 : decode cX10_isBefore 43 = .ok (.iload_n 1, 1) := dk_27 (dk_at dksX10_isBefore_1 21 rfl rfl)
theorem dX10_isBefore_44 : decode cX10_isBefore 44 = .ok (.iaload, 1) := dk_46 (dk_at dksX10_isBefore_1 22 rfl rfl)
theorem dX10_isBefore_45 : decode cX10_isBefore 45 = .ok (.aload_n 0, 1) := dk_42 (dk_at dksX10_isBefore_1 23 rfl rfl)
theorem dX10_isBefore_46 : decode cX10_isBefore 46 = .ok (.getfield 65, 3) := dk_180 0 65 (dk_at dksX10_isBefore_2 0 rfl rfl)
theorem dX10_isBefore_49 : decode cX10_isBefore 49 = .ok (.iload_n 1, 1) := dk_27 (dk_at dksX10_isBefore_2 3 rfl rfl)
theorem dX10_isBefore_50 : decode cX10_isBefore 50 = .ok (.iaload, 1) := dk_46 (dk_at dksX10_isBefore_2 4 rfl rfl)
theorem dX10_isBefore_51 : decode cX10_isBefore 51 = .ok (.if_icmp .ge 7, 3) := dk_162 0 7 (dk_at dksX10_isBefore_2 5 rfl rfl)
theorem dX10_isBefore_54 : decode cX10_isBefore 54 = .ok (.iconst 1, 1) := dk_4 (dk_at dksX10_isBefore_2 8 rfl rfl)
theorem dX10_isBefore_55 : decode cX10_isBefore 55 = .ok (.goto 4, 3) := dk_167 0 4 (dk_at dksX10_isBefore_2 9 rfl rfl)
theorem dX10_isBefore_58 : decode cX10_isBefore 58 = .ok (.iconst 0, 1) := dk_3 (dk_at dksX10_isBefore_2 12 rfl rfl)
theorem dX10_isBefore_59 : decode cX10_isBefore 59 = .ok (.ireturn, 1) := dk_172 (dk_at dksX10_isBefore_2 13 rfl rfl)
abbrev cX10_bestAt : ByteArray := prog_14_method_49_code
def yX10_bestAt : MethodName := ⟨RX10, "bestAt", "(I)I"⟩
def dkwX10_bestAt_1 : List UInt8 := [27, 46, 167, 0, 4, 2, 172]
abbrev dktX10_bestAt_1 : List UInt8 := dkwX10_bestAt_1 ++ []
def dkwX10_bestAt_0 : List UInt8 := [42, 3, 181, 0, 81, 42, 180, 0, 149, 153, 0, 20, 42, 27, 182, 0, 194, 153, 0, 12, 42, 180, 0, 65]
abbrev dktX10_bestAt_0 : List UInt8 := dkwX10_bestAt_0 ++ dktX10_bestAt_1
theorem dksX10_bestAt_0 : cX10_bestAt.data.toList.drop 0 = dktX10_bestAt_0 := by decide +kernel
theorem dksX10_bestAt_1 : cX10_bestAt.data.toList.drop 24 = dktX10_bestAt_1 := dk_seg dksX10_bestAt_0 24 rfl rfl
theorem dX10_bestAt_0 : decode cX10_bestAt 0 = .ok (.aload_n 0, 1) := dk_42 (dk_at dksX10_bestAt_0 0 rfl rfl)
theorem dX10_bestAt_1 : decode cX10_bestAt 1 = .ok (.iconst 0, 1) := dk_3 (dk_at dksX10_bestAt_0 1 rfl rfl)
theorem dX10_bestAt_2 : decode cX10_bestAt 2 = .ok (.putfield 81, 3) := dk_181 0 81 (dk_at dksX10_bestAt_0 2 rfl rfl)
theorem dX10_bestAt_5 : decode cX10_bestAt 5 = .ok (.aload_n 0, 1) := dk_42 (dk_at dksX10_bestAt_0 5 rfl rfl)
theorem dX10_bestAt_6 : decode cX10_bestAt 6 = .ok (.getfield 149, 3) := dk_180 0 149 (dk_at dksX10_bestAt_0 6 rfl rfl)
theorem dX10_bestAt_9 : decode cX10_bestAt 9 = .ok (.ifCond .eq 20, 3) := dk_153 0 20 (dk_at dksX10_bestAt_0 9 rfl rfl)
theorem dX10_bestAt_12 : decode cX10_bestAt 12 = .ok (.aload_n 0, 1) := dk_42 (dk_at dksX10_bestAt_0 12 rfl rfl)
theorem dX10_bestAt_13 : decode cX10_bestAt 13 = .ok (.iload_n 1, 1) := dk_27 (dk_at dksX10_bestAt_0 13 rfl rfl)
theorem dX10_bestAt_14 : decode cX10_bestAt 14 = .ok (.invokevirtual 194, 3) := dk_182 0 194 (dk_at dksX10_bestAt_0 14 rfl rfl)
theorem dX10_bestAt_17 : decode cX10_bestAt 17 = .ok (.ifCond .eq 12, 3) := dk_153 0 12 (dk_at dksX10_bestAt_0 17 rfl rfl)
theorem dX10_bestAt_20 : decode cX10_bestAt 20 = .ok (.aload_n 0, 1) := dk_42 (dk_at dksX10_bestAt_0 20 rfl rfl)
theorem dX10_bestAt_21 : decode cX10_bestAt 21 = .ok (.getfield 65, 3) := dk_180 0 65 (dk_at dksX10_bestAt_0 21 rfl rfl)
theorem dX10_bestAt_24 : decode cX10_bestAt 24 = .ok (.iload_n 1, 1) := dk_27 (dk_at dksX10_bestAt_1 0 rfl rfl)
theorem dX10_bestAt_25 : decode cX10_bestAt 25 = .ok (.iaload, 1) := dk_46 (dk_at dksX10_bestAt_1 1 rfl rfl)
theorem dX10_bestAt_26 : decode cX10_bestAt 26 = .ok (.goto 4, 3) := dk_167 0 4 (dk_at dksX10_bestAt_1 2 rfl rfl)
theorem dX10_bestAt_29 : decode cX10_bestAt 29 = .ok (.iconst (-1), 1) := dk_2 (dk_at dksX10_bestAt_1 5 rfl rfl)
theorem dX10_bestAt_30 : decode cX10_bestAt 30 = .ok (.ireturn, 1) := dk_172 (dk_at dksX10_bestAt_1 6 rfl rfl)
theorem q93 : (Jvm.Cond.initialized "LeastSolutionsModel") ∈ lw_all := lw_g (lw_at lw_m1 19 rfl) rfl
theorem q737 : (Jvm.Cond.selects "LeastSolutionsModel" ({ cls := "java/lang/Object", name := "getClass", desc := "()Ljava/lang/Class;" } : Jvm.MethodName) ({ cls := "java/lang/Object", name := "getClass", desc := "()Ljava/lang/Class;" } : Jvm.MethodName)) ∈ lw_all := lw_g (lw_at lw_m3 183 rfl) rfl
theorem q1384 : (Jvm.Cond.instantiable "LeastSolutionsModel" (36 : Nat)) ∈ lw_all := lw_g (lw_at lw_m6 110 rfl) rfl
theorem q1386 : (Jvm.Cond.instanceMethod ({ cls := "LeastSolutionsModel", name := "<init>", desc := "()V" } : Jvm.MethodName)) ∈ lw_all := lw_g (lw_at lw_m6 112 rfl) rfl
theorem q1387 : (Jvm.Cond.code ({ cls := "LeastSolutionsModel", name := "<init>", desc := "()V" } : Jvm.MethodName) prog_14_method_1_code (1 : Nat) (Option.none : Option Jvm.ClassFile.FieldType)) ∈ lw_all := lw_g (lw_at lw_m6 113 rfl) rfl
theorem q1388 : (Jvm.Cond.methodLink "LeastSolutionsModel" (1 : Nat) ({ cls := "java/lang/Object", name := "<init>", desc := "()V" } : Jvm.MethodName)) ∈ lw_all := lw_g (lw_at lw_m6 114 rfl) rfl
theorem q1389 : (Jvm.Cond.constant "LeastSolutionsModel" (51 : Nat) (36000 : Int32)) ∈ lw_all := lw_g (lw_at lw_m6 115 rfl) rfl
theorem q1390 : (Jvm.Cond.fieldLink "LeastSolutionsModel" (81 : Nat) "LeastSolutionsModel" "thrown" "I") ∈ lw_all := lw_g (lw_at lw_m6 116 rfl) rfl
theorem q1391 : (Jvm.Cond.fieldLink "LeastSolutionsModel" (7 : Nat) "LeastSolutionsModel" "text" "[I") ∈ lw_all := lw_g (lw_at lw_m6 117 rfl) rfl
theorem q1392 : (Jvm.Cond.fieldLink "LeastSolutionsModel" (84 : Nat) "LeastSolutionsModel" "length" "I") ∈ lw_all := lw_g (lw_at lw_m6 118 rfl) rfl
theorem q1393 : (Jvm.Cond.fieldLink "LeastSolutionsModel" (13 : Nat) "LeastSolutionsModel" "wrong" "I") ∈ lw_all := lw_g (lw_at lw_m6 119 rfl) rfl
theorem q1394 : (Jvm.Cond.fieldLink "LeastSolutionsModel" (17 : Nat) "LeastSolutionsModel" "kinds" "[I") ∈ lw_all := lw_g (lw_at lw_m6 120 rfl) rfl
theorem q1395 : (Jvm.Cond.fieldLink "LeastSolutionsModel" (20 : Nat) "LeastSolutionsModel" "places" "[I") ∈ lw_all := lw_g (lw_at lw_m6 121 rfl) rfl
theorem q1396 : (Jvm.Cond.fieldLink "LeastSolutionsModel" (23 : Nat) "LeastSolutionsModel" "values" "[I") ∈ lw_all := lw_g (lw_at lw_m6 122 rfl) rfl
theorem q1397 : (Jvm.Cond.fieldLink "LeastSolutionsModel" (93 : Nat) "LeastSolutionsModel" "words" "I") ∈ lw_all := lw_g (lw_at lw_m6 123 rfl) rfl
theorem q1398 : (Jvm.Cond.fieldLink "LeastSolutionsModel" (26 : Nat) "LeastSolutionsModel" "draftLetters" "[I") ∈ lw_all := lw_g (lw_at lw_m6 124 rfl) rfl
theorem q1399 : (Jvm.Cond.fieldLink "LeastSolutionsModel" (104 : Nat) "LeastSolutionsModel" "draftVariables" "I") ∈ lw_all := lw_g (lw_at lw_m6 125 rfl) rfl
theorem q1400 : (Jvm.Cond.fieldLink "LeastSolutionsModel" (107 : Nat) "LeastSolutionsModel" "draftSlacks" "I") ∈ lw_all := lw_g (lw_at lw_m6 126 rfl) rfl
theorem q1401 : (Jvm.Cond.fieldLink "LeastSolutionsModel" (110 : Nat) "LeastSolutionsModel" "draftRows" "I") ∈ lw_all := lw_g (lw_at lw_m6 127 rfl) rfl
theorem q1402 : (Jvm.Cond.fieldLink "LeastSolutionsModel" (29 : Nat) "LeastSolutionsModel" "draftNumbers" "[I") ∈ lw_all := lw_g (lw_at lw_m6 128 rfl) rfl
theorem q1403 : (Jvm.Cond.fieldLink "LeastSolutionsModel" (32 : Nat) "LeastSolutionsModel" "draftSigns" "[I") ∈ lw_all := lw_g (lw_at lw_m6 129 rfl) rfl
theorem q1404 : (Jvm.Cond.fieldLink "LeastSolutionsModel" (133 : Nat) "LeastSolutionsModel" "known" "Z") ∈ lw_all := lw_g (lw_at lw_m6 130 rfl) rfl
theorem q1405 : (Jvm.Cond.fieldLink "LeastSolutionsModel" (137 : Nat) "LeastSolutionsModel" "rows" "I") ∈ lw_all := lw_g (lw_at lw_m6 131 rfl) rfl
theorem q1406 : (Jvm.Cond.fieldLink "LeastSolutionsModel" (140 : Nat) "LeastSolutionsModel" "variables" "I") ∈ lw_all := lw_g (lw_at lw_m6 132 rfl) rfl
theorem q1407 : (Jvm.Cond.fieldLink "LeastSolutionsModel" (143 : Nat) "LeastSolutionsModel" "columns" "I") ∈ lw_all := lw_g (lw_at lw_m6 133 rfl) rfl
theorem q1408 : (Jvm.Cond.fieldLink "LeastSolutionsModel" (35 : Nat) "LeastSolutionsModel" "letters" "[I") ∈ lw_all := lw_g (lw_at lw_m6 134 rfl) rfl
theorem q1409 : (Jvm.Cond.fieldLink "LeastSolutionsModel" (38 : Nat) "LeastSolutionsModel" "numbers" "[I") ∈ lw_all := lw_g (lw_at lw_m6 135 rfl) rfl
theorem q1410 : (Jvm.Cond.fieldLink "LeastSolutionsModel" (41 : Nat) "LeastSolutionsModel" "isList" "[Z") ∈ lw_all := lw_g (lw_at lw_m6 136 rfl) rfl
theorem q1411 : (Jvm.Cond.fieldLink "LeastSolutionsModel" (45 : Nat) "LeastSolutionsModel" "bounds" "[I") ∈ lw_all := lw_g (lw_at lw_m6 137 rfl) rfl
theorem q1412 : (Jvm.Cond.fieldLink "LeastSolutionsModel" (48 : Nat) "LeastSolutionsModel" "sizes" "[I") ∈ lw_all := lw_g (lw_at lw_m6 138 rfl) rfl
theorem q1413 : (Jvm.Cond.fieldLink "LeastSolutionsModel" (52 : Nat) "LeastSolutionsModel" "lists" "[B") ∈ lw_all := lw_g (lw_at lw_m6 139 rfl) rfl
theorem q1414 : (Jvm.Cond.fieldLink "LeastSolutionsModel" (56 : Nat) "LeastSolutionsModel" "told" "[I") ∈ lw_all := lw_g (lw_at lw_m6 140 rfl) rfl
theorem q1415 : (Jvm.Cond.fieldLink "LeastSolutionsModel" (59 : Nat) "LeastSolutionsModel" "costs" "[I") ∈ lw_all := lw_g (lw_at lw_m6 141 rfl) rfl
theorem q1416 : (Jvm.Cond.fieldLink "LeastSolutionsModel" (146 : Nat) "LeastSolutionsModel" "isSplit" "Z") ∈ lw_all := lw_g (lw_at lw_m6 142 rfl) rfl
theorem q1417 : (Jvm.Cond.fieldLink "LeastSolutionsModel" (62 : Nat) "LeastSolutionsModel" "times" "[I") ∈ lw_all := lw_g (lw_at lw_m6 143 rfl) rfl
theorem q1418 : (Jvm.Cond.fieldLink "LeastSolutionsModel" (149 : Nat) "LeastSolutionsModel" "isBest" "Z") ∈ lw_all := lw_g (lw_at lw_m6 144 rfl) rfl
theorem q1419 : (Jvm.Cond.fieldLink "LeastSolutionsModel" (65 : Nat) "LeastSolutionsModel" "bestOne" "[I") ∈ lw_all := lw_g (lw_at lw_m6 145 rfl) rfl
theorem q1420 : (Jvm.Cond.fieldLink "LeastSolutionsModel" (68 : Nat) "LeastSolutionsModel" "basis" "[J") ∈ lw_all := lw_g (lw_at lw_m6 146 rfl) rfl
theorem q1421 : (Jvm.Cond.fieldLink "LeastSolutionsModel" (152 : Nat) "LeastSolutionsModel" "vectors" "I") ∈ lw_all := lw_g (lw_at lw_m6 147 rfl) rfl
theorem q1422 : (Jvm.Cond.fieldLink "LeastSolutionsModel" (72 : Nat) "LeastSolutionsModel" "one" "[J") ∈ lw_all := lw_g (lw_at lw_m6 148 rfl) rfl
theorem q1423 : (Jvm.Cond.fieldLink "LeastSolutionsModel" (179 : Nat) "LeastSolutionsModel" "isOne" "Z") ∈ lw_all := lw_g (lw_at lw_m6 149 rfl) rfl
theorem q1424 : (Jvm.Cond.fieldLink "LeastSolutionsModel" (75 : Nat) "LeastSolutionsModel" "along" "[J") ∈ lw_all := lw_g (lw_at lw_m6 150 rfl) rfl
theorem q1425 : (Jvm.Cond.fieldLink "LeastSolutionsModel" (78 : Nat) "LeastSolutionsModel" "now" "[I") ∈ lw_all := lw_g (lw_at lw_m6 151 rfl) rfl
theorem q1426 : (Jvm.Cond.lays "LeastSolutionsModel" "LeastSolutionsModel" "thrown" "I") ∈ lw_all := lw_g (lw_at lw_m6 152 rfl) rfl
theorem q1427 : (Jvm.Cond.soleField "LeastSolutionsModel" "thrown") ∈ lw_all := lw_g (lw_at lw_m6 153 rfl) rfl
theorem q1428 : (Jvm.Cond.laysFinal "LeastSolutionsModel" "LeastSolutionsModel" "text" "[I") ∈ lw_all := lw_g (lw_at lw_m6 154 rfl) rfl
theorem q1429 : (Jvm.Cond.soleField "LeastSolutionsModel" "text") ∈ lw_all := lw_g (lw_at lw_m6 155 rfl) rfl
theorem q1430 : (Jvm.Cond.lays "LeastSolutionsModel" "LeastSolutionsModel" "length" "I") ∈ lw_all := lw_g (lw_at lw_m6 156 rfl) rfl
theorem q1431 : (Jvm.Cond.soleField "LeastSolutionsModel" "length") ∈ lw_all := lw_g (lw_at lw_m6 157 rfl) rfl
theorem q1432 : (Jvm.Cond.lays "LeastSolutionsModel" "LeastSolutionsModel" "wrong" "I") ∈ lw_all := lw_g (lw_at lw_m6 158 rfl) rfl
theorem q1433 : (Jvm.Cond.soleField "LeastSolutionsModel" "wrong") ∈ lw_all := lw_g (lw_at lw_m6 159 rfl) rfl
theorem q1434 : (Jvm.Cond.laysFinal "LeastSolutionsModel" "LeastSolutionsModel" "kinds" "[I") ∈ lw_all := lw_g (lw_at lw_m6 160 rfl) rfl
theorem q1435 : (Jvm.Cond.soleField "LeastSolutionsModel" "kinds") ∈ lw_all := lw_g (lw_at lw_m6 161 rfl) rfl
theorem q1436 : (Jvm.Cond.laysFinal "LeastSolutionsModel" "LeastSolutionsModel" "places" "[I") ∈ lw_all := lw_g (lw_at lw_m6 162 rfl) rfl
theorem q1437 : (Jvm.Cond.soleField "LeastSolutionsModel" "places") ∈ lw_all := lw_g (lw_at lw_m6 163 rfl) rfl
theorem q1438 : (Jvm.Cond.laysFinal "LeastSolutionsModel" "LeastSolutionsModel" "values" "[I") ∈ lw_all := lw_g (lw_at lw_m6 164 rfl) rfl
theorem q1439 : (Jvm.Cond.soleField "LeastSolutionsModel" "values") ∈ lw_all := lw_g (lw_at lw_m6 165 rfl) rfl
theorem q1440 : (Jvm.Cond.lays "LeastSolutionsModel" "LeastSolutionsModel" "words" "I") ∈ lw_all := lw_g (lw_at lw_m6 166 rfl) rfl
theorem q1441 : (Jvm.Cond.soleField "LeastSolutionsModel" "words") ∈ lw_all := lw_g (lw_at lw_m6 167 rfl) rfl
theorem q1442 : (Jvm.Cond.laysFinal "LeastSolutionsModel" "LeastSolutionsModel" "draftLetters" "[I") ∈ lw_all := lw_g (lw_at lw_m6 168 rfl) rfl
theorem q1443 : (Jvm.Cond.soleField "LeastSolutionsModel" "draftLetters") ∈ lw_all := lw_g (lw_at lw_m6 169 rfl) rfl
theorem q1444 : (Jvm.Cond.lays "LeastSolutionsModel" "LeastSolutionsModel" "draftVariables" "I") ∈ lw_all := lw_g (lw_at lw_m6 170 rfl) rfl
theorem q1445 : (Jvm.Cond.soleField "LeastSolutionsModel" "draftVariables") ∈ lw_all := lw_g (lw_at lw_m6 171 rfl) rfl
theorem q1446 : (Jvm.Cond.lays "LeastSolutionsModel" "LeastSolutionsModel" "draftSlacks" "I") ∈ lw_all := lw_g (lw_at lw_m6 172 rfl) rfl
theorem q1447 : (Jvm.Cond.soleField "LeastSolutionsModel" "draftSlacks") ∈ lw_all := lw_g (lw_at lw_m6 173 rfl) rfl
theorem q1448 : (Jvm.Cond.lays "LeastSolutionsModel" "LeastSolutionsModel" "draftRows" "I") ∈ lw_all := lw_g (lw_at lw_m6 174 rfl) rfl
theorem q1449 : (Jvm.Cond.soleField "LeastSolutionsModel" "draftRows") ∈ lw_all := lw_g (lw_at lw_m6 175 rfl) rfl
theorem q1450 : (Jvm.Cond.laysFinal "LeastSolutionsModel" "LeastSolutionsModel" "draftNumbers" "[I") ∈ lw_all := lw_g (lw_at lw_m6 176 rfl) rfl
theorem q1451 : (Jvm.Cond.soleField "LeastSolutionsModel" "draftNumbers") ∈ lw_all := lw_g (lw_at lw_m6 177 rfl) rfl
theorem q1452 : (Jvm.Cond.laysFinal "LeastSolutionsModel" "LeastSolutionsModel" "draftSigns" "[I") ∈ lw_all := lw_g (lw_at lw_m6 178 rfl) rfl
theorem q1453 : (Jvm.Cond.soleField "LeastSolutionsModel" "draftSigns") ∈ lw_all := lw_g (lw_at lw_m6 179 rfl) rfl
theorem q1454 : (Jvm.Cond.lays "LeastSolutionsModel" "LeastSolutionsModel" "known" "Z") ∈ lw_all := lw_g (lw_at lw_m6 180 rfl) rfl
theorem q1455 : (Jvm.Cond.soleField "LeastSolutionsModel" "known") ∈ lw_all := lw_g (lw_at lw_m6 181 rfl) rfl
theorem q1456 : (Jvm.Cond.lays "LeastSolutionsModel" "LeastSolutionsModel" "rows" "I") ∈ lw_all := lw_g (lw_at lw_m6 182 rfl) rfl
theorem q1457 : (Jvm.Cond.soleField "LeastSolutionsModel" "rows") ∈ lw_all := lw_g (lw_at lw_m6 183 rfl) rfl
theorem q1458 : (Jvm.Cond.lays "LeastSolutionsModel" "LeastSolutionsModel" "variables" "I") ∈ lw_all := lw_g (lw_at lw_m6 184 rfl) rfl
theorem q1459 : (Jvm.Cond.soleField "LeastSolutionsModel" "variables") ∈ lw_all := lw_g (lw_at lw_m6 185 rfl) rfl
theorem q1460 : (Jvm.Cond.lays "LeastSolutionsModel" "LeastSolutionsModel" "columns" "I") ∈ lw_all := lw_g (lw_at lw_m6 186 rfl) rfl
theorem q1461 : (Jvm.Cond.soleField "LeastSolutionsModel" "columns") ∈ lw_all := lw_g (lw_at lw_m6 187 rfl) rfl
theorem q1462 : (Jvm.Cond.laysFinal "LeastSolutionsModel" "LeastSolutionsModel" "letters" "[I") ∈ lw_all := lw_g (lw_at lw_m6 188 rfl) rfl
theorem q1463 : (Jvm.Cond.soleField "LeastSolutionsModel" "letters") ∈ lw_all := lw_g (lw_at lw_m6 189 rfl) rfl
theorem q1464 : (Jvm.Cond.laysFinal "LeastSolutionsModel" "LeastSolutionsModel" "numbers" "[I") ∈ lw_all := lw_g (lw_at lw_m6 190 rfl) rfl
theorem q1465 : (Jvm.Cond.soleField "LeastSolutionsModel" "numbers") ∈ lw_all := lw_g (lw_at lw_m6 191 rfl) rfl
theorem q1466 : (Jvm.Cond.laysFinal "LeastSolutionsModel" "LeastSolutionsModel" "isList" "[Z") ∈ lw_all := lw_g (lw_at lw_m6 192 rfl) rfl
theorem q1467 : (Jvm.Cond.soleField "LeastSolutionsModel" "isList") ∈ lw_all := lw_g (lw_at lw_m6 193 rfl) rfl
theorem q1468 : (Jvm.Cond.laysFinal "LeastSolutionsModel" "LeastSolutionsModel" "bounds" "[I") ∈ lw_all := lw_g (lw_at lw_m6 194 rfl) rfl
theorem q1469 : (Jvm.Cond.soleField "LeastSolutionsModel" "bounds") ∈ lw_all := lw_g (lw_at lw_m6 195 rfl) rfl
theorem q1470 : (Jvm.Cond.laysFinal "LeastSolutionsModel" "LeastSolutionsModel" "sizes" "[I") ∈ lw_all := lw_g (lw_at lw_m6 196 rfl) rfl
theorem q1471 : (Jvm.Cond.soleField "LeastSolutionsModel" "sizes") ∈ lw_all := lw_g (lw_at lw_m6 197 rfl) rfl
theorem q1472 : (Jvm.Cond.laysFinal "LeastSolutionsModel" "LeastSolutionsModel" "lists" "[B") ∈ lw_all := lw_g (lw_at lw_m6 198 rfl) rfl
theorem q1473 : (Jvm.Cond.soleField "LeastSolutionsModel" "lists") ∈ lw_all := lw_g (lw_at lw_m6 199 rfl) rfl
theorem q1474 : (Jvm.Cond.laysFinal "LeastSolutionsModel" "LeastSolutionsModel" "told" "[I") ∈ lw_all := lw_g (lw_at lw_m6 200 rfl) rfl
theorem q1475 : (Jvm.Cond.soleField "LeastSolutionsModel" "told") ∈ lw_all := lw_g (lw_at lw_m6 201 rfl) rfl
theorem q1476 : (Jvm.Cond.laysFinal "LeastSolutionsModel" "LeastSolutionsModel" "costs" "[I") ∈ lw_all := lw_g (lw_at lw_m6 202 rfl) rfl
theorem q1477 : (Jvm.Cond.soleField "LeastSolutionsModel" "costs") ∈ lw_all := lw_g (lw_at lw_m6 203 rfl) rfl
theorem q1478 : (Jvm.Cond.lays "LeastSolutionsModel" "LeastSolutionsModel" "isSplit" "Z") ∈ lw_all := lw_g (lw_at lw_m6 204 rfl) rfl
theorem q1479 : (Jvm.Cond.soleField "LeastSolutionsModel" "isSplit") ∈ lw_all := lw_g (lw_at lw_m6 205 rfl) rfl
theorem q1480 : (Jvm.Cond.laysFinal "LeastSolutionsModel" "LeastSolutionsModel" "times" "[I") ∈ lw_all := lw_g (lw_at lw_m6 206 rfl) rfl
theorem q1481 : (Jvm.Cond.soleField "LeastSolutionsModel" "times") ∈ lw_all := lw_g (lw_at lw_m6 207 rfl) rfl
theorem q1482 : (Jvm.Cond.lays "LeastSolutionsModel" "LeastSolutionsModel" "isBest" "Z") ∈ lw_all := lw_g (lw_at lw_m6 208 rfl) rfl
theorem q1483 : (Jvm.Cond.soleField "LeastSolutionsModel" "isBest") ∈ lw_all := lw_g (lw_at lw_m6 209 rfl) rfl
theorem q1484 : (Jvm.Cond.laysFinal "LeastSolutionsModel" "LeastSolutionsModel" "bestOne" "[I") ∈ lw_all := lw_g (lw_at lw_m6 210 rfl) rfl
theorem q1485 : (Jvm.Cond.soleField "LeastSolutionsModel" "bestOne") ∈ lw_all := lw_g (lw_at lw_m6 211 rfl) rfl
theorem q1486 : (Jvm.Cond.laysFinal "LeastSolutionsModel" "LeastSolutionsModel" "basis" "[J") ∈ lw_all := lw_g (lw_at lw_m6 212 rfl) rfl
theorem q1487 : (Jvm.Cond.soleField "LeastSolutionsModel" "basis") ∈ lw_all := lw_g (lw_at lw_m6 213 rfl) rfl
theorem q1488 : (Jvm.Cond.lays "LeastSolutionsModel" "LeastSolutionsModel" "vectors" "I") ∈ lw_all := lw_g (lw_at lw_m6 214 rfl) rfl
theorem q1489 : (Jvm.Cond.soleField "LeastSolutionsModel" "vectors") ∈ lw_all := lw_g (lw_at lw_m6 215 rfl) rfl
theorem q1490 : (Jvm.Cond.laysFinal "LeastSolutionsModel" "LeastSolutionsModel" "one" "[J") ∈ lw_all := lw_g (lw_at lw_m6 216 rfl) rfl
theorem q1491 : (Jvm.Cond.soleField "LeastSolutionsModel" "one") ∈ lw_all := lw_g (lw_at lw_m6 217 rfl) rfl
theorem q1492 : (Jvm.Cond.lays "LeastSolutionsModel" "LeastSolutionsModel" "isOne" "Z") ∈ lw_all := lw_g (lw_at lw_m6 218 rfl) rfl
theorem q1493 : (Jvm.Cond.soleField "LeastSolutionsModel" "isOne") ∈ lw_all := lw_g (lw_at lw_m6 219 rfl) rfl
theorem q1494 : (Jvm.Cond.laysFinal "LeastSolutionsModel" "LeastSolutionsModel" "along" "[J") ∈ lw_all := lw_g (lw_at lw_m6 220 rfl) rfl
theorem q1495 : (Jvm.Cond.soleField "LeastSolutionsModel" "along") ∈ lw_all := lw_g (lw_at lw_m6 221 rfl) rfl
theorem q1496 : (Jvm.Cond.laysFinal "LeastSolutionsModel" "LeastSolutionsModel" "now" "[I") ∈ lw_all := lw_g (lw_at lw_m6 222 rfl) rfl
theorem q1497 : (Jvm.Cond.soleField "LeastSolutionsModel" "now") ∈ lw_all := lw_g (lw_at lw_m6 223 rfl) rfl
theorem q1498 : (Jvm.Cond.superclass "LeastSolutionsModel" "java/lang/Object") ∈ lw_all := lw_g (lw_at lw_m6 224 rfl) rfl
theorem q1501 : (Jvm.Cond.instanceMethod ({ cls := "LeastSolutionsModel", name := "thrown", desc := "()I" } : Jvm.MethodName)) ∈ lw_all := lw_g (lw_at lw_m6 227 rfl) rfl
theorem q1502 : (Jvm.Cond.selects "LeastSolutionsModel" ({ cls := "LeastSolutionsModel", name := "thrown", desc := "()I" } : Jvm.MethodName) ({ cls := "LeastSolutionsModel", name := "thrown", desc := "()I" } : Jvm.MethodName)) ∈ lw_all := lw_g (lw_at lw_m6 228 rfl) rfl
theorem q1503 : (Jvm.Cond.code ({ cls := "LeastSolutionsModel", name := "thrown", desc := "()I" } : Jvm.MethodName) prog_14_method_2_code (1 : Nat) (Option.some Jvm.ClassFile.FieldType.int)) ∈ lw_all := lw_g (lw_at lw_m6 229 rfl) rfl
theorem q1505 : (Jvm.Cond.instanceMethod ({ cls := "LeastSolutionsModel", name := "type", desc := "(JI)I" } : Jvm.MethodName)) ∈ lw_all := lw_g (lw_at lw_m6 231 rfl) rfl
theorem q1506 : (Jvm.Cond.selects "LeastSolutionsModel" ({ cls := "LeastSolutionsModel", name := "type", desc := "(JI)I" } : Jvm.MethodName) ({ cls := "LeastSolutionsModel", name := "type", desc := "(JI)I" } : Jvm.MethodName)) ∈ lw_all := lw_g (lw_at lw_m6 232 rfl) rfl
theorem q1507 : (Jvm.Cond.code ({ cls := "LeastSolutionsModel", name := "type", desc := "(JI)I" } : Jvm.MethodName) prog_14_method_3_code (8 : Nat) (Option.some Jvm.ClassFile.FieldType.int)) ∈ lw_all := lw_g (lw_at lw_m6 233 rfl) rfl
theorem q1508 : (Jvm.Cond.constantLong "LeastSolutionsModel" (87 : Nat) (255 : Int64)) ∈ lw_all := lw_g (lw_at lw_m6 234 rfl) rfl
theorem q1509 : (Jvm.Cond.constantLong "LeastSolutionsModel" (89 : Nat) (32 : Int64)) ∈ lw_all := lw_g (lw_at lw_m6 235 rfl) rfl
theorem q1510 : (Jvm.Cond.constantLong "LeastSolutionsModel" (91 : Nat) (126 : Int64)) ∈ lw_all := lw_g (lw_at lw_m6 236 rfl) rfl
theorem q1512 : (Jvm.Cond.instanceMethod ({ cls := "LeastSolutionsModel", name := "read", desc := "()I" } : Jvm.MethodName)) ∈ lw_all := lw_g (lw_at lw_m6 238 rfl) rfl
theorem q1513 : (Jvm.Cond.selects "LeastSolutionsModel" ({ cls := "LeastSolutionsModel", name := "read", desc := "()I" } : Jvm.MethodName) ({ cls := "LeastSolutionsModel", name := "read", desc := "()I" } : Jvm.MethodName)) ∈ lw_all := lw_g (lw_at lw_m6 239 rfl) rfl
theorem q1514 : (Jvm.Cond.code ({ cls := "LeastSolutionsModel", name := "read", desc := "()I" } : Jvm.MethodName) prog_14_method_11_code (3 : Nat) (Option.some Jvm.ClassFile.FieldType.int)) ∈ lw_all := lw_g (lw_at lw_m7 0 rfl) rfl
theorem q1515 : (Jvm.Cond.methodLink "LeastSolutionsModel" (120 : Nat) ({ cls := "LeastSolutionsModel", name := "cut", desc := "()V" } : Jvm.MethodName)) ∈ lw_all := lw_g (lw_at lw_m7 1 rfl) rfl
theorem q1516 : (Jvm.Cond.privateMethod ({ cls := "LeastSolutionsModel", name := "cut", desc := "()V" } : Jvm.MethodName)) ∈ lw_tbl := lw_at lw_m7 2 rfl
theorem q1517 : (Jvm.Cond.instanceMethod ({ cls := "LeastSolutionsModel", name := "cut", desc := "()V" } : Jvm.MethodName)) ∈ lw_all := lw_g (lw_at lw_m7 3 rfl) rfl
theorem q1518 : (Jvm.Cond.code ({ cls := "LeastSolutionsModel", name := "cut", desc := "()V" } : Jvm.MethodName) prog_14_method_6_code (7 : Nat) (Option.none : Option Jvm.ClassFile.FieldType)) ∈ lw_all := lw_g (lw_at lw_m7 4 rfl) rfl
theorem q1519 : (Jvm.Cond.methodLink "LeastSolutionsModel" (96 : Nat) ({ cls := "LeastSolutionsModel", name := "letter0", desc := "(I)I" } : Jvm.MethodName)) ∈ lw_all := lw_g (lw_at lw_m7 5 rfl) rfl
theorem q1520 : (Jvm.Cond.privateMethod ({ cls := "LeastSolutionsModel", name := "letter0", desc := "(I)I" } : Jvm.MethodName)) ∈ lw_tbl := lw_at lw_m7 6 rfl
theorem q1521 : (Jvm.Cond.instanceMethod ({ cls := "LeastSolutionsModel", name := "letter0", desc := "(I)I" } : Jvm.MethodName)) ∈ lw_all := lw_g (lw_at lw_m7 7 rfl) rfl
theorem q1522 : (Jvm.Cond.code ({ cls := "LeastSolutionsModel", name := "letter0", desc := "(I)I" } : Jvm.MethodName) prog_14_method_5_code (2 : Nat) (Option.some Jvm.ClassFile.FieldType.int)) ∈ lw_all := lw_g (lw_at lw_m7 8 rfl) rfl
theorem q1523 : (Jvm.Cond.methodLink "LeastSolutionsModel" (100 : Nat) ({ cls := "LeastSolutionsModel", name := "word", desc := "(III)V" } : Jvm.MethodName)) ∈ lw_all := lw_g (lw_at lw_m7 9 rfl) rfl
theorem q1524 : (Jvm.Cond.privateMethod ({ cls := "LeastSolutionsModel", name := "word", desc := "(III)V" } : Jvm.MethodName)) ∈ lw_tbl := lw_at lw_m7 10 rfl
theorem q1525 : (Jvm.Cond.instanceMethod ({ cls := "LeastSolutionsModel", name := "word", desc := "(III)V" } : Jvm.MethodName)) ∈ lw_all := lw_g (lw_at lw_m7 11 rfl) rfl
theorem q1526 : (Jvm.Cond.code ({ cls := "LeastSolutionsModel", name := "word", desc := "(III)V" } : Jvm.MethodName) prog_14_method_4_code (4 : Nat) (Option.none : Option Jvm.ClassFile.FieldType)) ∈ lw_all := lw_g (lw_at lw_m7 12 rfl) rfl
theorem q1527 : (Jvm.Cond.methodLink "LeastSolutionsModel" (123 : Nat) ({ cls := "LeastSolutionsModel", name := "bad", desc := "()I" } : Jvm.MethodName)) ∈ lw_all := lw_g (lw_at lw_m7 13 rfl) rfl
theorem q1528 : (Jvm.Cond.privateMethod ({ cls := "LeastSolutionsModel", name := "bad", desc := "()I" } : Jvm.MethodName)) ∈ lw_tbl := lw_at lw_m7 14 rfl
theorem q1529 : (Jvm.Cond.instanceMethod ({ cls := "LeastSolutionsModel", name := "bad", desc := "()I" } : Jvm.MethodName)) ∈ lw_all := lw_g (lw_at lw_m7 15 rfl) rfl
theorem q1530 : (Jvm.Cond.code ({ cls := "LeastSolutionsModel", name := "bad", desc := "()I" } : Jvm.MethodName) prog_14_method_7_code (6 : Nat) (Option.some Jvm.ClassFile.FieldType.int)) ∈ lw_all := lw_g (lw_at lw_m7 16 rfl) rfl
theorem q1531 : (Jvm.Cond.methodLink "LeastSolutionsModel" (113 : Nat) ({ cls := "LeastSolutionsModel", name := "fault", desc := "(II)I" } : Jvm.MethodName)) ∈ lw_all := lw_g (lw_at lw_m7 17 rfl) rfl
theorem q1532 : (Jvm.Cond.privateMethod ({ cls := "LeastSolutionsModel", name := "fault", desc := "(II)I" } : Jvm.MethodName)) ∈ lw_tbl := lw_at lw_m7 18 rfl
theorem q1533 : (Jvm.Cond.instanceMethod ({ cls := "LeastSolutionsModel", name := "fault", desc := "(II)I" } : Jvm.MethodName)) ∈ lw_all := lw_g (lw_at lw_m7 19 rfl) rfl
theorem q1534 : (Jvm.Cond.code ({ cls := "LeastSolutionsModel", name := "fault", desc := "(II)I" } : Jvm.MethodName) prog_14_method_8_code (3 : Nat) (Option.some Jvm.ClassFile.FieldType.int)) ∈ lw_all := lw_g (lw_at lw_m7 20 rfl) rfl
theorem q1535 : (Jvm.Cond.methodLink "LeastSolutionsModel" (127 : Nat) ({ cls := "LeastSolutionsModel", name := "build", desc := "()I" } : Jvm.MethodName)) ∈ lw_all := lw_g (lw_at lw_m7 21 rfl) rfl
theorem q1536 : (Jvm.Cond.privateMethod ({ cls := "LeastSolutionsModel", name := "build", desc := "()I" } : Jvm.MethodName)) ∈ lw_tbl := lw_at lw_m7 22 rfl
theorem q1537 : (Jvm.Cond.instanceMethod ({ cls := "LeastSolutionsModel", name := "build", desc := "()I" } : Jvm.MethodName)) ∈ lw_all := lw_g (lw_at lw_m7 23 rfl) rfl
theorem q1538 : (Jvm.Cond.code ({ cls := "LeastSolutionsModel", name := "build", desc := "()I" } : Jvm.MethodName) prog_14_method_10_code (9 : Nat) (Option.some Jvm.ClassFile.FieldType.int)) ∈ lw_all := lw_g (lw_at lw_m7 24 rfl) rfl
theorem q1539 : (Jvm.Cond.methodLink "LeastSolutionsModel" (117 : Nat) ({ cls := "LeastSolutionsModel", name := "draftColumn", desc := "(I)I" } : Jvm.MethodName)) ∈ lw_all := lw_g (lw_at lw_m7 25 rfl) rfl
theorem q1540 : (Jvm.Cond.privateMethod ({ cls := "LeastSolutionsModel", name := "draftColumn", desc := "(I)I" } : Jvm.MethodName)) ∈ lw_tbl := lw_at lw_m7 26 rfl
theorem q1541 : (Jvm.Cond.instanceMethod ({ cls := "LeastSolutionsModel", name := "draftColumn", desc := "(I)I" } : Jvm.MethodName)) ∈ lw_all := lw_g (lw_at lw_m7 27 rfl) rfl
theorem q1542 : (Jvm.Cond.code ({ cls := "LeastSolutionsModel", name := "draftColumn", desc := "(I)I" } : Jvm.MethodName) prog_14_method_9_code (4 : Nat) (Option.some Jvm.ClassFile.FieldType.int)) ∈ lw_all := lw_g (lw_at lw_m7 28 rfl) rfl
theorem q1543 : (Jvm.Cond.methodLink "LeastSolutionsModel" (130 : Nat) ({ cls := "LeastSolutionsModel", name := "take", desc := "()V" } : Jvm.MethodName)) ∈ lw_all := lw_g (lw_at lw_m7 29 rfl) rfl
theorem q1544 : (Jvm.Cond.privateMethod ({ cls := "LeastSolutionsModel", name := "take", desc := "()V" } : Jvm.MethodName)) ∈ lw_tbl := lw_at lw_m7 30 rfl
theorem q1545 : (Jvm.Cond.instanceMethod ({ cls := "LeastSolutionsModel", name := "take", desc := "()V" } : Jvm.MethodName)) ∈ lw_all := lw_g (lw_at lw_m7 31 rfl) rfl
theorem q1546 : (Jvm.Cond.code ({ cls := "LeastSolutionsModel", name := "take", desc := "()V" } : Jvm.MethodName) prog_14_method_12_code (4 : Nat) (Option.none : Option Jvm.ClassFile.FieldType)) ∈ lw_all := lw_g (lw_at lw_m7 32 rfl) rfl
theorem q1548 : (Jvm.Cond.instanceMethod ({ cls := "LeastSolutionsModel", name := "place", desc := "()I" } : Jvm.MethodName)) ∈ lw_all := lw_g (lw_at lw_m7 34 rfl) rfl
theorem q1549 : (Jvm.Cond.selects "LeastSolutionsModel" ({ cls := "LeastSolutionsModel", name := "place", desc := "()I" } : Jvm.MethodName) ({ cls := "LeastSolutionsModel", name := "place", desc := "()I" } : Jvm.MethodName)) ∈ lw_all := lw_g (lw_at lw_m7 35 rfl) rfl
theorem q1550 : (Jvm.Cond.code ({ cls := "LeastSolutionsModel", name := "place", desc := "()I" } : Jvm.MethodName) prog_14_method_13_code (1 : Nat) (Option.some Jvm.ClassFile.FieldType.int)) ∈ lw_all := lw_g (lw_at lw_m7 36 rfl) rfl
theorem q1552 : (Jvm.Cond.instanceMethod ({ cls := "LeastSolutionsModel", name := "count", desc := "(I)I" } : Jvm.MethodName)) ∈ lw_all := lw_g (lw_at lw_m7 38 rfl) rfl
theorem q1553 : (Jvm.Cond.selects "LeastSolutionsModel" ({ cls := "LeastSolutionsModel", name := "count", desc := "(I)I" } : Jvm.MethodName) ({ cls := "LeastSolutionsModel", name := "count", desc := "(I)I" } : Jvm.MethodName)) ∈ lw_all := lw_g (lw_at lw_m7 39 rfl) rfl
theorem q1554 : (Jvm.Cond.code ({ cls := "LeastSolutionsModel", name := "count", desc := "(I)I" } : Jvm.MethodName) prog_14_method_14_code (2 : Nat) (Option.some Jvm.ClassFile.FieldType.int)) ∈ lw_all := lw_g (lw_at lw_m7 40 rfl) rfl
theorem q1556 : (Jvm.Cond.instanceMethod ({ cls := "LeastSolutionsModel", name := "letter", desc := "(I)I" } : Jvm.MethodName)) ∈ lw_all := lw_g (lw_at lw_m7 42 rfl) rfl
theorem q1557 : (Jvm.Cond.selects "LeastSolutionsModel" ({ cls := "LeastSolutionsModel", name := "letter", desc := "(I)I" } : Jvm.MethodName) ({ cls := "LeastSolutionsModel", name := "letter", desc := "(I)I" } : Jvm.MethodName)) ∈ lw_all := lw_g (lw_at lw_m7 43 rfl) rfl
theorem q1558 : (Jvm.Cond.code ({ cls := "LeastSolutionsModel", name := "letter", desc := "(I)I" } : Jvm.MethodName) prog_14_method_15_code (2 : Nat) (Option.some Jvm.ClassFile.FieldType.int)) ∈ lw_all := lw_g (lw_at lw_m7 44 rfl) rfl
theorem q1560 : (Jvm.Cond.instanceMethod ({ cls := "LeastSolutionsModel", name := "number", desc := "(II)I" } : Jvm.MethodName)) ∈ lw_all := lw_g (lw_at lw_m7 46 rfl) rfl
theorem q1561 : (Jvm.Cond.selects "LeastSolutionsModel" ({ cls := "LeastSolutionsModel", name := "number", desc := "(II)I" } : Jvm.MethodName) ({ cls := "LeastSolutionsModel", name := "number", desc := "(II)I" } : Jvm.MethodName)) ∈ lw_all := lw_g (lw_at lw_m7 47 rfl) rfl
theorem q1562 : (Jvm.Cond.code ({ cls := "LeastSolutionsModel", name := "number", desc := "(II)I" } : Jvm.MethodName) prog_14_method_17_code (3 : Nat) (Option.some Jvm.ClassFile.FieldType.int)) ∈ lw_all := lw_g (lw_at lw_m7 48 rfl) rfl
theorem q1564 : (Jvm.Cond.instanceMethod ({ cls := "LeastSolutionsModel", name := "solvable", desc := "()I" } : Jvm.MethodName)) ∈ lw_all := lw_g (lw_at lw_m7 50 rfl) rfl
theorem q1565 : (Jvm.Cond.selects "LeastSolutionsModel" ({ cls := "LeastSolutionsModel", name := "solvable", desc := "()I" } : Jvm.MethodName) ({ cls := "LeastSolutionsModel", name := "solvable", desc := "()I" } : Jvm.MethodName)) ∈ lw_all := lw_g (lw_at lw_m7 51 rfl) rfl
theorem q1566 : (Jvm.Cond.code ({ cls := "LeastSolutionsModel", name := "solvable", desc := "()I" } : Jvm.MethodName) prog_14_method_28_code (1 : Nat) (Option.some Jvm.ClassFile.FieldType.int)) ∈ lw_all := lw_g (lw_at lw_m7 52 rfl) rfl
theorem q1567 : (Jvm.Cond.methodLink "LeastSolutionsModel" (191 : Nat) ({ cls := "LeastSolutionsModel", name := "solveWhole", desc := "()V" } : Jvm.MethodName)) ∈ lw_all := lw_g (lw_at lw_m7 53 rfl) rfl
theorem q1568 : (Jvm.Cond.privateMethod ({ cls := "LeastSolutionsModel", name := "solveWhole", desc := "()V" } : Jvm.MethodName)) ∈ lw_tbl := lw_at lw_m7 54 rfl
theorem q1569 : (Jvm.Cond.instanceMethod ({ cls := "LeastSolutionsModel", name := "solveWhole", desc := "()V" } : Jvm.MethodName)) ∈ lw_all := lw_g (lw_at lw_m7 55 rfl) rfl
theorem q1570 : (Jvm.Cond.code ({ cls := "LeastSolutionsModel", name := "solveWhole", desc := "()V" } : Jvm.MethodName) prog_14_method_27_code (2 : Nat) (Option.none : Option Jvm.ClassFile.FieldType)) ∈ lw_all := lw_g (lw_at lw_m7 56 rfl) rfl
theorem q1571 : (Jvm.Cond.methodLink "LeastSolutionsModel" (182 : Nat) ({ cls := "LeastSolutionsModel", name := "narrow", desc := "(I)V" } : Jvm.MethodName)) ∈ lw_all := lw_g (lw_at lw_m7 57 rfl) rfl
theorem q1572 : (Jvm.Cond.privateMethod ({ cls := "LeastSolutionsModel", name := "narrow", desc := "(I)V" } : Jvm.MethodName)) ∈ lw_tbl := lw_at lw_m7 58 rfl
theorem q1573 : (Jvm.Cond.instanceMethod ({ cls := "LeastSolutionsModel", name := "narrow", desc := "(I)V" } : Jvm.MethodName)) ∈ lw_all := lw_g (lw_at lw_m7 59 rfl) rfl
theorem q1574 : (Jvm.Cond.code ({ cls := "LeastSolutionsModel", name := "narrow", desc := "(I)V" } : Jvm.MethodName) prog_14_method_25_code (9 : Nat) (Option.none : Option Jvm.ClassFile.FieldType)) ∈ lw_all := lw_g (lw_at lw_m7 60 rfl) rfl
theorem q1575 : (Jvm.Cond.methodLink "LeastSolutionsModel" (175 : Nat) ({ cls := "LeastSolutionsModel", name := "dot", desc := "(I[JI)J" } : Jvm.MethodName)) ∈ lw_all := lw_g (lw_at lw_m7 61 rfl) rfl
theorem q1576 : (Jvm.Cond.privateMethod ({ cls := "LeastSolutionsModel", name := "dot", desc := "(I[JI)J" } : Jvm.MethodName)) ∈ lw_tbl := lw_at lw_m7 62 rfl
theorem q1577 : (Jvm.Cond.instanceMethod ({ cls := "LeastSolutionsModel", name := "dot", desc := "(I[JI)J" } : Jvm.MethodName)) ∈ lw_all := lw_g (lw_at lw_m7 63 rfl) rfl
theorem q1578 : (Jvm.Cond.code ({ cls := "LeastSolutionsModel", name := "dot", desc := "(I[JI)J" } : Jvm.MethodName) prog_14_method_18_code (7 : Nat) (Option.some Jvm.ClassFile.FieldType.long)) ∈ lw_all := lw_g (lw_at lw_m7 64 rfl) rfl
theorem q1579 : (Jvm.Cond.methodLink "LeastSolutionsModel" (155 : Nat) ({ cls := "LeastSolutionsModel", name := "size", desc := "(J)J" } : Jvm.MethodName)) ∈ lw_all := lw_g (lw_at lw_m7 65 rfl) rfl
theorem q1580 : (Jvm.Cond.static ({ cls := "LeastSolutionsModel", name := "size", desc := "(J)J" } : Jvm.MethodName)) ∈ lw_all := lw_g (lw_at lw_m7 66 rfl) rfl
theorem q1581 : (Jvm.Cond.code ({ cls := "LeastSolutionsModel", name := "size", desc := "(J)J" } : Jvm.MethodName) prog_14_method_19_code (2 : Nat) (Option.some Jvm.ClassFile.FieldType.long)) ∈ lw_all := lw_g (lw_at lw_m7 67 rfl) rfl
theorem q1582 : (Jvm.Cond.methodLink "LeastSolutionsModel" (159 : Nat) ({ cls := "LeastSolutionsModel", name := "exchange", desc := "(II)V" } : Jvm.MethodName)) ∈ lw_all := lw_g (lw_at lw_m7 68 rfl) rfl
theorem q1583 : (Jvm.Cond.privateMethod ({ cls := "LeastSolutionsModel", name := "exchange", desc := "(II)V" } : Jvm.MethodName)) ∈ lw_tbl := lw_at lw_m7 69 rfl
theorem q1584 : (Jvm.Cond.instanceMethod ({ cls := "LeastSolutionsModel", name := "exchange", desc := "(II)V" } : Jvm.MethodName)) ∈ lw_all := lw_g (lw_at lw_m7 70 rfl) rfl
theorem q1585 : (Jvm.Cond.code ({ cls := "LeastSolutionsModel", name := "exchange", desc := "(II)V" } : Jvm.MethodName) prog_14_method_21_code (6 : Nat) (Option.none : Option Jvm.ClassFile.FieldType)) ∈ lw_all := lw_g (lw_at lw_m7 71 rfl) rfl
theorem q1586 : (Jvm.Cond.methodLink "LeastSolutionsModel" (167 : Nat) ({ cls := "LeastSolutionsModel", name := "lose", desc := "(IIJ)V" } : Jvm.MethodName)) ∈ lw_all := lw_g (lw_at lw_m7 72 rfl) rfl
theorem q1587 : (Jvm.Cond.privateMethod ({ cls := "LeastSolutionsModel", name := "lose", desc := "(IIJ)V" } : Jvm.MethodName)) ∈ lw_tbl := lw_at lw_m7 73 rfl
theorem q1588 : (Jvm.Cond.instanceMethod ({ cls := "LeastSolutionsModel", name := "lose", desc := "(IIJ)V" } : Jvm.MethodName)) ∈ lw_all := lw_g (lw_at lw_m7 74 rfl) rfl
theorem q1589 : (Jvm.Cond.code ({ cls := "LeastSolutionsModel", name := "lose", desc := "(IIJ)V" } : Jvm.MethodName) prog_14_method_20_code (6 : Nat) (Option.none : Option Jvm.ClassFile.FieldType)) ∈ lw_all := lw_g (lw_at lw_m7 75 rfl) rfl
theorem q1590 : (Jvm.Cond.methodLink "LeastSolutionsModel" (185 : Nat) ({ cls := "LeastSolutionsModel", name := "order", desc := "()V" } : Jvm.MethodName)) ∈ lw_all := lw_g (lw_at lw_m7 76 rfl) rfl
theorem q1591 : (Jvm.Cond.privateMethod ({ cls := "LeastSolutionsModel", name := "order", desc := "()V" } : Jvm.MethodName)) ∈ lw_tbl := lw_at lw_m7 77 rfl
theorem q1592 : (Jvm.Cond.instanceMethod ({ cls := "LeastSolutionsModel", name := "order", desc := "()V" } : Jvm.MethodName)) ∈ lw_all := lw_g (lw_at lw_m7 78 rfl) rfl
theorem q1593 : (Jvm.Cond.code ({ cls := "LeastSolutionsModel", name := "order", desc := "()V" } : Jvm.MethodName) prog_14_method_24_code (8 : Nat) (Option.none : Option Jvm.ClassFile.FieldType)) ∈ lw_all := lw_g (lw_at lw_m7 79 rfl) rfl
theorem q1594 : (Jvm.Cond.methodLink "LeastSolutionsModel" (171 : Nat) ({ cls := "LeastSolutionsModel", name := "gather", desc := "(II)Z" } : Jvm.MethodName)) ∈ lw_all := lw_g (lw_at lw_m7 80 rfl) rfl
theorem q1595 : (Jvm.Cond.privateMethod ({ cls := "LeastSolutionsModel", name := "gather", desc := "(II)Z" } : Jvm.MethodName)) ∈ lw_tbl := lw_at lw_m7 81 rfl
theorem q1596 : (Jvm.Cond.instanceMethod ({ cls := "LeastSolutionsModel", name := "gather", desc := "(II)Z" } : Jvm.MethodName)) ∈ lw_all := lw_g (lw_at lw_m7 82 rfl) rfl
theorem q1597 : (Jvm.Cond.code ({ cls := "LeastSolutionsModel", name := "gather", desc := "(II)Z" } : Jvm.MethodName) prog_14_method_23_code (11 : Nat) (Option.some Jvm.ClassFile.FieldType.boolean)) ∈ lw_all := lw_g (lw_at lw_m7 83 rfl) rfl
theorem q1598 : (Jvm.Cond.methodLink "LeastSolutionsModel" (163 : Nat) ({ cls := "LeastSolutionsModel", name := "turn", desc := "(I)V" } : Jvm.MethodName)) ∈ lw_all := lw_g (lw_at lw_m7 84 rfl) rfl
theorem q1599 : (Jvm.Cond.privateMethod ({ cls := "LeastSolutionsModel", name := "turn", desc := "(I)V" } : Jvm.MethodName)) ∈ lw_tbl := lw_at lw_m7 85 rfl
theorem q1600 : (Jvm.Cond.instanceMethod ({ cls := "LeastSolutionsModel", name := "turn", desc := "(I)V" } : Jvm.MethodName)) ∈ lw_all := lw_g (lw_at lw_m7 86 rfl) rfl
theorem q1601 : (Jvm.Cond.code ({ cls := "LeastSolutionsModel", name := "turn", desc := "(I)V" } : Jvm.MethodName) prog_14_method_22_code (3 : Nat) (Option.none : Option Jvm.ClassFile.FieldType)) ∈ lw_all := lw_g (lw_at lw_m7 87 rfl) rfl
theorem q1602 : (Jvm.Cond.methodLink "LeastSolutionsModel" (188 : Nat) ({ cls := "LeastSolutionsModel", name := "shorten", desc := "()V" } : Jvm.MethodName)) ∈ lw_all := lw_g (lw_at lw_m7 88 rfl) rfl
theorem q1603 : (Jvm.Cond.privateMethod ({ cls := "LeastSolutionsModel", name := "shorten", desc := "()V" } : Jvm.MethodName)) ∈ lw_tbl := lw_at lw_m7 89 rfl
theorem q1604 : (Jvm.Cond.instanceMethod ({ cls := "LeastSolutionsModel", name := "shorten", desc := "()V" } : Jvm.MethodName)) ∈ lw_all := lw_g (lw_at lw_m7 90 rfl) rfl
theorem q1605 : (Jvm.Cond.code ({ cls := "LeastSolutionsModel", name := "shorten", desc := "()V" } : Jvm.MethodName) prog_14_method_26_code (6 : Nat) (Option.none : Option Jvm.ClassFile.FieldType)) ∈ lw_all := lw_g (lw_at lw_m7 91 rfl) rfl
theorem q1607 : (Jvm.Cond.instanceMethod ({ cls := "LeastSolutionsModel", name := "kernel", desc := "()I" } : Jvm.MethodName)) ∈ lw_all := lw_g (lw_at lw_m7 93 rfl) rfl
theorem q1608 : (Jvm.Cond.selects "LeastSolutionsModel" ({ cls := "LeastSolutionsModel", name := "kernel", desc := "()I" } : Jvm.MethodName) ({ cls := "LeastSolutionsModel", name := "kernel", desc := "()I" } : Jvm.MethodName)) ∈ lw_all := lw_g (lw_at lw_m7 94 rfl) rfl
theorem q1609 : (Jvm.Cond.code ({ cls := "LeastSolutionsModel", name := "kernel", desc := "()I" } : Jvm.MethodName) prog_14_method_29_code (1 : Nat) (Option.some Jvm.ClassFile.FieldType.int)) ∈ lw_all := lw_g (lw_at lw_m7 95 rfl) rfl
theorem q1611 : (Jvm.Cond.instanceMethod ({ cls := "LeastSolutionsModel", name := "kernelAt", desc := "(II)J" } : Jvm.MethodName)) ∈ lw_all := lw_g (lw_at lw_m7 97 rfl) rfl
theorem q1612 : (Jvm.Cond.selects "LeastSolutionsModel" ({ cls := "LeastSolutionsModel", name := "kernelAt", desc := "(II)J" } : Jvm.MethodName) ({ cls := "LeastSolutionsModel", name := "kernelAt", desc := "(II)J" } : Jvm.MethodName)) ∈ lw_all := lw_g (lw_at lw_m7 98 rfl) rfl
theorem q1613 : (Jvm.Cond.code ({ cls := "LeastSolutionsModel", name := "kernelAt", desc := "(II)J" } : Jvm.MethodName) prog_14_method_30_code (3 : Nat) (Option.some Jvm.ClassFile.FieldType.long)) ∈ lw_all := lw_g (lw_at lw_m7 99 rfl) rfl
theorem q1614 : (Jvm.Cond.methodLink "LeastSolutionsModel" (194 : Nat) ({ cls := "LeastSolutionsModel", name := "isColumn", desc := "(I)Z" } : Jvm.MethodName)) ∈ lw_all := lw_g (lw_at lw_m7 100 rfl) rfl
theorem q1615 : (Jvm.Cond.privateMethod ({ cls := "LeastSolutionsModel", name := "isColumn", desc := "(I)Z" } : Jvm.MethodName)) ∈ lw_tbl := lw_at lw_m7 101 rfl
theorem q1616 : (Jvm.Cond.instanceMethod ({ cls := "LeastSolutionsModel", name := "isColumn", desc := "(I)Z" } : Jvm.MethodName)) ∈ lw_all := lw_g (lw_at lw_m7 102 rfl) rfl
theorem q1617 : (Jvm.Cond.code ({ cls := "LeastSolutionsModel", name := "isColumn", desc := "(I)Z" } : Jvm.MethodName) prog_14_method_16_code (2 : Nat) (Option.some Jvm.ClassFile.FieldType.boolean)) ∈ lw_all := lw_g (lw_at lw_m7 103 rfl) rfl
theorem q1619 : (Jvm.Cond.instanceMethod ({ cls := "LeastSolutionsModel", name := "work", desc := "(II)I" } : Jvm.MethodName)) ∈ lw_all := lw_g (lw_at lw_m7 105 rfl) rfl
theorem q1620 : (Jvm.Cond.selects "LeastSolutionsModel" ({ cls := "LeastSolutionsModel", name := "work", desc := "(II)I" } : Jvm.MethodName) ({ cls := "LeastSolutionsModel", name := "work", desc := "(II)I" } : Jvm.MethodName)) ∈ lw_all := lw_g (lw_at lw_m7 106 rfl) rfl
theorem q1621 : (Jvm.Cond.code ({ cls := "LeastSolutionsModel", name := "work", desc := "(II)I" } : Jvm.MethodName) prog_14_method_38_code (6 : Nat) (Option.some Jvm.ClassFile.FieldType.int)) ∈ lw_all := lw_g (lw_at lw_m7 107 rfl) rfl
theorem q1622 : (Jvm.Cond.methodLink "LeastSolutionsModel" (210 : Nat) ({ cls := "LeastSolutionsModel", name := "most", desc := "(I)I" } : Jvm.MethodName)) ∈ lw_all := lw_g (lw_at lw_m7 108 rfl) rfl
theorem q1623 : (Jvm.Cond.privateMethod ({ cls := "LeastSolutionsModel", name := "most", desc := "(I)I" } : Jvm.MethodName)) ∈ lw_tbl := lw_at lw_m7 109 rfl
theorem q1624 : (Jvm.Cond.instanceMethod ({ cls := "LeastSolutionsModel", name := "most", desc := "(I)I" } : Jvm.MethodName)) ∈ lw_all := lw_g (lw_at lw_m7 110 rfl) rfl
theorem q1625 : (Jvm.Cond.code ({ cls := "LeastSolutionsModel", name := "most", desc := "(I)I" } : Jvm.MethodName) prog_14_method_35_code (2 : Nat) (Option.some Jvm.ClassFile.FieldType.int)) ∈ lw_all := lw_g (lw_at lw_m7 111 rfl) rfl
theorem q1626 : (Jvm.Cond.methodLink "LeastSolutionsModel" (213 : Nat) ({ cls := "LeastSolutionsModel", name := "begin", desc := "(IZ)V" } : Jvm.MethodName)) ∈ lw_all := lw_g (lw_at lw_m7 112 rfl) rfl
theorem q1627 : (Jvm.Cond.privateMethod ({ cls := "LeastSolutionsModel", name := "begin", desc := "(IZ)V" } : Jvm.MethodName)) ∈ lw_tbl := lw_at lw_m7 113 rfl
theorem q1628 : (Jvm.Cond.instanceMethod ({ cls := "LeastSolutionsModel", name := "begin", desc := "(IZ)V" } : Jvm.MethodName)) ∈ lw_all := lw_g (lw_at lw_m7 114 rfl) rfl
theorem q1629 : (Jvm.Cond.code ({ cls := "LeastSolutionsModel", name := "begin", desc := "(IZ)V" } : Jvm.MethodName) prog_14_method_34_code (4 : Nat) (Option.none : Option Jvm.ClassFile.FieldType)) ∈ lw_all := lw_g (lw_at lw_m7 115 rfl) rfl
theorem q1630 : (Jvm.Cond.methodLink "LeastSolutionsModel" (217 : Nat) ({ cls := "LeastSolutionsModel", name := "belongs", desc := "(I)Z" } : Jvm.MethodName)) ∈ lw_all := lw_g (lw_at lw_m7 116 rfl) rfl
theorem q1631 : (Jvm.Cond.privateMethod ({ cls := "LeastSolutionsModel", name := "belongs", desc := "(I)Z" } : Jvm.MethodName)) ∈ lw_tbl := lw_at lw_m7 117 rfl
theorem q1632 : (Jvm.Cond.instanceMethod ({ cls := "LeastSolutionsModel", name := "belongs", desc := "(I)Z" } : Jvm.MethodName)) ∈ lw_all := lw_g (lw_at lw_m7 118 rfl) rfl
theorem q1633 : (Jvm.Cond.code ({ cls := "LeastSolutionsModel", name := "belongs", desc := "(I)Z" } : Jvm.MethodName) prog_14_method_33_code (6 : Nat) (Option.some Jvm.ClassFile.FieldType.boolean)) ∈ lw_all := lw_g (lw_at lw_m7 119 rfl) rfl
theorem q1634 : (Jvm.Cond.methodLink "LeastSolutionsModel" (198 : Nat) ({ cls := "LeastSolutionsModel", name := "solves", desc := "([IZ)Z" } : Jvm.MethodName)) ∈ lw_all := lw_g (lw_at lw_m7 120 rfl) rfl
theorem q1635 : (Jvm.Cond.privateMethod ({ cls := "LeastSolutionsModel", name := "solves", desc := "([IZ)Z" } : Jvm.MethodName)) ∈ lw_tbl := lw_at lw_m7 121 rfl
theorem q1636 : (Jvm.Cond.instanceMethod ({ cls := "LeastSolutionsModel", name := "solves", desc := "([IZ)Z" } : Jvm.MethodName)) ∈ lw_all := lw_g (lw_at lw_m7 122 rfl) rfl
theorem q1637 : (Jvm.Cond.code ({ cls := "LeastSolutionsModel", name := "solves", desc := "([IZ)Z" } : Jvm.MethodName) prog_14_method_31_code (7 : Nat) (Option.some Jvm.ClassFile.FieldType.boolean)) ∈ lw_all := lw_g (lw_at lw_m7 123 rfl) rfl
theorem q1638 : (Jvm.Cond.methodLink "LeastSolutionsModel" (202 : Nat) ({ cls := "LeastSolutionsModel", name := "isBelow", desc := "(III)Z" } : Jvm.MethodName)) ∈ lw_all := lw_g (lw_at lw_m7 124 rfl) rfl
theorem q1639 : (Jvm.Cond.privateMethod ({ cls := "LeastSolutionsModel", name := "isBelow", desc := "(III)Z" } : Jvm.MethodName)) ∈ lw_tbl := lw_at lw_m7 125 rfl
theorem q1640 : (Jvm.Cond.instanceMethod ({ cls := "LeastSolutionsModel", name := "isBelow", desc := "(III)Z" } : Jvm.MethodName)) ∈ lw_all := lw_g (lw_at lw_m7 126 rfl) rfl
theorem q1641 : (Jvm.Cond.code ({ cls := "LeastSolutionsModel", name := "isBelow", desc := "(III)Z" } : Jvm.MethodName) prog_14_method_32_code (7 : Nat) (Option.some Jvm.ClassFile.FieldType.boolean)) ∈ lw_all := lw_g (lw_at lw_m7 127 rfl) rfl
theorem q1642 : (Jvm.Cond.methodLink "LeastSolutionsModel" (220 : Nat) ({ cls := "LeastSolutionsModel", name := "put", desc := "(I)V" } : Jvm.MethodName)) ∈ lw_all := lw_g (lw_at lw_m7 128 rfl) rfl
theorem q1643 : (Jvm.Cond.privateMethod ({ cls := "LeastSolutionsModel", name := "put", desc := "(I)V" } : Jvm.MethodName)) ∈ lw_tbl := lw_at lw_m7 129 rfl
theorem q1644 : (Jvm.Cond.instanceMethod ({ cls := "LeastSolutionsModel", name := "put", desc := "(I)V" } : Jvm.MethodName)) ∈ lw_all := lw_g (lw_at lw_m7 130 rfl) rfl
theorem q1645 : (Jvm.Cond.code ({ cls := "LeastSolutionsModel", name := "put", desc := "(I)V" } : Jvm.MethodName) prog_14_method_39_code (3 : Nat) (Option.none : Option Jvm.ClassFile.FieldType)) ∈ lw_all := lw_g (lw_at lw_m7 131 rfl) rfl
theorem q1646 : (Jvm.Cond.methodLink "LeastSolutionsModel" (223 : Nat) ({ cls := "LeastSolutionsModel", name := "next", desc := "(Z)Z" } : Jvm.MethodName)) ∈ lw_all := lw_g (lw_at lw_m7 132 rfl) rfl
theorem q1647 : (Jvm.Cond.privateMethod ({ cls := "LeastSolutionsModel", name := "next", desc := "(Z)Z" } : Jvm.MethodName)) ∈ lw_tbl := lw_at lw_m7 133 rfl
theorem q1648 : (Jvm.Cond.instanceMethod ({ cls := "LeastSolutionsModel", name := "next", desc := "(Z)Z" } : Jvm.MethodName)) ∈ lw_all := lw_g (lw_at lw_m7 134 rfl) rfl
theorem q1649 : (Jvm.Cond.code ({ cls := "LeastSolutionsModel", name := "next", desc := "(Z)Z" } : Jvm.MethodName) prog_14_method_36_code (9 : Nat) (Option.some Jvm.ClassFile.FieldType.boolean)) ∈ lw_all := lw_g (lw_at lw_m7 135 rfl) rfl
theorem q1650 : (Jvm.Cond.methodLink "LeastSolutionsModel" (206 : Nat) ({ cls := "LeastSolutionsModel", name := "spread", desc := "(IIZ)V" } : Jvm.MethodName)) ∈ lw_all := lw_g (lw_at lw_m7 136 rfl) rfl
theorem q1651 : (Jvm.Cond.privateMethod ({ cls := "LeastSolutionsModel", name := "spread", desc := "(IIZ)V" } : Jvm.MethodName)) ∈ lw_tbl := lw_at lw_m7 137 rfl
theorem q1652 : (Jvm.Cond.instanceMethod ({ cls := "LeastSolutionsModel", name := "spread", desc := "(IIZ)V" } : Jvm.MethodName)) ∈ lw_all := lw_g (lw_at lw_m7 138 rfl) rfl
theorem q1653 : (Jvm.Cond.code ({ cls := "LeastSolutionsModel", name := "spread", desc := "(IIZ)V" } : Jvm.MethodName) prog_14_method_37_code (5 : Nat) (Option.none : Option Jvm.ClassFile.FieldType)) ∈ lw_all := lw_g (lw_at lw_m7 139 rfl) rfl
theorem q1655 : (Jvm.Cond.instanceMethod ({ cls := "LeastSolutionsModel", name := "at", desc := "(III)I" } : Jvm.MethodName)) ∈ lw_all := lw_g (lw_at lw_m7 141 rfl) rfl
theorem q1656 : (Jvm.Cond.selects "LeastSolutionsModel" ({ cls := "LeastSolutionsModel", name := "at", desc := "(III)I" } : Jvm.MethodName) ({ cls := "LeastSolutionsModel", name := "at", desc := "(III)I" } : Jvm.MethodName)) ∈ lw_all := lw_g (lw_at lw_m7 142 rfl) rfl
theorem q1657 : (Jvm.Cond.code ({ cls := "LeastSolutionsModel", name := "at", desc := "(III)I" } : Jvm.MethodName) prog_14_method_40_code (5 : Nat) (Option.some Jvm.ClassFile.FieldType.int)) ∈ lw_all := lw_g (lw_at lw_m7 143 rfl) rfl
theorem q1659 : (Jvm.Cond.instanceMethod ({ cls := "LeastSolutionsModel", name := "tell", desc := "(II)V" } : Jvm.MethodName)) ∈ lw_all := lw_g (lw_at lw_m7 145 rfl) rfl
theorem q1660 : (Jvm.Cond.selects "LeastSolutionsModel" ({ cls := "LeastSolutionsModel", name := "tell", desc := "(II)V" } : Jvm.MethodName) ({ cls := "LeastSolutionsModel", name := "tell", desc := "(II)V" } : Jvm.MethodName)) ∈ lw_all := lw_g (lw_at lw_m7 146 rfl) rfl
theorem q1661 : (Jvm.Cond.code ({ cls := "LeastSolutionsModel", name := "tell", desc := "(II)V" } : Jvm.MethodName) prog_14_method_41_code (3 : Nat) (Option.none : Option Jvm.ClassFile.FieldType)) ∈ lw_all := lw_g (lw_at lw_m7 147 rfl) rfl
theorem q1663 : (Jvm.Cond.instanceMethod ({ cls := "LeastSolutionsModel", name := "holds", desc := "()I" } : Jvm.MethodName)) ∈ lw_all := lw_g (lw_at lw_m7 149 rfl) rfl
theorem q1664 : (Jvm.Cond.selects "LeastSolutionsModel" ({ cls := "LeastSolutionsModel", name := "holds", desc := "()I" } : Jvm.MethodName) ({ cls := "LeastSolutionsModel", name := "holds", desc := "()I" } : Jvm.MethodName)) ∈ lw_all := lw_g (lw_at lw_m7 150 rfl) rfl
theorem q1665 : (Jvm.Cond.code ({ cls := "LeastSolutionsModel", name := "holds", desc := "()I" } : Jvm.MethodName) prog_14_method_43_code (1 : Nat) (Option.some Jvm.ClassFile.FieldType.int)) ∈ lw_all := lw_g (lw_at lw_m7 151 rfl) rfl
theorem q1666 : (Jvm.Cond.methodLink "LeastSolutionsModel" (227 : Nat) ({ cls := "LeastSolutionsModel", name := "isPlain", desc := "()Z" } : Jvm.MethodName)) ∈ lw_all := lw_g (lw_at lw_m7 152 rfl) rfl
theorem q1667 : (Jvm.Cond.privateMethod ({ cls := "LeastSolutionsModel", name := "isPlain", desc := "()Z" } : Jvm.MethodName)) ∈ lw_tbl := lw_at lw_m7 153 rfl
theorem q1668 : (Jvm.Cond.instanceMethod ({ cls := "LeastSolutionsModel", name := "isPlain", desc := "()Z" } : Jvm.MethodName)) ∈ lw_all := lw_g (lw_at lw_m7 154 rfl) rfl
theorem q1669 : (Jvm.Cond.code ({ cls := "LeastSolutionsModel", name := "isPlain", desc := "()Z" } : Jvm.MethodName) prog_14_method_42_code (3 : Nat) (Option.some Jvm.ClassFile.FieldType.boolean)) ∈ lw_all := lw_g (lw_at lw_m7 155 rfl) rfl
theorem q1671 : (Jvm.Cond.instanceMethod ({ cls := "LeastSolutionsModel", name := "split", desc := "()I" } : Jvm.MethodName)) ∈ lw_all := lw_g (lw_at lw_m7 157 rfl) rfl
theorem q1672 : (Jvm.Cond.selects "LeastSolutionsModel" ({ cls := "LeastSolutionsModel", name := "split", desc := "()I" } : Jvm.MethodName) ({ cls := "LeastSolutionsModel", name := "split", desc := "()I" } : Jvm.MethodName)) ∈ lw_all := lw_g (lw_at lw_m7 158 rfl) rfl
theorem q1673 : (Jvm.Cond.code ({ cls := "LeastSolutionsModel", name := "split", desc := "()I" } : Jvm.MethodName) prog_14_method_44_code (5 : Nat) (Option.some Jvm.ClassFile.FieldType.int)) ∈ lw_all := lw_g (lw_at lw_m7 159 rfl) rfl
theorem q1675 : (Jvm.Cond.instanceMethod ({ cls := "LeastSolutionsModel", name := "times", desc := "(I)I" } : Jvm.MethodName)) ∈ lw_all := lw_g (lw_at lw_m7 161 rfl) rfl
theorem q1676 : (Jvm.Cond.selects "LeastSolutionsModel" ({ cls := "LeastSolutionsModel", name := "times", desc := "(I)I" } : Jvm.MethodName) ({ cls := "LeastSolutionsModel", name := "times", desc := "(I)I" } : Jvm.MethodName)) ∈ lw_all := lw_g (lw_at lw_m7 162 rfl) rfl
theorem q1677 : (Jvm.Cond.code ({ cls := "LeastSolutionsModel", name := "times", desc := "(I)I" } : Jvm.MethodName) prog_14_method_45_code (2 : Nat) (Option.some Jvm.ClassFile.FieldType.int)) ∈ lw_all := lw_g (lw_at lw_m7 163 rfl) rfl
theorem q1679 : (Jvm.Cond.instanceMethod ({ cls := "LeastSolutionsModel", name := "cost", desc := "(II)V" } : Jvm.MethodName)) ∈ lw_all := lw_g (lw_at lw_m7 165 rfl) rfl
theorem q1680 : (Jvm.Cond.selects "LeastSolutionsModel" ({ cls := "LeastSolutionsModel", name := "cost", desc := "(II)V" } : Jvm.MethodName) ({ cls := "LeastSolutionsModel", name := "cost", desc := "(II)V" } : Jvm.MethodName)) ∈ lw_all := lw_g (lw_at lw_m7 166 rfl) rfl
theorem q1681 : (Jvm.Cond.code ({ cls := "LeastSolutionsModel", name := "cost", desc := "(II)V" } : Jvm.MethodName) prog_14_method_46_code (3 : Nat) (Option.none : Option Jvm.ClassFile.FieldType)) ∈ lw_all := lw_g (lw_at lw_m7 167 rfl) rfl
theorem q1683 : (Jvm.Cond.instanceMethod ({ cls := "LeastSolutionsModel", name := "best", desc := "(I)I" } : Jvm.MethodName)) ∈ lw_all := lw_g (lw_at lw_m7 169 rfl) rfl
theorem q1684 : (Jvm.Cond.selects "LeastSolutionsModel" ({ cls := "LeastSolutionsModel", name := "best", desc := "(I)I" } : Jvm.MethodName) ({ cls := "LeastSolutionsModel", name := "best", desc := "(I)I" } : Jvm.MethodName)) ∈ lw_all := lw_g (lw_at lw_m7 170 rfl) rfl
theorem q1685 : (Jvm.Cond.code ({ cls := "LeastSolutionsModel", name := "best", desc := "(I)I" } : Jvm.MethodName) prog_14_method_48_code (8 : Nat) (Option.some Jvm.ClassFile.FieldType.int)) ∈ lw_all := lw_g (lw_at lw_m7 171 rfl) rfl
theorem q1686 : (Jvm.Cond.methodLink "LeastSolutionsModel" (231 : Nat) ({ cls := "LeastSolutionsModel", name := "isBefore", desc := "()Z" } : Jvm.MethodName)) ∈ lw_all := lw_g (lw_at lw_m7 172 rfl) rfl
theorem q1687 : (Jvm.Cond.privateMethod ({ cls := "LeastSolutionsModel", name := "isBefore", desc := "()Z" } : Jvm.MethodName)) ∈ lw_tbl := lw_at lw_m7 173 rfl
theorem q1688 : (Jvm.Cond.instanceMethod ({ cls := "LeastSolutionsModel", name := "isBefore", desc := "()Z" } : Jvm.MethodName)) ∈ lw_all := lw_g (lw_at lw_m7 174 rfl) rfl
theorem q1689 : (Jvm.Cond.code ({ cls := "LeastSolutionsModel", name := "isBefore", desc := "()Z" } : Jvm.MethodName) prog_14_method_47_code (2 : Nat) (Option.some Jvm.ClassFile.FieldType.boolean)) ∈ lw_all := lw_g (lw_at lw_m7 175 rfl) rfl
theorem q1691 : (Jvm.Cond.instanceMethod ({ cls := "LeastSolutionsModel", name := "bestAt", desc := "(I)I" } : Jvm.MethodName)) ∈ lw_all := lw_g (lw_at lw_m7 177 rfl) rfl
theorem q1692 : (Jvm.Cond.selects "LeastSolutionsModel" ({ cls := "LeastSolutionsModel", name := "bestAt", desc := "(I)I" } : Jvm.MethodName) ({ cls := "LeastSolutionsModel", name := "bestAt", desc := "(I)I" } : Jvm.MethodName)) ∈ lw_all := lw_g (lw_at lw_m7 178 rfl) rfl
theorem q1693 : (Jvm.Cond.code ({ cls := "LeastSolutionsModel", name := "bestAt", desc := "(I)I" } : Jvm.MethodName) prog_14_method_49_code (2 : Nat) (Option.some Jvm.ClassFile.FieldType.int)) ∈ lw_all := lw_g (lw_at lw_m7 179 rfl) rfl
theorem q1719 : (Jvm.Cond.castable "LeastSolutionsModel" "java/lang/Object") ∈ lw_tbl := lw_at lw_m7 205 rfl
theorem in_X10 : ∀ w ∈ wsX100, w ∈ lw_all := lw_in wsX100 [1426, 1428, 1430, 1432, 1434, 1436, 1438, 1440, 1442, 1444, 1446, 1448, 1450, 1452, 1454, 1456, 1458, 1460, 1462, 1464, 1466, 1468, 1470, 1472, 1474, 1476, 1478, 1480, 1482, 1484, 1486, 1488, 1490, 1492, 1494, 1496] (by decide +kernel) (by decide +kernel)
