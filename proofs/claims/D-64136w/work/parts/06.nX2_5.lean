/-! LeastSolutions$Scanner -/
set_option maxRecDepth 100000
def RX2 : String := "LeastSolutions$Scanner"
def TX2 : u_T := fun k => match k with
  | 0 => ("LeastSolutions$Scanner", "text", "[B", true)
  | 1 => ("LeastSolutions$Scanner", "length", "I", false)
  | 2 => ("LeastSolutions$Scanner", "next", "I", false)
  | 3 => ("LeastSolutions$Scanner", "word", "LLeastSolutions$Word;", false)
  | 4 => ("LeastSolutions$Scanner", "place", "I", false)
  | _ => ("LeastSolutions$Scanner", "value", "I", false)
def tyX2 : Nat → FieldType := fun k => match k with
  | 0 => .array .byte
  | 1 => .int
  | 2 => .int
  | 3 => .object "LeastSolutions$Word"
  | 4 => .int
  | _ => .int
abbrev wsX20 : List Cond := u_ws RX2 TX2 6
theorem nmX2 : ∀ a, a < 6 → ∀ b, b < 6 → a ≠ b → (TX2 a).2.1 ≠ (TX2 b).2.1 := by decide +kernel
theorem tyX2_ok : ∀ k, k < 6 → parseFieldDescriptor (TX2 k).2.2.1 = some (tyX2 k) := by decide +kernel
abbrev cX2_init : ByteArray := prog_8_method_1_code
def yX2_init : MethodName := ⟨RX2, "<init>", "()V"⟩
def dkwX2_init_0 : List UInt8 := [42, 183, 0, 3, 42, 17, 1, 44, 188, 8, 181, 0, 9, 42, 178, 0, 15, 181, 0, 21, 177]
abbrev dktX2_init_0 : List UInt8 := dkwX2_init_0 ++ []
theorem dksX2_init_0 : cX2_init.data.toList.drop 0 = dktX2_init_0 := by decide +kernel
theorem dX2_init_0 : decode cX2_init 0 = .ok (.aload_n 0, 1) := dk_42 (dk_at dksX2_init_0 0 rfl rfl)
theorem dX2_init_1 : decode cX2_init 1 = .ok (.invokespecial 3, 3) := dk_183 0 3 (dk_at dksX2_init_0 1 rfl rfl)
theorem dX2_init_4 : decode cX2_init 4 = .ok (.aload_n 0, 1) := dk_42 (dk_at dksX2_init_0 4 rfl rfl)
theorem dX2_init_5 : decode cX2_init 5 = .ok (.sipush 300, 3) := dk_17 1 44 (dk_at dksX2_init_0 5 rfl rfl)
theorem dX2_init_8 : decode cX2_init 8 = .ok (.newarray .byte, 2) := dk_188_8 (dk_at dksX2_init_0 8 rfl rfl)
theorem dX2_init_10 : decode cX2_init 10 = .ok (.putfield 9, 3) := dk_181 0 9 (dk_at dksX2_init_0 10 rfl rfl)
theorem dX2_init_13 : decode cX2_init 13 = .ok (.aload_n 0, 1) := dk_42 (dk_at dksX2_init_0 13 rfl rfl)
theorem dX2_init_14 : decode cX2_init 14 = .ok (.getstatic 15, 3) := dk_178 0 15 (dk_at dksX2_init_0 14 rfl rfl)
theorem dX2_init_17 : decode cX2_init 17 = .ok (.putfield 21, 3) := dk_181 0 21 (dk_at dksX2_init_0 17 rfl rfl)
theorem dX2_init_20 : decode cX2_init 20 = .ok (.return_, 1) := dk_177 (dk_at dksX2_init_0 20 rfl rfl)
abbrev cX2_begin : ByteArray := prog_8_method_4_code
def yX2_begin : MethodName := ⟨RX2, "begin", "()V"⟩
def dkwX2_begin_0 : List UInt8 := [42, 3, 181, 0, 32, 42, 182, 0, 35, 177]
abbrev dktX2_begin_0 : List UInt8 := dkwX2_begin_0 ++ []
theorem dksX2_begin_0 : cX2_begin.data.toList.drop 0 = dktX2_begin_0 := by decide +kernel
theorem dX2_begin_0 : decode cX2_begin 0 = .ok (.aload_n 0, 1) := dk_42 (dk_at dksX2_begin_0 0 rfl rfl)
theorem dX2_begin_1 : decode cX2_begin 1 = .ok (.iconst 0, 1) := dk_3 (dk_at dksX2_begin_0 1 rfl rfl)
theorem dX2_begin_2 : decode cX2_begin 2 = .ok (.putfield 32, 3) := dk_181 0 32 (dk_at dksX2_begin_0 2 rfl rfl)
theorem dX2_begin_5 : decode cX2_begin 5 = .ok (.aload_n 0, 1) := dk_42 (dk_at dksX2_begin_0 5 rfl rfl)
theorem dX2_begin_6 : decode cX2_begin 6 = .ok (.invokevirtual 35, 3) := dk_182 0 35 (dk_at dksX2_begin_0 6 rfl rfl)
theorem dX2_begin_9 : decode cX2_begin 9 = .ok (.return_, 1) := dk_177 (dk_at dksX2_begin_0 9 rfl rfl)
abbrev cX2_advance : ByteArray := prog_8_method_5_code
def yX2_advance : MethodName := ⟨RX2, "advance", "()V"⟩
def dkwX2_advance_1 : List UInt8 := [167, 255, 233, 42, 42, 180, 0, 32, 181, 0, 38, 42, 42, 182, 0, 41, 181, 0, 21, 177]
abbrev dktX2_advance_1 : List UInt8 := dkwX2_advance_1 ++ []
def dkwX2_advance_0 : List UInt8 := [42, 42, 180, 0, 32, 182, 0, 28, 16, 32, 160, 0, 16, 42, 89, 180, 0, 32, 4, 96, 181, 0, 32]
abbrev dktX2_advance_0 : List UInt8 := dkwX2_advance_0 ++ dktX2_advance_1
theorem dksX2_advance_0 : cX2_advance.data.toList.drop 0 = dktX2_advance_0 := by decide +kernel
theorem dksX2_advance_1 : cX2_advance.data.toList.drop 23 = dktX2_advance_1 := dk_seg dksX2_advance_0 23 rfl rfl
theorem dX2_advance_0 : decode cX2_advance 0 = .ok (.aload_n 0, 1) := dk_42 (dk_at dksX2_advance_0 0 rfl rfl)
theorem dX2_advance_1 : decode cX2_advance 1 = .ok (.aload_n 0, 1) := dk_42 (dk_at dksX2_advance_0 1 rfl rfl)
theorem dX2_advance_2 : decode cX2_advance 2 = .ok (.getfield 32, 3) := dk_180 0 32 (dk_at dksX2_advance_0 2 rfl rfl)
theorem dX2_advance_5 : decode cX2_advance 5 = .ok (.invokevirtual 28, 3) := dk_182 0 28 (dk_at dksX2_advance_0 5 rfl rfl)
theorem dX2_advance_8 : decode cX2_advance 8 = .ok (.bipush 32, 2) := dk_16 32 (dk_at dksX2_advance_0 8 rfl rfl)
theorem dX2_advance_10 : decode cX2_advance 10 = .ok (.if_icmp .ne 16, 3) := dk_160 0 16 (dk_at dksX2_advance_0 10 rfl rfl)
theorem dX2_advance_13 : decode cX2_advance 13 = .ok (.aload_n 0, 1) := dk_42 (dk_at dksX2_advance_0 13 rfl rfl)
theorem dX2_advance_14 : decode cX2_advance 14 = .ok (.dup, 1) := dk_89 (dk_at dksX2_advance_0 14 rfl rfl)
theorem dX2_advance_15 : decode cX2_advance 15 = .ok (.getfield 32, 3) := dk_180 0 32 (dk_at dksX2_advance_0 15 rfl rfl)
theorem dX2_advance_18 : decode cX2_advance 18 = .ok (.iconst 1, 1) := dk_4 (dk_at dksX2_advance_0 18 rfl rfl)
theorem dX2_advance_19 : decode cX2_advance 19 = .ok (.iadd, 1) := dk_96 (dk_at dksX2_advance_0 19 rfl rfl)
theorem dX2_advance_20 : decode cX2_advance 20 = .ok (.putfield 32, 3) := dk_181 0 32 (dk_at dksX2_advance_0 20 rfl rfl)
theorem dX2_advance_23 : decode cX2_advance 23 = .ok (.goto (-23), 3) := dk_167 255 233 (dk_at dksX2_advance_1 0 rfl rfl)
theorem dX2_advance_26 : decode cX2_advance 26 = .ok (.aload_n 0, 1) := dk_42 (dk_at dksX2_advance_1 3 rfl rfl)
theorem dX2_advance_27 : decode cX2_advance 27 = .ok (.aload_n 0, 1) := dk_42 (dk_at dksX2_advance_1 4 rfl rfl)
theorem dX2_advance_28 : decode cX2_advance 28 = .ok (.getfield 32, 3) := dk_180 0 32 (dk_at dksX2_advance_1 5 rfl rfl)
theorem dX2_advance_31 : decode cX2_advance 31 = .ok (.putfield 38, 3) := dk_181 0 38 (dk_at dksX2_advance_1 8 rfl rfl)
theorem dX2_advance_34 : decode cX2_advance 34 = .ok (.aload_n 0, 1) := dk_42 (dk_at dksX2_advance_1 11 rfl rfl)
theorem dX2_advance_35 : decode cX2_advance 35 = .ok (.aload_n 0, 1) := dk_42 (dk_at dksX2_advance_1 12 rfl rfl)
theorem dX2_advance_36 : decode cX2_advance 36 = .ok (.invokevirtual 41, 3) := dk_182 0 41 (dk_at dksX2_advance_1 13 rfl rfl)
theorem dX2_advance_39 : decode cX2_advance 39 = .ok (.putfield 21, 3) := dk_181 0 21 (dk_at dksX2_advance_1 16 rfl rfl)
theorem dX2_advance_42 : decode cX2_advance 42 = .ok (.return_, 1) := dk_177 (dk_at dksX2_advance_1 19 rfl rfl)
abbrev cX2_at : ByteArray := prog_8_method_2_code
def yX2_at : MethodName := ⟨RX2, "at", "(I)I"⟩
def dkwX2_at_0 : List UInt8 := [27, 42, 180, 0, 24, 162, 0, 12, 42, 180, 0, 9, 27, 51, 167, 0, 4, 2, 172]
abbrev dktX2_at_0 : List UInt8 := dkwX2_at_0 ++ []
theorem dksX2_at_0 : cX2_at.data.toList.drop 0 = dktX2_at_0 := by decide +kernel
theorem dX2_at_0 : decode cX2_at 0 = .ok (.iload_n 1, 1) := dk_27 (dk_at dksX2_at_0 0 rfl rfl)
theorem dX2_at_1 : decode cX2_at 1 = .ok (.aload_n 0, 1) := dk_42 (dk_at dksX2_at_0 1 rfl rfl)
theorem dX2_at_2 : decode cX2_at 2 = .ok (.getfield 24, 3) := dk_180 0 24 (dk_at dksX2_at_0 2 rfl rfl)
theorem dX2_at_5 : decode cX2_at 5 = .ok (.if_icmp .ge 12, 3) := dk_162 0 12 (dk_at dksX2_at_0 5 rfl rfl)
theorem dX2_at_8 : decode cX2_at 8 = .ok (.aload_n 0, 1) := dk_42 (dk_at dksX2_at_0 8 rfl rfl)
theorem dX2_at_9 : decode cX2_at 9 = .ok (.getfield 9, 3) := dk_180 0 9 (dk_at dksX2_at_0 9 rfl rfl)
theorem dX2_at_12 : decode cX2_at 12 = .ok (.iload_n 1, 1) := dk_27 (dk_at dksX2_at_0 12 rfl rfl)
theorem dX2_at_13 : decode cX2_at 13 = .ok (.baload, 1) := dk_51 (dk_at dksX2_at_0 13 rfl rfl)
theorem dX2_at_14 : decode cX2_at 14 = .ok (.goto 4, 3) := dk_167 0 4 (dk_at dksX2_at_0 14 rfl rfl)
theorem dX2_at_17 : decode cX2_at 17 = .ok (.iconst (-1), 1) := dk_2 (dk_at dksX2_at_0 17 rfl rfl)
theorem dX2_at_18 : decode cX2_at 18 = .ok (.ireturn, 1) := dk_172 (dk_at dksX2_at_0 18 rfl rfl)
abbrev cX2_scan : ByteArray := prog_8_method_7_code
def yX2_scan : MethodName := ⟨RX2, "scan", "()LLeastSolutions$Word;"⟩
def dkwX2_scan_8 : List UInt8 := [178, 0, 52, 176]
abbrev dktX2_scan_8 : List UInt8 := dkwX2_scan_8 ++ []
def dkwX2_scan_7 : List UInt8 := [178, 0, 52, 167, 0, 18, 27, 16, 60, 160, 0, 9, 178, 0, 79, 167, 0, 6, 178, 0, 82, 176]
abbrev dktX2_scan_7 : List UInt8 := dkwX2_scan_7 ++ dktX2_scan_8
def dkwX2_scan_6 : List UInt8 := [42, 89, 180, 0, 32, 28, 153, 0, 7, 4, 167, 0, 4, 3, 96, 181, 0, 32, 28, 154, 0, 9]
abbrev dktX2_scan_6 : List UInt8 := dkwX2_scan_6 ++ dktX2_scan_7
def dkwX2_scan_5 : List UInt8 := [178, 0, 15, 176, 178, 0, 64, 176, 178, 0, 67, 176, 178, 0, 70, 176, 178, 0, 73, 176, 178, 0, 76, 176]
abbrev dktX2_scan_5 : List UInt8 := dkwX2_scan_5 ++ dktX2_scan_6
def dkwX2_scan_4 : List UInt8 := [171, 0, 0, 0, 0, 0, 143, 0, 0, 0, 8, 255, 255, 255, 255, 0, 0, 0, 75, 0, 0, 0, 42, 0, 0, 0, 87, 0, 0, 0, 43, 0, 0, 0, 79, 0, 0, 0, 45, 0, 0, 0, 83, 0, 0, 0, 59, 0, 0, 0, 91, 0, 0, 0, 60, 0, 0, 0, 99, 0, 0, 0, 61, 0, 0, 0, 95, 0, 0, 0, 62, 0, 0, 0, 99]
abbrev dktX2_scan_4 : List UInt8 := dkwX2_scan_4 ++ dktX2_scan_5
def dkwX2_scan_3 : List UInt8 := [3, 61, 27]
abbrev dktX2_scan_3 : List UInt8 := dkwX2_scan_3 ++ dktX2_scan_4
def dkwX2_scan_2 : List UInt8 := [163, 0, 7, 178, 0, 61, 176, 42, 42, 180, 0, 32, 182, 0, 28, 16, 61, 160, 0, 7, 4, 167, 0, 4]
abbrev dktX2_scan_2 : List UInt8 := dkwX2_scan_2 ++ dktX2_scan_3
def dkwX2_scan_1 : List UInt8 := [96, 181, 0, 32, 182, 0, 28, 60, 42, 27, 181, 0, 45, 27, 16, 97, 161, 0, 13, 27, 16, 122]
abbrev dktX2_scan_1 : List UInt8 := dkwX2_scan_1 ++ dktX2_scan_2
def dkwX2_scan_0 : List UInt8 := [42, 42, 180, 0, 32, 182, 0, 48, 153, 0, 8, 42, 182, 0, 58, 176, 42, 42, 89, 180, 0, 32, 90, 4]
abbrev dktX2_scan_0 : List UInt8 := dkwX2_scan_0 ++ dktX2_scan_1
theorem dksX2_scan_0 : cX2_scan.data.toList.drop 0 = dktX2_scan_0 := by decide +kernel
theorem dksX2_scan_1 : cX2_scan.data.toList.drop 24 = dktX2_scan_1 := dk_seg dksX2_scan_0 24 rfl rfl
theorem dksX2_scan_2 : cX2_scan.data.toList.drop 46 = dktX2_scan_2 := dk_seg dksX2_scan_1 22 rfl rfl
theorem dksX2_scan_3 : cX2_scan.data.toList.drop 70 = dktX2_scan_3 := dk_seg dksX2_scan_2 24 rfl rfl
theorem dksX2_scan_4 : cX2_scan.data.toList.drop 73 = dktX2_scan_4 := dk_seg dksX2_scan_3 3 rfl rfl
theorem dksX2_scan_5 : cX2_scan.data.toList.drop 148 = dktX2_scan_5 := dk_seg dksX2_scan_4 75 rfl rfl
theorem dksX2_scan_6 : cX2_scan.data.toList.drop 172 = dktX2_scan_6 := dk_seg dksX2_scan_5 24 rfl rfl
theorem dksX2_scan_7 : cX2_scan.data.toList.drop 194 = dktX2_scan_7 := dk_seg dksX2_scan_6 22 rfl rfl
theorem dksX2_scan_8 : cX2_scan.data.toList.drop 216 = dktX2_scan_8 := dk_seg dksX2_scan_7 22 rfl rfl
theorem dX2_scan_0 : decode cX2_scan 0 = .ok (.aload_n 0, 1) := dk_42 (dk_at dksX2_scan_0 0 rfl rfl)
theorem dX2_scan_1 : decode cX2_scan 1 = .ok (.aload_n 0, 1) := dk_42 (dk_at dksX2_scan_0 1 rfl rfl)
theorem dX2_scan_2 : decode cX2_scan 2 = .ok (.getfield 32, 3) := dk_180 0 32 (dk_at dksX2_scan_0 2 rfl rfl)
theorem dX2_scan_5 : decode cX2_scan 5 = .ok (.invokevirtual 48, 3) := dk_182 0 48 (dk_at dksX2_scan_0 5 rfl rfl)
theorem dX2_scan_8 : decode cX2_scan 8 = .ok (.ifCond .eq 8, 3) := dk_153 0 8 (dk_at dksX2_scan_0 8 rfl rfl)
theorem dX2_scan_11 : decode cX2_scan 11 = .ok (.aload_n 0, 1) := dk_42 (dk_at dksX2_scan_0 11 rfl rfl)
theorem dX2_scan_12 : decode cX2_scan 12 = .ok (.invokevirtual 58, 3) := dk_182 0 58 (dk_at dksX2_scan_0 12 rfl rfl)
theorem dX2_scan_15 : decode cX2_scan 15 = .ok (.areturn, 1) := dk_176 (dk_at dksX2_scan_0 15 rfl rfl)
theorem dX2_scan_16 : decode cX2_scan 16 = .ok (.aload_n 0, 1) := dk_42 (dk_at dksX2_scan_0 16 rfl rfl)
theorem dX2_scan_17 : decode cX2_scan 17 = .ok (.aload_n 0, 1) := dk_42 (dk_at dksX2_scan_0 17 rfl rfl)
theorem dX2_scan_18 : decode cX2_scan 18 = .ok (.dup, 1) := dk_89 (dk_at dksX2_scan_0 18 rfl rfl)
theorem dX2_scan_19 : decode cX2_scan 19 = .ok (.getfield 32, 3) := dk_180 0 32 (dk_at dksX2_scan_0 19 rfl rfl)
theorem dX2_scan_22 : decode cX2_scan 22 = .ok (.dup_x1, 1) := dk_90 (dk_at dksX2_scan_0 22 rfl rfl)
theorem dX2_scan_23 : decode cX2_scan 23 = .ok (.iconst 1, 1) := dk_4 (dk_at dksX2_scan_0 23 rfl rfl)
theorem dX2_scan_24 : decode cX2_scan 24 = .ok (.iadd, 1) := dk_96 (dk_at dksX2_scan_1 0 rfl rfl)
theorem dX2_scan_25 : decode cX2_scan 25 = .ok (.putfield 32, 3) := dk_181 0 32 (dk_at dksX2_scan_1 1 rfl rfl)
theorem dX2_scan_28 : decode cX2_scan 28 = .ok (.invokevirtual 28, 3) := dk_182 0 28 (dk_at dksX2_scan_1 4 rfl rfl)
theorem dX2_scan_31 : decode cX2_scan 31 = .ok (.istore_n 1, 1) := dk_60 (dk_at dksX2_scan_1 7 rfl rfl)
theorem dX2_scan_32 : decode cX2_scan 32 = .ok (.aload_n 0, 1) := dk_42 (dk_at dksX2_scan_1 8 rfl rfl)
theorem dX2_scan_33 : decode cX2_scan 33 = .ok (.iload_n 1, 1) := dk_27 (dk_at dksX2_scan_1 9 rfl rfl)
theorem dX2_scan_34 : decode cX2_scan 34 = .ok (.putfield 45, 3) := dk_181 0 45 (dk_at dksX2_scan_1 10 rfl rfl)
theorem dX2_scan_37 : decode cX2_scan 37 = .ok (.iload_n 1, 1) := dk_27 (dk_at dksX2_scan_1 13 rfl rfl)
theorem dX2_scan_38 : decode cX2_scan 38 = .ok (.bipush 97, 2) := dk_16 97 (dk_at dksX2_scan_1 14 rfl rfl)
theorem dX2_scan_40 : decode cX2_scan 40 = .ok (.if_icmp .lt 13, 3) := dk_161 0 13 (dk_at dksX2_scan_1 16 rfl rfl)
theorem dX2_scan_43 : decode cX2_scan 43 = .ok (.iload_n 1, 1) := dk_27 (dk_at dksX2_scan_1 19 rfl rfl)
theorem dX2_scan_44 : decode cX2_scan 44 = .ok (.bipush 122, 2) := dk_16 122 (dk_at dksX2_scan_1 20 rfl rfl)
theorem dX2_scan_46 : decode cX2_scan 46 = .ok (.if_icmp .gt 7, 3) := dk_163 0 7 (dk_at dksX2_scan_2 0 rfl rfl)
theorem dX2_scan_49 : decode cX2_scan 49 = .ok (.getstatic 61, 3) := dk_178 0 61 (dk_at dksX2_scan_2 3 rfl rfl)
theorem dX2_scan_52 : decode cX2_scan 52 = .ok (.areturn, 1) := dk_176 (dk_at dksX2_scan_2 6 rfl rfl)
theorem dX2_scan_53 : decode cX2_scan 53 = .ok (.aload_n 0, 1) := dk_42 (dk_at dksX2_scan_2 7 rfl rfl)
theorem dX2_scan_54 : decode cX2_scan 54 = .ok (.aload_n 0, 1) := dk_42 (dk_at dksX2_scan_2 8 rfl rfl)
theorem dX2_scan_55 : decode cX2_scan 55 = .ok (.getfield 32, 3) := dk_180 0 32 (dk_at dksX2_scan_2 9 rfl rfl)
theorem dX2_scan_58 : decode cX2_scan 58 = .ok (.invokevirtual 28, 3) := dk_182 0 28 (dk_at dksX2_scan_2 12 rfl rfl)
theorem dX2_scan_61 : decode cX2_scan 61 = .ok (.bipush 61, 2) := dk_16 61 (dk_at dksX2_scan_2 15 rfl rfl)
theorem dX2_scan_63 : decode cX2_scan 63 = .ok (.if_icmp .ne 7, 3) := dk_160 0 7 (dk_at dksX2_scan_2 17 rfl rfl)
theorem dX2_scan_66 : decode cX2_scan 66 = .ok (.iconst 1, 1) := dk_4 (dk_at dksX2_scan_2 20 rfl rfl)
theorem dX2_scan_67 : decode cX2_scan 67 = .ok (.goto 4, 3) := dk_167 0 4 (dk_at dksX2_scan_2 21 rfl rfl)
theorem dX2_scan_70 : decode cX2_scan 70 = .ok (.iconst 0, 1) := dk_3 (dk_at dksX2_scan_3 0 rfl rfl)
theorem dX2_scan_71 : decode cX2_scan 71 = .ok (.istore_n 2, 1) := dk_61 (dk_at dksX2_scan_3 1 rfl rfl)
theorem dX2_scan_72 : decode cX2_scan 72 = .ok (.iload_n 1, 1) := dk_27 (dk_at dksX2_scan_3 2 rfl rfl)
theorem dX2_scan_73 : decode cX2_scan 73 = .ok (.lookupswitch 143 #[(-1, 75), (42, 87), (43, 79), (45, 83), (59, 91), (60, 99), (61, 95), (62, 99)], 75) := by decide +kernel
theorem dX2_scan_148 : decode cX2_scan 148 = .ok (.getstatic 15, 3) := dk_178 0 15 (dk_at dksX2_scan_5 0 rfl rfl)
theorem dX2_scan_151 : decode cX2_scan 151 = .ok (.areturn, 1) := dk_176 (dk_at dksX2_scan_5 3 rfl rfl)
theorem dX2_scan_152 : decode cX2_scan 152 = .ok (.getstatic 64, 3) := dk_178 0 64 (dk_at dksX2_scan_5 4 rfl rfl)
theorem dX2_scan_155 : decode cX2_scan 155 = .ok (.areturn, 1) := dk_176 (dk_at dksX2_scan_5 7 rfl rfl)
theorem dX2_scan_156 : decode cX2_scan 156 = .ok (.getstatic 67, 3) := dk_178 0 67 (dk_at dksX2_scan_5 8 rfl rfl)
theorem dX2_scan_159 : decode cX2_scan 159 = .ok (.areturn, 1) := dk_176 (dk_at dksX2_scan_5 11 rfl rfl)
theorem dX2_scan_160 : decode cX2_scan 160 = .ok (.getstatic 70, 3) := dk_178 0 70 (dk_at dksX2_scan_5 12 rfl rfl)
theorem dX2_scan_163 : decode cX2_scan 163 = .ok (.areturn, 1) := dk_176 (dk_at dksX2_scan_5 15 rfl rfl)
theorem dX2_scan_164 : decode cX2_scan 164 = .ok (.getstatic 73, 3) := dk_178 0 73 (dk_at dksX2_scan_5 16 rfl rfl)
theorem dX2_scan_167 : decode cX2_scan 167 = .ok (.areturn, 1) := dk_176 (dk_at dksX2_scan_5 19 rfl rfl)
theorem dX2_scan_168 : decode cX2_scan 168 = .ok (.getstatic 76, 3) := dk_178 0 76 (dk_at dksX2_scan_5 20 rfl rfl)
theorem dX2_scan_171 : decode cX2_scan 171 = .ok (.areturn, 1) := dk_176 (dk_at dksX2_scan_5 23 rfl rfl)
theorem dX2_scan_172 : decode cX2_scan 172 = .ok (.aload_n 0, 1) := dk_42 (dk_at dksX2_scan_6 0 rfl rfl)
theorem dX2_scan_173 : decode cX2_scan 173 = .ok (.dup, 1) := dk_89 (dk_at dksX2_scan_6 1 rfl rfl)
theorem dX2_scan_174 : decode cX2_scan 174 = .ok (.getfield 32, 3) := dk_180 0 32 (dk_at dksX2_scan_6 2 rfl rfl)
theorem dX2_scan_177 : decode cX2_scan 177 = .ok (.iload_n 2, 1) := dk_28 (dk_at dksX2_scan_6 5 rfl rfl)
theorem dX2_scan_178 : decode cX2_scan 178 = .ok (.ifCond .eq 7, 3) := dk_153 0 7 (dk_at dksX2_scan_6 6 rfl rfl)
theorem dX2_scan_181 : decode cX2_scan 181 = .ok (.iconst 1, 1) := dk_4 (dk_at dksX2_scan_6 9 rfl rfl)
theorem dX2_scan_182 : decode cX2_scan 182 = .ok (.goto 4, 3) := dk_167 0 4 (dk_at dksX2_scan_6 10 rfl rfl)
theorem dX2_scan_185 : decode cX2_scan 185 = .ok (.iconst 0, 1) := dk_3 (dk_at dksX2_scan_6 13 rfl rfl)
theorem dX2_scan_186 : decode cX2_scan 186 = .ok (.iadd, 1) := dk_96 (dk_at dksX2_scan_6 14 rfl rfl)
theorem dX2_scan_187 : decode cX2_scan 187 = .ok (.putfield 32, 3) := dk_181 0 32 (dk_at dksX2_scan_6 15 rfl rfl)
theorem dX2_scan_190 : decode cX2_scan 190 = .ok (.iload_n 2, 1) := dk_28 (dk_at dksX2_scan_6 18 rfl rfl)
theorem dX2_scan_191 : decode cX2_scan 191 = .ok (.ifCond .ne 9, 3) := dk_154 0 9 (dk_at dksX2_scan_6 19 rfl rfl)
theorem dX2_scan_194 : decode cX2_scan 194 = .ok (.getstatic 52, 3) := dk_178 0 52 (dk_at dksX2_scan_7 0 rfl rfl)
theorem dX2_scan_197 : decode cX2_scan 197 = .ok (.goto 18, 3) := dk_167 0 18 (dk_at dksX2_scan_7 3 rfl rfl)
theorem dX2_scan_200 : decode cX2_scan 200 = .ok (.iload_n 1, 1) := dk_27 (dk_at dksX2_scan_7 6 rfl rfl)
theorem dX2_scan_201 : decode cX2_scan 201 = .ok (.bipush 60, 2) := dk_16 60 (dk_at dksX2_scan_7 7 rfl rfl)
theorem dX2_scan_203 : decode cX2_scan 203 = .ok (.if_icmp .ne 9, 3) := dk_160 0 9 (dk_at dksX2_scan_7 9 rfl rfl)
theorem dX2_scan_206 : decode cX2_scan 206 = .ok (.getstatic 79, 3) := dk_178 0 79 (dk_at dksX2_scan_7 12 rfl rfl)
theorem dX2_scan_209 : decode cX2_scan 209 = .ok (.goto 6, 3) := dk_167 0 6 (dk_at dksX2_scan_7 15 rfl rfl)
theorem dX2_scan_212 : decode cX2_scan 212 = .ok (.getstatic 82, 3) := dk_178 0 82 (dk_at dksX2_scan_7 18 rfl rfl)
theorem dX2_scan_215 : decode cX2_scan 215 = .ok (.areturn, 1) := dk_176 (dk_at dksX2_scan_7 21 rfl rfl)
theorem dX2_scan_216 : decode cX2_scan 216 = .ok (.getstatic 52, 3) := dk_178 0 52 (dk_at dksX2_scan_8 0 rfl rfl)
theorem dX2_scan_219 : decode cX2_scan 219 = .ok (.areturn, 1) := dk_176 (dk_at dksX2_scan_8 3 rfl rfl)
abbrev cX2_isDigit : ByteArray := prog_8_method_3_code
def yX2_isDigit : MethodName := ⟨RX2, "isDigit", "(I)Z"⟩
def dkwX2_isDigit_1 : List UInt8 := [3, 172]
abbrev dktX2_isDigit_1 : List UInt8 := dkwX2_isDigit_1 ++ []
def dkwX2_isDigit_0 : List UInt8 := [42, 27, 182, 0, 28, 16, 48, 161, 0, 17, 42, 27, 182, 0, 28, 16, 57, 163, 0, 7, 4, 167, 0, 4]
abbrev dktX2_isDigit_0 : List UInt8 := dkwX2_isDigit_0 ++ dktX2_isDigit_1
theorem dksX2_isDigit_0 : cX2_isDigit.data.toList.drop 0 = dktX2_isDigit_0 := by decide +kernel
theorem dksX2_isDigit_1 : cX2_isDigit.data.toList.drop 24 = dktX2_isDigit_1 := dk_seg dksX2_isDigit_0 24 rfl rfl
theorem dX2_isDigit_0 : decode cX2_isDigit 0 = .ok (.aload_n 0, 1) := dk_42 (dk_at dksX2_isDigit_0 0 rfl rfl)
theorem dX2_isDigit_1 : decode cX2_isDigit 1 = .ok (.iload_n 1, 1) := dk_27 (dk_at dksX2_isDigit_0 1 rfl rfl)
theorem dX2_isDigit_2 : decode cX2_isDigit 2 = .ok (.invokevirtual 28, 3) := dk_182 0 28 (dk_at dksX2_isDigit_0 2 rfl rfl)
theorem dX2_isDigit_5 : decode cX2_isDigit 5 = .ok (.bipush 48, 2) := dk_16 48 (dk_at dksX2_isDigit_0 5 rfl rfl)
theorem dX2_isDigit_7 : decode cX2_isDigit 7 = .ok (.if_icmp .lt 17, 3) := dk_161 0 17 (dk_at dksX2_isDigit_0 7 rfl rfl)
theorem dX2_isDigit_10 : decode cX2_isDigit 10 = .ok (.aload_n 0, 1) := dk_42 (dk_at dksX2_isDigit_0 10 rfl rfl)
theorem dX2_isDigit_11 : decode cX2_isDigit 11 = .ok (.iload_n 1, 1) := dk_27 (dk_at dksX2_isDigit_0 11 rfl rfl)
theorem dX2_isDigit_12 : decode cX2_isDigit 12 = .ok (.invokevirtual 28, 3) := dk_182 0 28 (dk_at dksX2_isDigit_0 12 rfl rfl)
theorem dX2_isDigit_15 : decode cX2_isDigit 15 = .ok (.bipush 57, 2) := dk_16 57 (dk_at dksX2_isDigit_0 15 rfl rfl)
theorem dX2_isDigit_17 : decode cX2_isDigit 17 = .ok (.if_icmp .gt 7, 3) := dk_163 0 7 (dk_at dksX2_isDigit_0 17 rfl rfl)
theorem dX2_isDigit_20 : decode cX2_isDigit 20 = .ok (.iconst 1, 1) := dk_4 (dk_at dksX2_isDigit_0 20 rfl rfl)
theorem dX2_isDigit_21 : decode cX2_isDigit 21 = .ok (.goto 4, 3) := dk_167 0 4 (dk_at dksX2_isDigit_0 21 rfl rfl)
theorem dX2_isDigit_24 : decode cX2_isDigit 24 = .ok (.iconst 0, 1) := dk_3 (dk_at dksX2_isDigit_1 0 rfl rfl)
theorem dX2_isDigit_25 : decode cX2_isDigit 25 = .ok (.ireturn, 1) := dk_172 (dk_at dksX2_isDigit_1 1 rfl rfl)
abbrev cX2_number : ByteArray := prog_8_method_6_code
def yX2_number : MethodName := ⟨RX2, "number", "()LLeastSolutions$Word;"⟩
def dkwX2_number_3 : List UInt8 := [167, 0, 6, 178, 0, 55, 176]
abbrev dktX2_number_3 : List UInt8 := dkwX2_number_3 ++ []
def dkwX2_number_2 : List UInt8 := [181, 0, 32, 167, 255, 212, 42, 180, 0, 32, 42, 180, 0, 38, 100, 7, 164, 0, 9, 178, 0, 52]
abbrev dktX2_number_2 : List UInt8 := dkwX2_number_2 ++ dktX2_number_3
def dkwX2_number_1 : List UInt8 := [42, 42, 180, 0, 32, 182, 0, 28, 96, 16, 48, 100, 181, 0, 45, 42, 89, 180, 0, 32, 4, 96]
abbrev dktX2_number_1 : List UInt8 := dkwX2_number_1 ++ dktX2_number_2
def dkwX2_number_0 : List UInt8 := [42, 3, 181, 0, 45, 42, 42, 180, 0, 32, 182, 0, 48, 153, 0, 39, 42, 16, 10, 42, 180, 0, 45, 104]
abbrev dktX2_number_0 : List UInt8 := dkwX2_number_0 ++ dktX2_number_1
theorem dksX2_number_0 : cX2_number.data.toList.drop 0 = dktX2_number_0 := by decide +kernel
theorem dksX2_number_1 : cX2_number.data.toList.drop 24 = dktX2_number_1 := dk_seg dksX2_number_0 24 rfl rfl
theorem dksX2_number_2 : cX2_number.data.toList.drop 46 = dktX2_number_2 := dk_seg dksX2_number_1 22 rfl rfl
theorem dksX2_number_3 : cX2_number.data.toList.drop 68 = dktX2_number_3 := dk_seg dksX2_number_2 22 rfl rfl
theorem dX2_number_0 : decode cX2_number 0 = .ok (.aload_n 0, 1) := dk_42 (dk_at dksX2_number_0 0 rfl rfl)
theorem dX2_number_1 : decode cX2_number 1 = .ok (.iconst 0, 1) := dk_3 (dk_at dksX2_number_0 1 rfl rfl)
theorem dX2_number_2 : decode cX2_number 2 = .ok (.putfield 45, 3) := dk_181 0 45 (dk_at dksX2_number_0 2 rfl rfl)
theorem dX2_number_5 : decode cX2_number 5 = .ok (.aload_n 0, 1) := dk_42 (dk_at dksX2_number_0 5 rfl rfl)
theorem dX2_number_6 : decode cX2_number 6 = .ok (.aload_n 0, 1) := dk_42 (dk_at dksX2_number_0 6 rfl rfl)
theorem dX2_number_7 : decode cX2_number 7 = .ok (.getfield 32, 3) := dk_180 0 32 (dk_at dksX2_number_0 7 rfl rfl)
theorem dX2_number_10 : decode cX2_number 10 = .ok (.invokevirtual 48, 3) := dk_182 0 48 (dk_at dksX2_number_0 10 rfl rfl)
theorem dX2_number_13 : decode cX2_number 13 = .ok (.ifCond .eq 39, 3) := dk_153 0 39 (dk_at dksX2_number_0 13 rfl rfl)
theorem dX2_number_16 : decode cX2_number 16 = .ok (.aload_n 0, 1) := dk_42 (dk_at dksX2_number_0 16 rfl rfl)
theorem dX2_number_17 : decode cX2_number 17 = .ok (.bipush 10, 2) := dk_16 10 (dk_at dksX2_number_0 17 rfl rfl)
theorem dX2_number_19 : decode cX2_number 19 = .ok (.aload_n 0, 1) := dk_42 (dk_at dksX2_number_0 19 rfl rfl)
theorem dX2_number_20 : decode cX2_number 20 = .ok (.getfield 45, 3) := dk_180 0 45 (dk_at dksX2_number_0 20 rfl rfl)
theorem dX2_number_23 : decode cX2_number 23 = .ok (.imul, 1) := dk_104 (dk_at dksX2_number_0 23 rfl rfl)
theorem dX2_number_24 : decode cX2_number 24 = .ok (.aload_n 0, 1) := dk_42 (dk_at dksX2_number_1 0 rfl rfl)
theorem dX2_number_25 : decode cX2_number 25 = .ok (.aload_n 0, 1) := dk_42 (dk_at dksX2_number_1 1 rfl rfl)
theorem dX2_number_26 : decode cX2_number 26 = .ok (.getfield 32, 3) := dk_180 0 32 (dk_at dksX2_number_1 2 rfl rfl)
theorem dX2_number_29 : decode cX2_number 29 = .ok (.invokevirtual 28, 3) := dk_182 0 28 (dk_at dksX2_number_1 5 rfl rfl)
theorem dX2_number_32 : decode cX2_number 32 = .ok (.iadd, 1) := dk_96 (dk_at dksX2_number_1 8 rfl rfl)
theorem dX2_number_33 : decode cX2_number 33 = .ok (.bipush 48, 2) := dk_16 48 (dk_at dksX2_number_1 9 rfl rfl)
theorem dX2_number_35 : decode cX2_number 35 = .ok (.isub, 1) := dk_100 (dk_at dksX2_number_1 11 rfl rfl)
theorem dX2_number_36 : decode cX2_number 36 = .ok (.putfield 45, 3) := dk_181 0 45 (dk_at dksX2_number_1 12 rfl rfl)
theorem dX2_number_39 : decode cX2_number 39 = .ok (.aload_n 0, 1) := dk_42 (dk_at dksX2_number_1 15 rfl rfl)
theorem dX2_number_40 : decode cX2_number 40 = .ok (.dup, 1) := dk_89 (dk_at dksX2_number_1 16 rfl rfl)
theorem dX2_number_41 : decode cX2_number 41 = .ok (.getfield 32, 3) := dk_180 0 32 (dk_at dksX2_number_1 17 rfl rfl)
theorem dX2_number_44 : decode cX2_number 44 = .ok (.iconst 1, 1) := dk_4 (dk_at dksX2_number_1 20 rfl rfl)
theorem dX2_number_45 : decode cX2_number 45 = .ok (.iadd, 1) := dk_96 (dk_at dksX2_number_1 21 rfl rfl)
theorem dX2_number_46 : decode cX2_number 46 = .ok (.putfield 32, 3) := dk_181 0 32 (dk_at dksX2_number_2 0 rfl rfl)
theorem dX2_number_49 : decode cX2_number 49 = .ok (.goto (-44), 3) := dk_167 255 212 (dk_at dksX2_number_2 3 rfl rfl)
theorem dX2_number_52 : decode cX2_number 52 = .ok (.aload_n 0, 1) := dk_42 (dk_at dksX2_number_2 6 rfl rfl)
theorem dX2_number_53 : decode cX2_number 53 = .ok (.getfield 32, 3) := dk_180 0 32 (dk_at dksX2_number_2 7 rfl rfl)
theorem dX2_number_56 : decode cX2_number 56 = .ok (.aload_n 0, 1) := dk_42 (dk_at dksX2_number_2 10 rfl rfl)
theorem dX2_number_57 : decode cX2_number 57 = .ok (.getfield 38, 3) := dk_180 0 38 (dk_at dksX2_number_2 11 rfl rfl)
theorem dX2_number_60 : decode cX2_number 60 = .ok (.isub, 1) := dk_100 (dk_at dksX2_number_2 14 rfl rfl)
theorem dX2_number_61 : decode cX2_number 61 = .ok (.iconst 4, 1) := dk_7 (dk_at dksX2_number_2 15 rfl rfl)
theorem dX2_number_62 : decode cX2_number 62 = .ok (.if_icmp .le 9, 3) := dk_164 0 9 (dk_at dksX2_number_2 16 rfl rfl)
theorem dX2_number_65 : decode cX2_number 65 = .ok (.getstatic 52, 3) := dk_178 0 52 (dk_at dksX2_number_2 19 rfl rfl)
theorem dX2_number_68 : decode cX2_number 68 = .ok (.goto 6, 3) := dk_167 0 6 (dk_at dksX2_number_3 0 rfl rfl)
theorem dX2_number_71 : decode cX2_number 71 = .ok (.getstatic 55, 3) := dk_178 0 55 (dk_at dksX2_number_3 3 rfl rfl)
theorem dX2_number_74 : decode cX2_number 74 = .ok (.areturn, 1) := dk_176 (dk_at dksX2_number_3 6 rfl rfl)
theorem q76 : (Jvm.Cond.initialized "LeastSolutions$Scanner") ∈ lw_all := lw_g (lw_at lw_m1 2 rfl) rfl
theorem q121 : (Jvm.Cond.instantiable "LeastSolutions$Scanner" (6 : Nat)) ∈ lw_all := lw_g (lw_at lw_m1 47 rfl) rfl
theorem q123 : (Jvm.Cond.instanceMethod ({ cls := "LeastSolutions$Scanner", name := "<init>", desc := "()V" } : Jvm.MethodName)) ∈ lw_all := lw_g (lw_at lw_m1 49 rfl) rfl
theorem q124 : (Jvm.Cond.code ({ cls := "LeastSolutions$Scanner", name := "<init>", desc := "()V" } : Jvm.MethodName) prog_8_method_1_code (1 : Nat) (Option.none : Option Jvm.ClassFile.FieldType)) ∈ lw_all := lw_g (lw_at lw_m1 50 rfl) rfl
theorem q125 : (Jvm.Cond.methodLink "LeastSolutions$Scanner" (3 : Nat) ({ cls := "java/lang/Object", name := "<init>", desc := "()V" } : Jvm.MethodName)) ∈ lw_all := lw_g (lw_at lw_m1 51 rfl) rfl
theorem q126 : (Jvm.Cond.fieldLink "LeastSolutions$Scanner" (15 : Nat) "LeastSolutions$Word" "END" "LLeastSolutions$Word;") ∈ lw_all := lw_g (lw_at lw_m1 52 rfl) rfl
theorem q128 : (Jvm.Cond.fieldLink "LeastSolutions$Scanner" (9 : Nat) "LeastSolutions$Scanner" "text" "[B") ∈ lw_all := lw_g (lw_at lw_m1 54 rfl) rfl
theorem q130 : (Jvm.Cond.fieldLink "LeastSolutions$Scanner" (24 : Nat) "LeastSolutions$Scanner" "length" "I") ∈ lw_all := lw_g (lw_at lw_m1 56 rfl) rfl
theorem q132 : (Jvm.Cond.fieldLink "LeastSolutions$Scanner" (32 : Nat) "LeastSolutions$Scanner" "next" "I") ∈ lw_all := lw_g (lw_at lw_m1 58 rfl) rfl
theorem q133 : (Jvm.Cond.fieldLink "LeastSolutions$Scanner" (21 : Nat) "LeastSolutions$Scanner" "word" "LLeastSolutions$Word;") ∈ lw_all := lw_g (lw_at lw_m1 59 rfl) rfl
theorem q136 : (Jvm.Cond.fieldLink "LeastSolutions$Scanner" (38 : Nat) "LeastSolutions$Scanner" "place" "I") ∈ lw_all := lw_g (lw_at lw_m1 62 rfl) rfl
theorem q137 : (Jvm.Cond.fieldLink "LeastSolutions$Scanner" (45 : Nat) "LeastSolutions$Scanner" "value" "I") ∈ lw_all := lw_g (lw_at lw_m1 63 rfl) rfl
theorem q139 : (Jvm.Cond.laysFinal "LeastSolutions$Scanner" "LeastSolutions$Scanner" "text" "[B") ∈ lw_all := lw_g (lw_at lw_m1 65 rfl) rfl
theorem q140 : (Jvm.Cond.soleField "LeastSolutions$Scanner" "text") ∈ lw_all := lw_g (lw_at lw_m1 66 rfl) rfl
theorem q141 : (Jvm.Cond.lays "LeastSolutions$Scanner" "LeastSolutions$Scanner" "length" "I") ∈ lw_all := lw_g (lw_at lw_m1 67 rfl) rfl
theorem q142 : (Jvm.Cond.soleField "LeastSolutions$Scanner" "length") ∈ lw_all := lw_g (lw_at lw_m1 68 rfl) rfl
theorem q143 : (Jvm.Cond.lays "LeastSolutions$Scanner" "LeastSolutions$Scanner" "next" "I") ∈ lw_all := lw_g (lw_at lw_m1 69 rfl) rfl
theorem q144 : (Jvm.Cond.soleField "LeastSolutions$Scanner" "next") ∈ lw_all := lw_g (lw_at lw_m1 70 rfl) rfl
theorem q145 : (Jvm.Cond.lays "LeastSolutions$Scanner" "LeastSolutions$Scanner" "word" "LLeastSolutions$Word;") ∈ lw_all := lw_g (lw_at lw_m1 71 rfl) rfl
theorem q146 : (Jvm.Cond.soleField "LeastSolutions$Scanner" "word") ∈ lw_all := lw_g (lw_at lw_m1 72 rfl) rfl
theorem q147 : (Jvm.Cond.lays "LeastSolutions$Scanner" "LeastSolutions$Scanner" "place" "I") ∈ lw_all := lw_g (lw_at lw_m1 73 rfl) rfl
theorem q148 : (Jvm.Cond.soleField "LeastSolutions$Scanner" "place") ∈ lw_all := lw_g (lw_at lw_m1 74 rfl) rfl
theorem q149 : (Jvm.Cond.lays "LeastSolutions$Scanner" "LeastSolutions$Scanner" "value" "I") ∈ lw_all := lw_g (lw_at lw_m1 75 rfl) rfl
theorem q150 : (Jvm.Cond.soleField "LeastSolutions$Scanner" "value") ∈ lw_all := lw_g (lw_at lw_m1 76 rfl) rfl
theorem q151 : (Jvm.Cond.superclass "LeastSolutions$Scanner" "java/lang/Object") ∈ lw_all := lw_g (lw_at lw_m1 77 rfl) rfl
theorem q536 : (Jvm.Cond.instanceMethod ({ cls := "LeastSolutions$Scanner", name := "begin", desc := "()V" } : Jvm.MethodName)) ∈ lw_all := lw_g (lw_at lw_m2 222 rfl) rfl
theorem q537 : (Jvm.Cond.selects "LeastSolutions$Scanner" ({ cls := "LeastSolutions$Scanner", name := "begin", desc := "()V" } : Jvm.MethodName) ({ cls := "LeastSolutions$Scanner", name := "begin", desc := "()V" } : Jvm.MethodName)) ∈ lw_all := lw_g (lw_at lw_m2 223 rfl) rfl
theorem q538 : (Jvm.Cond.code ({ cls := "LeastSolutions$Scanner", name := "begin", desc := "()V" } : Jvm.MethodName) prog_8_method_4_code (1 : Nat) (Option.none : Option Jvm.ClassFile.FieldType)) ∈ lw_all := lw_g (lw_at lw_m2 224 rfl) rfl
theorem q539 : (Jvm.Cond.methodLink "LeastSolutions$Scanner" (35 : Nat) ({ cls := "LeastSolutions$Scanner", name := "advance", desc := "()V" } : Jvm.MethodName)) ∈ lw_all := lw_g (lw_at lw_m2 225 rfl) rfl
theorem q540 : (Jvm.Cond.instanceMethod ({ cls := "LeastSolutions$Scanner", name := "advance", desc := "()V" } : Jvm.MethodName)) ∈ lw_all := lw_g (lw_at lw_m2 226 rfl) rfl
theorem q541 : (Jvm.Cond.selects "LeastSolutions$Scanner" ({ cls := "LeastSolutions$Scanner", name := "advance", desc := "()V" } : Jvm.MethodName) ({ cls := "LeastSolutions$Scanner", name := "advance", desc := "()V" } : Jvm.MethodName)) ∈ lw_all := lw_g (lw_at lw_m2 227 rfl) rfl
theorem q542 : (Jvm.Cond.code ({ cls := "LeastSolutions$Scanner", name := "advance", desc := "()V" } : Jvm.MethodName) prog_8_method_5_code (1 : Nat) (Option.none : Option Jvm.ClassFile.FieldType)) ∈ lw_all := lw_g (lw_at lw_m2 228 rfl) rfl
theorem q543 : (Jvm.Cond.methodLink "LeastSolutions$Scanner" (28 : Nat) ({ cls := "LeastSolutions$Scanner", name := "at", desc := "(I)I" } : Jvm.MethodName)) ∈ lw_all := lw_g (lw_at lw_m2 229 rfl) rfl
theorem q544 : (Jvm.Cond.privateMethod ({ cls := "LeastSolutions$Scanner", name := "at", desc := "(I)I" } : Jvm.MethodName)) ∈ lw_tbl := lw_at lw_m2 230 rfl
theorem q545 : (Jvm.Cond.instanceMethod ({ cls := "LeastSolutions$Scanner", name := "at", desc := "(I)I" } : Jvm.MethodName)) ∈ lw_all := lw_g (lw_at lw_m2 231 rfl) rfl
theorem q546 : (Jvm.Cond.code ({ cls := "LeastSolutions$Scanner", name := "at", desc := "(I)I" } : Jvm.MethodName) prog_8_method_2_code (2 : Nat) (Option.some Jvm.ClassFile.FieldType.int)) ∈ lw_all := lw_g (lw_at lw_m2 232 rfl) rfl
theorem q547 : (Jvm.Cond.methodLink "LeastSolutions$Scanner" (41 : Nat) ({ cls := "LeastSolutions$Scanner", name := "scan", desc := "()LLeastSolutions$Word;" } : Jvm.MethodName)) ∈ lw_all := lw_g (lw_at lw_m2 233 rfl) rfl
theorem q548 : (Jvm.Cond.privateMethod ({ cls := "LeastSolutions$Scanner", name := "scan", desc := "()LLeastSolutions$Word;" } : Jvm.MethodName)) ∈ lw_tbl := lw_at lw_m2 234 rfl
theorem q549 : (Jvm.Cond.instanceMethod ({ cls := "LeastSolutions$Scanner", name := "scan", desc := "()LLeastSolutions$Word;" } : Jvm.MethodName)) ∈ lw_all := lw_g (lw_at lw_m2 235 rfl) rfl
theorem q550 : (Jvm.Cond.code ({ cls := "LeastSolutions$Scanner", name := "scan", desc := "()LLeastSolutions$Word;" } : Jvm.MethodName) prog_8_method_7_code (3 : Nat) (Option.some (Jvm.ClassFile.FieldType.object "LeastSolutions$Word"))) ∈ lw_all := lw_g (lw_at lw_m2 236 rfl) rfl
theorem q551 : (Jvm.Cond.methodLink "LeastSolutions$Scanner" (48 : Nat) ({ cls := "LeastSolutions$Scanner", name := "isDigit", desc := "(I)Z" } : Jvm.MethodName)) ∈ lw_all := lw_g (lw_at lw_m2 237 rfl) rfl
theorem q552 : (Jvm.Cond.privateMethod ({ cls := "LeastSolutions$Scanner", name := "isDigit", desc := "(I)Z" } : Jvm.MethodName)) ∈ lw_tbl := lw_at lw_m2 238 rfl
theorem q553 : (Jvm.Cond.instanceMethod ({ cls := "LeastSolutions$Scanner", name := "isDigit", desc := "(I)Z" } : Jvm.MethodName)) ∈ lw_all := lw_g (lw_at lw_m2 239 rfl) rfl
theorem q554 : (Jvm.Cond.code ({ cls := "LeastSolutions$Scanner", name := "isDigit", desc := "(I)Z" } : Jvm.MethodName) prog_8_method_3_code (2 : Nat) (Option.some Jvm.ClassFile.FieldType.boolean)) ∈ lw_all := lw_g (lw_at lw_m3 0 rfl) rfl
theorem q555 : (Jvm.Cond.methodLink "LeastSolutions$Scanner" (58 : Nat) ({ cls := "LeastSolutions$Scanner", name := "number", desc := "()LLeastSolutions$Word;" } : Jvm.MethodName)) ∈ lw_all := lw_g (lw_at lw_m3 1 rfl) rfl
theorem q556 : (Jvm.Cond.privateMethod ({ cls := "LeastSolutions$Scanner", name := "number", desc := "()LLeastSolutions$Word;" } : Jvm.MethodName)) ∈ lw_tbl := lw_at lw_m3 2 rfl
theorem q557 : (Jvm.Cond.instanceMethod ({ cls := "LeastSolutions$Scanner", name := "number", desc := "()LLeastSolutions$Word;" } : Jvm.MethodName)) ∈ lw_all := lw_g (lw_at lw_m3 3 rfl) rfl
theorem q558 : (Jvm.Cond.code ({ cls := "LeastSolutions$Scanner", name := "number", desc := "()LLeastSolutions$Word;" } : Jvm.MethodName) prog_8_method_6_code (1 : Nat) (Option.some (Jvm.ClassFile.FieldType.object "LeastSolutions$Word"))) ∈ lw_all := lw_g (lw_at lw_m3 4 rfl) rfl
theorem q559 : (Jvm.Cond.fieldLink "LeastSolutions$Scanner" (52 : Nat) "LeastSolutions$Word" "WRONG" "LLeastSolutions$Word;") ∈ lw_all := lw_g (lw_at lw_m3 5 rfl) rfl
theorem q561 : (Jvm.Cond.fieldLink "LeastSolutions$Scanner" (55 : Nat) "LeastSolutions$Word" "NUMBER" "LLeastSolutions$Word;") ∈ lw_all := lw_g (lw_at lw_m3 7 rfl) rfl
theorem q563 : (Jvm.Cond.fieldLink "LeastSolutions$Scanner" (61 : Nat) "LeastSolutions$Word" "VARIABLE" "LLeastSolutions$Word;") ∈ lw_all := lw_g (lw_at lw_m3 9 rfl) rfl
theorem q565 : (Jvm.Cond.fieldLink "LeastSolutions$Scanner" (64 : Nat) "LeastSolutions$Word" "PLUS" "LLeastSolutions$Word;") ∈ lw_all := lw_g (lw_at lw_m3 11 rfl) rfl
theorem q567 : (Jvm.Cond.fieldLink "LeastSolutions$Scanner" (67 : Nat) "LeastSolutions$Word" "MINUS" "LLeastSolutions$Word;") ∈ lw_all := lw_g (lw_at lw_m3 13 rfl) rfl
theorem q569 : (Jvm.Cond.fieldLink "LeastSolutions$Scanner" (70 : Nat) "LeastSolutions$Word" "TIMES" "LLeastSolutions$Word;") ∈ lw_all := lw_g (lw_at lw_m3 15 rfl) rfl
theorem q571 : (Jvm.Cond.fieldLink "LeastSolutions$Scanner" (73 : Nat) "LeastSolutions$Word" "STOP" "LLeastSolutions$Word;") ∈ lw_all := lw_g (lw_at lw_m3 17 rfl) rfl
theorem q573 : (Jvm.Cond.fieldLink "LeastSolutions$Scanner" (76 : Nat) "LeastSolutions$Word" "EQUAL" "LLeastSolutions$Word;") ∈ lw_all := lw_g (lw_at lw_m3 19 rfl) rfl
theorem q575 : (Jvm.Cond.fieldLink "LeastSolutions$Scanner" (79 : Nat) "LeastSolutions$Word" "LESS" "LLeastSolutions$Word;") ∈ lw_all := lw_g (lw_at lw_m3 21 rfl) rfl
theorem q577 : (Jvm.Cond.fieldLink "LeastSolutions$Scanner" (82 : Nat) "LeastSolutions$Word" "MORE" "LLeastSolutions$Word;") ∈ lw_all := lw_g (lw_at lw_m3 23 rfl) rfl
theorem q732 : (Jvm.Cond.selects "LeastSolutions$Scanner" ({ cls := "java/lang/Object", name := "getClass", desc := "()Ljava/lang/Class;" } : Jvm.MethodName) ({ cls := "java/lang/Object", name := "getClass", desc := "()Ljava/lang/Class;" } : Jvm.MethodName)) ∈ lw_all := lw_g (lw_at lw_m3 178 rfl) rfl
theorem q1709 : (Jvm.Cond.castable "LeastSolutions$Scanner" "java/lang/Object") ∈ lw_tbl := lw_at lw_m7 195 rfl
theorem in_X2 : ∀ w ∈ wsX20, w ∈ lw_all := lw_in wsX20 [139, 141, 143, 145, 147, 149] (by decide +kernel) (by decide +kernel)
/-! LeastSolutions$Reader -/
set_option maxRecDepth 100000
def RX3 : String := "LeastSolutions$Reader"
def TX3 : u_T := fun k => match k with
  | 0 => ("LeastSolutions$Reader", "scanner", "LLeastSolutions$Scanner;", true)
  | 1 => ("LeastSolutions$Reader", "signal", "Ljava/lang/IllegalArgumentException;", true)
  | 2 => ("LeastSolutions$Reader", "slacks", "[I", true)
  | 3 => ("LeastSolutions$Reader", "slackCount", "I", false)
  | 4 => ("LeastSolutions$Reader", "sums", "[I", true)
  | 5 => ("LeastSolutions$Reader", "alone", "I", false)
  | 6 => ("LeastSolutions$Reader", "m", "LLeastSolutions$Model;", false)
  | 7 => ("LeastSolutions$Reader", "building", "Z", false)
  | 8 => ("LeastSolutions$Reader", "fault", "I", false)
  | _ => ("LeastSolutions$Reader", "place", "I", false)
def tyX3 : Nat → FieldType := fun k => match k with
  | 0 => .object "LeastSolutions$Scanner"
  | 1 => .object "java/lang/IllegalArgumentException"
  | 2 => .array .int
  | 3 => .int
  | 4 => .array .int
  | 5 => .int
  | 6 => .object "LeastSolutions$Model"
  | 7 => .boolean
  | 8 => .int
  | _ => .int
abbrev wsX30 : List Cond := u_ws RX3 TX3 10
theorem nmX3 : ∀ a, a < 10 → ∀ b, b < 10 → a ≠ b → (TX3 a).2.1 ≠ (TX3 b).2.1 := by decide +kernel
theorem tyX3_ok : ∀ k, k < 10 → parseFieldDescriptor (TX3 k).2.2.1 = some (tyX3 k) := by decide +kernel
abbrev cX3_init : ByteArray := prog_7_method_1_code
def yX3_init : MethodName := ⟨RX3, "<init>", "(LLeastSolutions$Scanner;)V"⟩
def dkwX3_init_1 : List UInt8 := [16, 6, 188, 10, 181, 0, 22, 42, 43, 181, 0, 25, 177]
abbrev dktX3_init_1 : List UInt8 := dkwX3_init_1 ++ []
def dkwX3_init_0 : List UInt8 := [42, 183, 0, 3, 42, 187, 0, 9, 89, 183, 0, 11, 181, 0, 12, 42, 7, 188, 10, 181, 0, 18, 42]
abbrev dktX3_init_0 : List UInt8 := dkwX3_init_0 ++ dktX3_init_1
theorem dksX3_init_0 : cX3_init.data.toList.drop 0 = dktX3_init_0 := by decide +kernel
theorem dksX3_init_1 : cX3_init.data.toList.drop 23 = dktX3_init_1 := dk_seg dksX3_init_0 23 rfl rfl
theorem dX3_init_0 : decode cX3_init 0 = .ok (.aload_n 0, 1) := dk_42 (dk_at dksX3_init_0 0 rfl rfl)
theorem dX3_init_1 : decode cX3_init 1 = .ok (.invokespecial 3, 3) := dk_183 0 3 (dk_at dksX3_init_0 1 rfl rfl)
theorem dX3_init_4 : decode cX3_init 4 = .ok (.aload_n 0, 1) := dk_42 (dk_at dksX3_init_0 4 rfl rfl)
theorem dX3_init_5 : decode cX3_init 5 = .ok (.new 9, 3) := dk_187 0 9 (dk_at dksX3_init_0 5 rfl rfl)
theorem dX3_init_8 : decode cX3_init 8 = .ok (.dup, 1) := dk_89 (dk_at dksX3_init_0 8 rfl rfl)
theorem dX3_init_9 : decode cX3_init 9 = .ok (.invokespecial 11, 3) := dk_183 0 11 (dk_at dksX3_init_0 9 rfl rfl)
theorem dX3_init_12 : decode cX3_init 12 = .ok (.putfield 12, 3) := dk_181 0 12 (dk_at dksX3_init_0 12 rfl rfl)
theorem dX3_init_15 : decode cX3_init 15 = .ok (.aload_n 0, 1) := dk_42 (dk_at dksX3_init_0 15 rfl rfl)
theorem dX3_init_16 : decode cX3_init 16 = .ok (.iconst 4, 1) := dk_7 (dk_at dksX3_init_0 16 rfl rfl)
theorem dX3_init_17 : decode cX3_init 17 = .ok (.newarray .int, 2) := dk_188_10 (dk_at dksX3_init_0 17 rfl rfl)
theorem dX3_init_19 : decode cX3_init 19 = .ok (.putfield 18, 3) := dk_181 0 18 (dk_at dksX3_init_0 19 rfl rfl)
theorem dX3_init_22 : decode cX3_init 22 = .ok (.aload_n 0, 1) := dk_42 (dk_at dksX3_init_0 22 rfl rfl)
theorem dX3_init_23 : decode cX3_init 23 = .ok (.bipush 6, 2) := dk_16 6 (dk_at dksX3_init_1 0 rfl rfl)
theorem dX3_init_25 : decode cX3_init 25 = .ok (.newarray .int, 2) := dk_188_10 (dk_at dksX3_init_1 2 rfl rfl)
theorem dX3_init_27 : decode cX3_init 27 = .ok (.putfield 22, 3) := dk_181 0 22 (dk_at dksX3_init_1 4 rfl rfl)
theorem dX3_init_30 : decode cX3_init 30 = .ok (.aload_n 0, 1) := dk_42 (dk_at dksX3_init_1 7 rfl rfl)
theorem dX3_init_31 : decode cX3_init 31 = .ok (.aload_n 1, 1) := dk_43 (dk_at dksX3_init_1 8 rfl rfl)
theorem dX3_init_32 : decode cX3_init 32 = .ok (.putfield 25, 3) := dk_181 0 25 (dk_at dksX3_init_1 9 rfl rfl)
theorem dX3_init_35 : decode cX3_init 35 = .ok (.return_, 1) := dk_177 (dk_at dksX3_init_1 12 rfl rfl)
abbrev cX3_work : ByteArray := prog_7_method_5_code
def yX3_work : MethodName := ⟨RX3, "work", "(LLeastSolutions$Model;)I"⟩
def dkwX3_work_5 : List UInt8 := [167, 255, 203, 3, 172]
abbrev dktX3_work_5 : List UInt8 := dkwX3_work_5 ++ []
def dkwX3_work_4 : List UInt8 := [42, 180, 0, 47, 89, 180, 0, 65, 90, 4, 96, 181, 0, 65, 42, 180, 0, 18, 28, 46, 79, 132, 2, 1]
abbrev dktX3_work_4 : List UInt8 := dkwX3_work_4 ++ dktX3_work_5
def dkwX3_work_3 : List UInt8 := [180, 0, 68, 162, 0, 48, 42, 180, 0, 18, 28, 46, 153, 0, 33, 42, 180, 0, 47, 180, 0, 71, 28, 50]
abbrev dktX3_work_3 : List UInt8 := dkwX3_work_3 ++ dktX3_work_4
def dkwX3_work_2 : List UInt8 := [172, 42, 180, 0, 47, 42, 180, 0, 47, 180, 0, 62, 181, 0, 65, 3, 61, 28, 42, 180, 0, 47]
abbrev dktX3_work_2 : List UInt8 := dkwX3_work_2 ++ dktX3_work_3
def dkwX3_work_1 : List UInt8 := [181, 0, 43, 42, 182, 0, 59, 42, 4, 181, 0, 43, 42, 182, 0, 59, 167, 0, 9, 77, 42, 180, 0, 29]
abbrev dktX3_work_1 : List UInt8 := dkwX3_work_1 ++ dktX3_work_2
def dkwX3_work_0 : List UInt8 := [42, 43, 181, 0, 47, 42, 3, 181, 0, 29, 42, 180, 0, 47, 182, 0, 51, 42, 3, 181, 0, 56, 42, 3]
abbrev dktX3_work_0 : List UInt8 := dkwX3_work_0 ++ dktX3_work_1
theorem dksX3_work_0 : cX3_work.data.toList.drop 0 = dktX3_work_0 := by decide +kernel
theorem dksX3_work_1 : cX3_work.data.toList.drop 24 = dktX3_work_1 := dk_seg dksX3_work_0 24 rfl rfl
theorem dksX3_work_2 : cX3_work.data.toList.drop 48 = dktX3_work_2 := dk_seg dksX3_work_1 24 rfl rfl
theorem dksX3_work_3 : cX3_work.data.toList.drop 70 = dktX3_work_3 := dk_seg dksX3_work_2 22 rfl rfl
theorem dksX3_work_4 : cX3_work.data.toList.drop 94 = dktX3_work_4 := dk_seg dksX3_work_3 24 rfl rfl
theorem dksX3_work_5 : cX3_work.data.toList.drop 118 = dktX3_work_5 := dk_seg dksX3_work_4 24 rfl rfl
theorem dX3_work_0 : decode cX3_work 0 = .ok (.aload_n 0, 1) := dk_42 (dk_at dksX3_work_0 0 rfl rfl)
theorem dX3_work_1 : decode cX3_work 1 = .ok (.aload_n 1, 1) := dk_43 (dk_at dksX3_work_0 1 rfl rfl)
theorem dX3_work_2 : decode cX3_work 2 = .ok (.putfield 47, 3) := dk_181 0 47 (dk_at dksX3_work_0 2 rfl rfl)
theorem dX3_work_5 : decode cX3_work 5 = .ok (.aload_n 0, 1) := dk_42 (dk_at dksX3_work_0 5 rfl rfl)
theorem dX3_work_6 : decode cX3_work 6 = .ok (.iconst 0, 1) := dk_3 (dk_at dksX3_work_0 6 rfl rfl)
theorem dX3_work_7 : decode cX3_work 7 = .ok (.putfield 29, 3) := dk_181 0 29 (dk_at dksX3_work_0 7 rfl rfl)
theorem dX3_work_10 : decode cX3_work 10 = .ok (.aload_n 0, 1) := dk_42 (dk_at dksX3_work_0 10 rfl rfl)
theorem dX3_work_11 : decode cX3_work 11 = .ok (.getfield 47, 3) := dk_180 0 47 (dk_at dksX3_work_0 11 rfl rfl)
theorem dX3_work_14 : decode cX3_work 14 = .ok (.invokevirtual 51, 3) := dk_182 0 51 (dk_at dksX3_work_0 14 rfl rfl)
theorem dX3_work_17 : decode cX3_work 17 = .ok (.aload_n 0, 1) := dk_42 (dk_at dksX3_work_0 17 rfl rfl)
theorem dX3_work_18 : decode cX3_work 18 = .ok (.iconst 0, 1) := dk_3 (dk_at dksX3_work_0 18 rfl rfl)
theorem dX3_work_19 : decode cX3_work 19 = .ok (.putfield 56, 3) := dk_181 0 56 (dk_at dksX3_work_0 19 rfl rfl)
theorem dX3_work_22 : decode cX3_work 22 = .ok (.aload_n 0, 1) := dk_42 (dk_at dksX3_work_0 22 rfl rfl)
theorem dX3_work_23 : decode cX3_work 23 = .ok (.iconst 0, 1) := dk_3 (dk_at dksX3_work_0 23 rfl rfl)
theorem dX3_work_24 : decode cX3_work 24 = .ok (.putfield 43, 3) := dk_181 0 43 (dk_at dksX3_work_1 0 rfl rfl)
theorem dX3_work_27 : decode cX3_work 27 = .ok (.aload_n 0, 1) := dk_42 (dk_at dksX3_work_1 3 rfl rfl)
theorem dX3_work_28 : decode cX3_work 28 = .ok (.invokevirtual 59, 3) := dk_182 0 59 (dk_at dksX3_work_1 4 rfl rfl)
theorem dX3_work_31 : decode cX3_work 31 = .ok (.aload_n 0, 1) := dk_42 (dk_at dksX3_work_1 7 rfl rfl)
theorem dX3_work_32 : decode cX3_work 32 = .ok (.iconst 1, 1) := dk_4 (dk_at dksX3_work_1 8 rfl rfl)
theorem dX3_work_33 : decode cX3_work 33 = .ok (.putfield 43, 3) := dk_181 0 43 (dk_at dksX3_work_1 9 rfl rfl)
theorem dX3_work_36 : decode cX3_work 36 = .ok (.aload_n 0, 1) := dk_42 (dk_at dksX3_work_1 12 rfl rfl)
theorem dX3_work_37 : decode cX3_work 37 = .ok (.invokevirtual 59, 3) := dk_182 0 59 (dk_at dksX3_work_1 13 rfl rfl)
theorem dX3_work_40 : decode cX3_work 40 = .ok (.goto 9, 3) := dk_167 0 9 (dk_at dksX3_work_1 16 rfl rfl)
theorem dX3_work_43 : decode cX3_work 43 = .ok (.astore_n 2, 1) := dk_77 (dk_at dksX3_work_1 19 rfl rfl)
theorem dX3_work_44 : decode cX3_work 44 = .ok (.aload_n 0, 1) := dk_42 (dk_at dksX3_work_1 20 rfl rfl)
theorem dX3_work_45 : decode cX3_work 45 = .ok (.getfield 29, 3) := dk_180 0 29 (dk_at dksX3_work_1 21 rfl rfl)
theorem dX3_work_48 : decode cX3_work 48 = .ok (.ireturn, 1) := dk_172 (dk_at dksX3_work_2 0 rfl rfl)
theorem dX3_work_49 : decode cX3_work 49 = .ok (.aload_n 0, 1) := dk_42 (dk_at dksX3_work_2 1 rfl rfl)
theorem dX3_work_50 : decode cX3_work 50 = .ok (.getfield 47, 3) := dk_180 0 47 (dk_at dksX3_work_2 2 rfl rfl)
theorem dX3_work_53 : decode cX3_work 53 = .ok (.aload_n 0, 1) := dk_42 (dk_at dksX3_work_2 5 rfl rfl)
theorem dX3_work_54 : decode cX3_work 54 = .ok (.getfield 47, 3) := dk_180 0 47 (dk_at dksX3_work_2 6 rfl rfl)
theorem dX3_work_57 : decode cX3_work 57 = .ok (.getfield 62, 3) := dk_180 0 62 (dk_at dksX3_work_2 9 rfl rfl)
theorem dX3_work_60 : decode cX3_work 60 = .ok (.putfield 65, 3) := dk_181 0 65 (dk_at dksX3_work_2 12 rfl rfl)
theorem dX3_work_63 : decode cX3_work 63 = .ok (.iconst 0, 1) := dk_3 (dk_at dksX3_work_2 15 rfl rfl)
theorem dX3_work_64 : decode cX3_work 64 = .ok (.istore_n 2, 1) := dk_61 (dk_at dksX3_work_2 16 rfl rfl)
theorem dX3_work_65 : decode cX3_work 65 = .ok (.iload_n 2, 1) := dk_28 (dk_at dksX3_work_2 17 rfl rfl)
theorem dX3_work_66 : decode cX3_work 66 = .ok (.aload_n 0, 1) := dk_42 (dk_at dksX3_work_2 18 rfl rfl)
theorem dX3_work_67 : decode cX3_work 67 = .ok (.getfield 47, 3) := dk_180 0 47 (dk_at dksX3_work_2 19 rfl rfl)
theorem dX3_work_70 : decode cX3_work 70 = .ok (.getfield 68, 3) := dk_180 0 68 (dk_at dksX3_work_3 0 rfl rfl)
theorem dX3_work_73 : decode cX3_work 73 = .ok (.if_icmp .ge 48, 3) := dk_162 0 48 (dk_at dksX3_work_3 3 rfl rfl)
theorem dX3_work_76 : decode cX3_work 76 = .ok (.aload_n 0, 1) := dk_42 (dk_at dksX3_work_3 6 rfl rfl)
theorem dX3_work_77 : decode cX3_work 77 = .ok (.getfield 18, 3) := dk_180 0 18 (dk_at dksX3_work_3 7 rfl rfl)
theorem dX3_work_80 : decode cX3_work 80 = .ok (.iload_n 2, 1) := dk_28 (dk_at dksX3_work_3 10 rfl rfl)
theorem dX3_work_81 : decode cX3_work 81 = .ok (.iaload, 1) := dk_46 (dk_at dksX3_work_3 11 rfl rfl)
theorem dX3_work_82 : decode cX3_work 82 = .ok (.ifCond .eq 33, 3) := dk_153 0 33 (dk_at dksX3_work_3 12 rfl rfl)
theorem dX3_work_85 : decode cX3_work 85 = .ok (.aload_n 0, 1) := dk_42 (dk_at dksX3_work_3 15 rfl rfl)
theorem dX3_work_86 : decode cX3_work 86 = .ok (.getfield 47, 3) := dk_180 0 47 (dk_at dksX3_work_3 16 rfl rfl)
theorem dX3_work_89 : decode cX3_work 89 = .ok (.getfield 71, 3) := dk_180 0 71 (dk_at dksX3_work_3 19 rfl rfl)
theorem dX3_work_92 : decode cX3_work 92 = .ok (.iload_n 2, 1) := dk_28 (dk_at dksX3_work_3 22 rfl rfl)
theorem dX3_work_93 : decode cX3_work 93 = .ok (.aaload, 1) := dk_50 (dk_at dksX3_work_3 23 rfl rfl)
theorem dX3_work_94 : decode cX3_work 94 = .ok (.aload_n 0, 1) := dk_42 (dk_at dksX3_work_4 0 rfl rfl)
theorem dX3_work_95 : decode cX3_work 95 = .ok (.getfield 47, 3) := dk_180 0 47 (dk_at dksX3_work_4 1 rfl rfl)
theorem dX3_work_98 : decode cX3_work 98 = .ok (.dup, 1) := dk_89 (dk_at dksX3_work_4 4 rfl rfl)
theorem dX3_work_99 : decode cX3_work 99 = .ok (.getfield 65, 3) := dk_180 0 65 (dk_at dksX3_work_4 5 rfl rfl)
theorem dX3_work_102 : decode cX3_work 102 = .ok (.dup_x1, 1) := dk_90 (dk_at dksX3_work_4 8 rfl rfl)
theorem dX3_work_103 : decode cX3_work 103 = .ok (.iconst 1, 1) := dk_4 (dk_at dksX3_work_4 9 rfl rfl)
theorem dX3_work_104 : decode cX3_work 104 = .ok (.iadd, 1) := dk_96 (dk_at dksX3_work_4 10 rfl rfl)
theorem dX3_work_105 : decode cX3_work 105 = .ok (.putfield 65, 3) := dk_181 0 65 (dk_at dksX3_work_4 11 rfl rfl)
theorem dX3_work_108 : decode cX3_work 108 = .ok (.aload_n 0, 1) := dk_42 (dk_at dksX3_work_4 14 rfl rfl)
theorem dX3_work_109 : decode cX3_work 109 = .ok (.getfield 18, 3) := dk_180 0 18 (dk_at dksX3_work_4 15 rfl rfl)
theorem dX3_work_112 : decode cX3_work 112 = .ok (.iload_n 2, 1) := dk_28 (dk_at dksX3_work_4 18 rfl rfl)
theorem dX3_work_113 : decode cX3_work 113 = .ok (.iaload, 1) := dk_46 (dk_at dksX3_work_4 19 rfl rfl)
theorem dX3_work_114 : decode cX3_work 114 = .ok (.iastore, 1) := dk_79 (dk_at dksX3_work_4 20 rfl rfl)
theorem dX3_work_115 : decode cX3_work 115 = .ok (.iinc 2 1, 3) := dk_132 2 1 (dk_at dksX3_work_4 21 rfl rfl)
theorem dX3_work_118 : decode cX3_work 118 = .ok (.goto (-53), 3) := dk_167 255 203 (dk_at dksX3_work_5 0 rfl rfl)
theorem dX3_work_121 : decode cX3_work 121 = .ok (.iconst 0, 1) := dk_3 (dk_at dksX3_work_5 3 rfl rfl)
theorem dX3_work_122 : decode cX3_work 122 = .ok (.ireturn, 1) := dk_172 (dk_at dksX3_work_5 4 rfl rfl)
abbrev cX3_system : ByteArray := prog_7_method_6_code
def yX3_system : MethodName := ⟨RX3, "system", "()V"⟩
def dkwX3_system_2 : List UInt8 := [178, 0, 93, 166, 0, 7, 4, 167, 0, 4, 3, 182, 0, 96, 177]
abbrev dktX3_system_2 : List UInt8 := dkwX3_system_2 ++ []
def dkwX3_system_1 : List UInt8 := [42, 180, 0, 25, 182, 0, 90, 42, 182, 0, 78, 167, 255, 232, 42, 42, 180, 0, 25, 180, 0, 81]
abbrev dktX3_system_1 : List UInt8 := dkwX3_system_1 ++ dktX3_system_2
def dkwX3_system_0 : List UInt8 := [42, 180, 0, 25, 182, 0, 75, 42, 182, 0, 78, 42, 180, 0, 25, 180, 0, 81, 178, 0, 85, 166, 0, 17]
abbrev dktX3_system_0 : List UInt8 := dkwX3_system_0 ++ dktX3_system_1
theorem dksX3_system_0 : cX3_system.data.toList.drop 0 = dktX3_system_0 := by decide +kernel
theorem dksX3_system_1 : cX3_system.data.toList.drop 24 = dktX3_system_1 := dk_seg dksX3_system_0 24 rfl rfl
theorem dksX3_system_2 : cX3_system.data.toList.drop 46 = dktX3_system_2 := dk_seg dksX3_system_1 22 rfl rfl
theorem dX3_system_0 : decode cX3_system 0 = .ok (.aload_n 0, 1) := dk_42 (dk_at dksX3_system_0 0 rfl rfl)
theorem dX3_system_1 : decode cX3_system 1 = .ok (.getfield 25, 3) := dk_180 0 25 (dk_at dksX3_system_0 1 rfl rfl)
theorem dX3_system_4 : decode cX3_system 4 = .ok (.invokevirtual 75, 3) := dk_182 0 75 (dk_at dksX3_system_0 4 rfl rfl)
theorem dX3_system_7 : decode cX3_system 7 = .ok (.aload_n 0, 1) := dk_42 (dk_at dksX3_system_0 7 rfl rfl)
theorem dX3_system_8 : decode cX3_system 8 = .ok (.invokevirtual 78, 3) := dk_182 0 78 (dk_at dksX3_system_0 8 rfl rfl)
theorem dX3_system_11 : decode cX3_system 11 = .ok (.aload_n 0, 1) := dk_42 (dk_at dksX3_system_0 11 rfl rfl)
theorem dX3_system_12 : decode cX3_system 12 = .ok (.getfield 25, 3) := dk_180 0 25 (dk_at dksX3_system_0 12 rfl rfl)
theorem dX3_system_15 : decode cX3_system 15 = .ok (.getfield 81, 3) := dk_180 0 81 (dk_at dksX3_system_0 15 rfl rfl)
theorem dX3_system_18 : decode cX3_system 18 = .ok (.getstatic 85, 3) := dk_178 0 85 (dk_at dksX3_system_0 18 rfl rfl)
theorem dX3_system_21 : decode cX3_system 21 = .ok (.if_acmp .ne 17, 3) := dk_166 0 17 (dk_at dksX3_system_0 21 rfl rfl)
theorem dX3_system_24 : decode cX3_system 24 = .ok (.aload_n 0, 1) := dk_42 (dk_at dksX3_system_1 0 rfl rfl)
theorem dX3_system_25 : decode cX3_system 25 = .ok (.getfield 25, 3) := dk_180 0 25 (dk_at dksX3_system_1 1 rfl rfl)
theorem dX3_system_28 : decode cX3_system 28 = .ok (.invokevirtual 90, 3) := dk_182 0 90 (dk_at dksX3_system_1 4 rfl rfl)
theorem dX3_system_31 : decode cX3_system 31 = .ok (.aload_n 0, 1) := dk_42 (dk_at dksX3_system_1 7 rfl rfl)
theorem dX3_system_32 : decode cX3_system 32 = .ok (.invokevirtual 78, 3) := dk_182 0 78 (dk_at dksX3_system_1 8 rfl rfl)
theorem dX3_system_35 : decode cX3_system 35 = .ok (.goto (-24), 3) := dk_167 255 232 (dk_at dksX3_system_1 11 rfl rfl)
theorem dX3_system_38 : decode cX3_system 38 = .ok (.aload_n 0, 1) := dk_42 (dk_at dksX3_system_1 14 rfl rfl)
theorem dX3_system_39 : decode cX3_system 39 = .ok (.aload_n 0, 1) := dk_42 (dk_at dksX3_system_1 15 rfl rfl)
theorem dX3_system_40 : decode cX3_system 40 = .ok (.getfield 25, 3) := dk_180 0 25 (dk_at dksX3_system_1 16 rfl rfl)
theorem dX3_system_43 : decode cX3_system 43 = .ok (.getfield 81, 3) := dk_180 0 81 (dk_at dksX3_system_1 19 rfl rfl)
theorem dX3_system_46 : decode cX3_system 46 = .ok (.getstatic 93, 3) := dk_178 0 93 (dk_at dksX3_system_2 0 rfl rfl)
theorem dX3_system_49 : decode cX3_system 49 = .ok (.if_acmp .ne 7, 3) := dk_166 0 7 (dk_at dksX3_system_2 3 rfl rfl)
theorem dX3_system_52 : decode cX3_system 52 = .ok (.iconst 1, 1) := dk_4 (dk_at dksX3_system_2 6 rfl rfl)
theorem dX3_system_53 : decode cX3_system 53 = .ok (.goto 4, 3) := dk_167 0 4 (dk_at dksX3_system_2 7 rfl rfl)
theorem dX3_system_56 : decode cX3_system 56 = .ok (.iconst 0, 1) := dk_3 (dk_at dksX3_system_2 10 rfl rfl)
theorem dX3_system_57 : decode cX3_system 57 = .ok (.invokevirtual 96, 3) := dk_182 0 96 (dk_at dksX3_system_2 11 rfl rfl)
theorem dX3_system_60 : decode cX3_system 60 = .ok (.return_, 1) := dk_177 (dk_at dksX3_system_2 14 rfl rfl)
abbrev cX3_row : ByteArray := prog_7_method_7_code
def yX3_row : MethodName := ⟨RX3, "row", "()V"⟩
def dkwX3_row_5 : List UInt8 := [182, 0, 107, 42, 180, 0, 43, 153, 0, 9, 42, 43, 28, 182, 0, 120, 177]
abbrev dktX3_row_5 : List UInt8 := dkwX3_row_5 ++ []
def dkwX3_row_4 : List UInt8 := [178, 0, 117, 166, 0, 7, 4, 167, 0, 4, 3, 182, 0, 96, 42, 180, 0, 25, 182, 0, 90, 42, 2]
abbrev dktX3_row_4 : List UInt8 := dkwX3_row_4 ++ dktX3_row_5
def dkwX3_row_3 : List UInt8 := [180, 0, 25, 180, 0, 36, 61, 42, 43, 178, 0, 111, 165, 0, 17, 43, 178, 0, 114, 165, 0, 10, 43]
abbrev dktX3_row_3 : List UInt8 := dkwX3_row_3 ++ dktX3_row_4
def dkwX3_row_2 : List UInt8 := [167, 255, 240, 42, 3, 181, 0, 104, 42, 4, 182, 0, 107, 42, 180, 0, 25, 180, 0, 81, 76, 42]
abbrev dktX3_row_2 : List UInt8 := dkwX3_row_2 ++ dktX3_row_3
def dkwX3_row_1 : List UInt8 := [180, 0, 36, 182, 0, 100, 3, 60, 27, 16, 6, 162, 0, 16, 42, 180, 0, 22, 27, 3, 79, 132, 1, 1]
abbrev dktX3_row_1 : List UInt8 := dkwX3_row_1 ++ dktX3_row_2
def dkwX3_row_0 : List UInt8 := [42, 42, 180, 0, 47, 180, 0, 68, 7, 162, 0, 7, 4, 167, 0, 4, 3, 5, 42, 180, 0, 25]
abbrev dktX3_row_0 : List UInt8 := dkwX3_row_0 ++ dktX3_row_1
theorem dksX3_row_0 : cX3_row.data.toList.drop 0 = dktX3_row_0 := by decide +kernel
theorem dksX3_row_1 : cX3_row.data.toList.drop 22 = dktX3_row_1 := dk_seg dksX3_row_0 22 rfl rfl
theorem dksX3_row_2 : cX3_row.data.toList.drop 46 = dktX3_row_2 := dk_seg dksX3_row_1 24 rfl rfl
theorem dksX3_row_3 : cX3_row.data.toList.drop 68 = dktX3_row_3 := dk_seg dksX3_row_2 22 rfl rfl
theorem dksX3_row_4 : cX3_row.data.toList.drop 91 = dktX3_row_4 := dk_seg dksX3_row_3 23 rfl rfl
theorem dksX3_row_5 : cX3_row.data.toList.drop 114 = dktX3_row_5 := dk_seg dksX3_row_4 23 rfl rfl
theorem dX3_row_0 : decode cX3_row 0 = .ok (.aload_n 0, 1) := dk_42 (dk_at dksX3_row_0 0 rfl rfl)
theorem dX3_row_1 : decode cX3_row 1 = .ok (.aload_n 0, 1) := dk_42 (dk_at dksX3_row_0 1 rfl rfl)
theorem dX3_row_2 : decode cX3_row 2 = .ok (.getfield 47, 3) := dk_180 0 47 (dk_at dksX3_row_0 2 rfl rfl)
theorem dX3_row_5 : decode cX3_row 5 = .ok (.getfield 68, 3) := dk_180 0 68 (dk_at dksX3_row_0 5 rfl rfl)
theorem dX3_row_8 : decode cX3_row 8 = .ok (.iconst 4, 1) := dk_7 (dk_at dksX3_row_0 8 rfl rfl)
theorem dX3_row_9 : decode cX3_row 9 = .ok (.if_icmp .ge 7, 3) := dk_162 0 7 (dk_at dksX3_row_0 9 rfl rfl)
theorem dX3_row_12 : decode cX3_row 12 = .ok (.iconst 1, 1) := dk_4 (dk_at dksX3_row_0 12 rfl rfl)
theorem dX3_row_13 : decode cX3_row 13 = .ok (.goto 4, 3) := dk_167 0 4 (dk_at dksX3_row_0 13 rfl rfl)
theorem dX3_row_16 : decode cX3_row 16 = .ok (.iconst 0, 1) := dk_3 (dk_at dksX3_row_0 16 rfl rfl)
theorem dX3_row_17 : decode cX3_row 17 = .ok (.iconst 2, 1) := dk_5 (dk_at dksX3_row_0 17 rfl rfl)
theorem dX3_row_18 : decode cX3_row 18 = .ok (.aload_n 0, 1) := dk_42 (dk_at dksX3_row_0 18 rfl rfl)
theorem dX3_row_19 : decode cX3_row 19 = .ok (.getfield 25, 3) := dk_180 0 25 (dk_at dksX3_row_0 19 rfl rfl)
theorem dX3_row_22 : decode cX3_row 22 = .ok (.getfield 36, 3) := dk_180 0 36 (dk_at dksX3_row_1 0 rfl rfl)
theorem dX3_row_25 : decode cX3_row 25 = .ok (.invokevirtual 100, 3) := dk_182 0 100 (dk_at dksX3_row_1 3 rfl rfl)
theorem dX3_row_28 : decode cX3_row 28 = .ok (.iconst 0, 1) := dk_3 (dk_at dksX3_row_1 6 rfl rfl)
theorem dX3_row_29 : decode cX3_row 29 = .ok (.istore_n 1, 1) := dk_60 (dk_at dksX3_row_1 7 rfl rfl)
theorem dX3_row_30 : decode cX3_row 30 = .ok (.iload_n 1, 1) := dk_27 (dk_at dksX3_row_1 8 rfl rfl)
theorem dX3_row_31 : decode cX3_row 31 = .ok (.bipush 6, 2) := dk_16 6 (dk_at dksX3_row_1 9 rfl rfl)
theorem dX3_row_33 : decode cX3_row 33 = .ok (.if_icmp .ge 16, 3) := dk_162 0 16 (dk_at dksX3_row_1 11 rfl rfl)
theorem dX3_row_36 : decode cX3_row 36 = .ok (.aload_n 0, 1) := dk_42 (dk_at dksX3_row_1 14 rfl rfl)
theorem dX3_row_37 : decode cX3_row 37 = .ok (.getfield 22, 3) := dk_180 0 22 (dk_at dksX3_row_1 15 rfl rfl)
theorem dX3_row_40 : decode cX3_row 40 = .ok (.iload_n 1, 1) := dk_27 (dk_at dksX3_row_1 18 rfl rfl)
theorem dX3_row_41 : decode cX3_row 41 = .ok (.iconst 0, 1) := dk_3 (dk_at dksX3_row_1 19 rfl rfl)
theorem dX3_row_42 : decode cX3_row 42 = .ok (.iastore, 1) := dk_79 (dk_at dksX3_row_1 20 rfl rfl)
theorem dX3_row_43 : decode cX3_row 43 = .ok (.iinc 1 1, 3) := dk_132 1 1 (dk_at dksX3_row_1 21 rfl rfl)
theorem dX3_row_46 : decode cX3_row 46 = .ok (.goto (-16), 3) := dk_167 255 240 (dk_at dksX3_row_2 0 rfl rfl)
theorem dX3_row_49 : decode cX3_row 49 = .ok (.aload_n 0, 1) := dk_42 (dk_at dksX3_row_2 3 rfl rfl)
theorem dX3_row_50 : decode cX3_row 50 = .ok (.iconst 0, 1) := dk_3 (dk_at dksX3_row_2 4 rfl rfl)
theorem dX3_row_51 : decode cX3_row 51 = .ok (.putfield 104, 3) := dk_181 0 104 (dk_at dksX3_row_2 5 rfl rfl)
theorem dX3_row_54 : decode cX3_row 54 = .ok (.aload_n 0, 1) := dk_42 (dk_at dksX3_row_2 8 rfl rfl)
theorem dX3_row_55 : decode cX3_row 55 = .ok (.iconst 1, 1) := dk_4 (dk_at dksX3_row_2 9 rfl rfl)
theorem dX3_row_56 : decode cX3_row 56 = .ok (.invokevirtual 107, 3) := dk_182 0 107 (dk_at dksX3_row_2 10 rfl rfl)
theorem dX3_row_59 : decode cX3_row 59 = .ok (.aload_n 0, 1) := dk_42 (dk_at dksX3_row_2 13 rfl rfl)
theorem dX3_row_60 : decode cX3_row 60 = .ok (.getfield 25, 3) := dk_180 0 25 (dk_at dksX3_row_2 14 rfl rfl)
theorem dX3_row_63 : decode cX3_row 63 = .ok (.getfield 81, 3) := dk_180 0 81 (dk_at dksX3_row_2 17 rfl rfl)
theorem dX3_row_66 : decode cX3_row 66 = .ok (.astore_n 1, 1) := dk_76 (dk_at dksX3_row_2 20 rfl rfl)
theorem dX3_row_67 : decode cX3_row 67 = .ok (.aload_n 0, 1) := dk_42 (dk_at dksX3_row_2 21 rfl rfl)
theorem dX3_row_68 : decode cX3_row 68 = .ok (.getfield 25, 3) := dk_180 0 25 (dk_at dksX3_row_3 0 rfl rfl)
theorem dX3_row_71 : decode cX3_row 71 = .ok (.getfield 36, 3) := dk_180 0 36 (dk_at dksX3_row_3 3 rfl rfl)
theorem dX3_row_74 : decode cX3_row 74 = .ok (.istore_n 2, 1) := dk_61 (dk_at dksX3_row_3 6 rfl rfl)
theorem dX3_row_75 : decode cX3_row 75 = .ok (.aload_n 0, 1) := dk_42 (dk_at dksX3_row_3 7 rfl rfl)
theorem dX3_row_76 : decode cX3_row 76 = .ok (.aload_n 1, 1) := dk_43 (dk_at dksX3_row_3 8 rfl rfl)
theorem dX3_row_77 : decode cX3_row 77 = .ok (.getstatic 111, 3) := dk_178 0 111 (dk_at dksX3_row_3 9 rfl rfl)
theorem dX3_row_80 : decode cX3_row 80 = .ok (.if_acmp .eq 17, 3) := dk_165 0 17 (dk_at dksX3_row_3 12 rfl rfl)
theorem dX3_row_83 : decode cX3_row 83 = .ok (.aload_n 1, 1) := dk_43 (dk_at dksX3_row_3 15 rfl rfl)
theorem dX3_row_84 : decode cX3_row 84 = .ok (.getstatic 114, 3) := dk_178 0 114 (dk_at dksX3_row_3 16 rfl rfl)
theorem dX3_row_87 : decode cX3_row 87 = .ok (.if_acmp .eq 10, 3) := dk_165 0 10 (dk_at dksX3_row_3 19 rfl rfl)
theorem dX3_row_90 : decode cX3_row 90 = .ok (.aload_n 1, 1) := dk_43 (dk_at dksX3_row_3 22 rfl rfl)
theorem dX3_row_91 : decode cX3_row 91 = .ok (.getstatic 117, 3) := dk_178 0 117 (dk_at dksX3_row_4 0 rfl rfl)
theorem dX3_row_94 : decode cX3_row 94 = .ok (.if_acmp .ne 7, 3) := dk_166 0 7 (dk_at dksX3_row_4 3 rfl rfl)
theorem dX3_row_97 : decode cX3_row 97 = .ok (.iconst 1, 1) := dk_4 (dk_at dksX3_row_4 6 rfl rfl)
theorem dX3_row_98 : decode cX3_row 98 = .ok (.goto 4, 3) := dk_167 0 4 (dk_at dksX3_row_4 7 rfl rfl)
theorem dX3_row_101 : decode cX3_row 101 = .ok (.iconst 0, 1) := dk_3 (dk_at dksX3_row_4 10 rfl rfl)
theorem dX3_row_102 : decode cX3_row 102 = .ok (.invokevirtual 96, 3) := dk_182 0 96 (dk_at dksX3_row_4 11 rfl rfl)
theorem dX3_row_105 : decode cX3_row 105 = .ok (.aload_n 0, 1) := dk_42 (dk_at dksX3_row_4 14 rfl rfl)
theorem dX3_row_106 : decode cX3_row 106 = .ok (.getfield 25, 3) := dk_180 0 25 (dk_at dksX3_row_4 15 rfl rfl)
theorem dX3_row_109 : decode cX3_row 109 = .ok (.invokevirtual 90, 3) := dk_182 0 90 (dk_at dksX3_row_4 18 rfl rfl)
theorem dX3_row_112 : decode cX3_row 112 = .ok (.aload_n 0, 1) := dk_42 (dk_at dksX3_row_4 21 rfl rfl)
theorem dX3_row_113 : decode cX3_row 113 = .ok (.iconst (-1), 1) := dk_2 (dk_at dksX3_row_4 22 rfl rfl)
theorem dX3_row_114 : decode cX3_row 114 = .ok (.invokevirtual 107, 3) := dk_182 0 107 (dk_at dksX3_row_5 0 rfl rfl)
theorem dX3_row_117 : decode cX3_row 117 = .ok (.aload_n 0, 1) := dk_42 (dk_at dksX3_row_5 3 rfl rfl)
theorem dX3_row_118 : decode cX3_row 118 = .ok (.getfield 43, 3) := dk_180 0 43 (dk_at dksX3_row_5 4 rfl rfl)
theorem dX3_row_121 : decode cX3_row 121 = .ok (.ifCond .eq 9, 3) := dk_153 0 9 (dk_at dksX3_row_5 7 rfl rfl)
theorem dX3_row_124 : decode cX3_row 124 = .ok (.aload_n 0, 1) := dk_42 (dk_at dksX3_row_5 10 rfl rfl)
theorem dX3_row_125 : decode cX3_row 125 = .ok (.aload_n 1, 1) := dk_43 (dk_at dksX3_row_5 11 rfl rfl)
theorem dX3_row_126 : decode cX3_row 126 = .ok (.iload_n 2, 1) := dk_28 (dk_at dksX3_row_5 12 rfl rfl)
theorem dX3_row_127 : decode cX3_row 127 = .ok (.invokevirtual 120, 3) := dk_182 0 120 (dk_at dksX3_row_5 13 rfl rfl)
theorem dX3_row_130 : decode cX3_row 130 = .ok (.return_, 1) := dk_177 (dk_at dksX3_row_5 16 rfl rfl)
abbrev cX3_check : ByteArray := prog_7_method_4_code
def yX3_check : MethodName := ⟨RX3, "check", "(ZII)V"⟩
def dkwX3_check_0 : List UInt8 := [42, 180, 0, 43, 153, 0, 13, 27, 154, 0, 9, 42, 28, 29, 182, 0, 39, 177]
abbrev dktX3_check_0 : List UInt8 := dkwX3_check_0 ++ []
theorem dksX3_check_0 : cX3_check.data.toList.drop 0 = dktX3_check_0 := by decide +kernel
theorem dX3_check_0 : decode cX3_check 0 = .ok (.aload_n 0, 1) := dk_42 (dk_at dksX3_check_0 0 rfl rfl)
theorem dX3_check_1 : decode cX3_check 1 = .ok (.getfield 43, 3) := dk_180 0 43 (dk_at dksX3_check_0 1 rfl rfl)
theorem dX3_check_4 : decode cX3_check 4 = .ok (.ifCond .eq 13, 3) := dk_153 0 13 (dk_at dksX3_check_0 4 rfl rfl)
theorem dX3_check_7 : decode cX3_check 7 = .ok (.iload_n 1, 1) := dk_27 (dk_at dksX3_check_0 7 rfl rfl)
theorem dX3_check_8 : decode cX3_check 8 = .ok (.ifCond .ne 9, 3) := dk_154 0 9 (dk_at dksX3_check_0 8 rfl rfl)
theorem dX3_check_11 : decode cX3_check 11 = .ok (.aload_n 0, 1) := dk_42 (dk_at dksX3_check_0 11 rfl rfl)
theorem dX3_check_12 : decode cX3_check 12 = .ok (.iload_n 2, 1) := dk_28 (dk_at dksX3_check_0 12 rfl rfl)
theorem dX3_check_13 : decode cX3_check 13 = .ok (.iload_n 3, 1) := dk_29 (dk_at dksX3_check_0 13 rfl rfl)
theorem dX3_check_14 : decode cX3_check 14 = .ok (.invokevirtual 39, 3) := dk_182 0 39 (dk_at dksX3_check_0 14 rfl rfl)
theorem dX3_check_17 : decode cX3_check 17 = .ok (.return_, 1) := dk_177 (dk_at dksX3_check_0 17 rfl rfl)
abbrev cX3_stop : ByteArray := prog_7_method_2_code
def yX3_stop : MethodName := ⟨RX3, "stop", "(II)V"⟩
def dkwX3_stop_0 : List UInt8 := [42, 27, 181, 0, 29, 42, 28, 181, 0, 33, 42, 180, 0, 12, 191]
abbrev dktX3_stop_0 : List UInt8 := dkwX3_stop_0 ++ []
theorem dksX3_stop_0 : cX3_stop.data.toList.drop 0 = dktX3_stop_0 := by decide +kernel
theorem dX3_stop_0 : decode cX3_stop 0 = .ok (.aload_n 0, 1) := dk_42 (dk_at dksX3_stop_0 0 rfl rfl)
theorem dX3_stop_1 : decode cX3_stop 1 = .ok (.iload_n 1, 1) := dk_27 (dk_at dksX3_stop_0 1 rfl rfl)
theorem dX3_stop_2 : decode cX3_stop 2 = .ok (.putfield 29, 3) := dk_181 0 29 (dk_at dksX3_stop_0 2 rfl rfl)
theorem dX3_stop_5 : decode cX3_stop 5 = .ok (.aload_n 0, 1) := dk_42 (dk_at dksX3_stop_0 5 rfl rfl)
theorem dX3_stop_6 : decode cX3_stop 6 = .ok (.iload_n 2, 1) := dk_28 (dk_at dksX3_stop_0 6 rfl rfl)
theorem dX3_stop_7 : decode cX3_stop 7 = .ok (.putfield 33, 3) := dk_181 0 33 (dk_at dksX3_stop_0 7 rfl rfl)
theorem dX3_stop_10 : decode cX3_stop 10 = .ok (.aload_n 0, 1) := dk_42 (dk_at dksX3_stop_0 10 rfl rfl)
theorem dX3_stop_11 : decode cX3_stop 11 = .ok (.getfield 12, 3) := dk_180 0 12 (dk_at dksX3_stop_0 11 rfl rfl)
theorem dX3_stop_14 : decode cX3_stop 14 = .ok (.athrow, 1) := dk_191 (dk_at dksX3_stop_0 14 rfl rfl)
abbrev cX3_sum : ByteArray := prog_7_method_9_code
def yX3_sum : MethodName := ⟨RX3, "sum", "(I)V"⟩
def dkwX3_sum_4 : List UInt8 := [182, 0, 90, 42, 29, 182, 0, 136, 167, 255, 198, 177]
abbrev dktX3_sum_4 : List UInt8 := dkwX3_sum_4 ++ []
def dkwX3_sum_3 : List UInt8 := [180, 0, 25, 180, 0, 81, 178, 0, 139, 166, 0, 7, 27, 167, 0, 5, 27, 116, 62, 42, 180, 0, 25]
abbrev dktX3_sum_3 : List UInt8 := dkwX3_sum_3 ++ dktX3_sum_4
def dkwX3_sum_2 : List UInt8 := [180, 0, 81, 178, 0, 139, 165, 0, 16, 42, 180, 0, 25, 180, 0, 81, 178, 0, 133, 166, 0, 38, 42]
abbrev dktX3_sum_2 : List UInt8 := dkwX3_sum_2 ++ dktX3_sum_3
def dkwX3_sum_1 : List UInt8 := [180, 0, 25, 182, 0, 90, 42, 28, 153, 0, 8, 27, 116, 167, 0, 4, 27, 182, 0, 136, 42, 180, 0, 25]
abbrev dktX3_sum_1 : List UInt8 := dkwX3_sum_1 ++ dktX3_sum_2
def dkwX3_sum_0 : List UInt8 := [42, 180, 0, 25, 180, 0, 81, 178, 0, 133, 166, 0, 7, 4, 167, 0, 4, 3, 61, 28, 153, 0, 10, 42]
abbrev dktX3_sum_0 : List UInt8 := dkwX3_sum_0 ++ dktX3_sum_1
theorem dksX3_sum_0 : cX3_sum.data.toList.drop 0 = dktX3_sum_0 := by decide +kernel
theorem dksX3_sum_1 : cX3_sum.data.toList.drop 24 = dktX3_sum_1 := dk_seg dksX3_sum_0 24 rfl rfl
theorem dksX3_sum_2 : cX3_sum.data.toList.drop 48 = dktX3_sum_2 := dk_seg dksX3_sum_1 24 rfl rfl
theorem dksX3_sum_3 : cX3_sum.data.toList.drop 71 = dktX3_sum_3 := dk_seg dksX3_sum_2 23 rfl rfl
theorem dksX3_sum_4 : cX3_sum.data.toList.drop 94 = dktX3_sum_4 := dk_seg dksX3_sum_3 23 rfl rfl
theorem dX3_sum_0 : decode cX3_sum 0 = .ok (.aload_n 0, 1) := dk_42 (dk_at dksX3_sum_0 0 rfl rfl)
theorem dX3_sum_1 : decode cX3_sum 1 = .ok (.getfield 25, 3) := dk_180 0 25 (dk_at dksX3_sum_0 1 rfl rfl)
theorem dX3_sum_4 : decode cX3_sum 4 = .ok (.getfield 81, 3) := dk_180 0 81 (dk_at dksX3_sum_0 4 rfl rfl)
theorem dX3_sum_7 : decode cX3_sum 7 = .ok (.getstatic 133, 3) := dk_178 0 133 (dk_at dksX3_sum_0 7 rfl rfl)
theorem dX3_sum_10 : decode cX3_sum 10 = .ok (.if_acmp .ne 7, 3) := dk_166 0 7 (dk_at dksX3_sum_0 10 rfl rfl)
theorem dX3_sum_13 : decode cX3_sum 13 = .ok (.iconst 1, 1) := dk_4 (dk_at dksX3_sum_0 13 rfl rfl)
theorem dX3_sum_14 : decode cX3_sum 14 = .ok (.goto 4, 3) := dk_167 0 4 (dk_at dksX3_sum_0 14 rfl rfl)
theorem dX3_sum_17 : decode cX3_sum 17 = .ok (.iconst 0, 1) := dk_3 (dk_at dksX3_sum_0 17 rfl rfl)
theorem dX3_sum_18 : decode cX3_sum 18 = .ok (.istore_n 2, 1) := dk_61 (dk_at dksX3_sum_0 18 rfl rfl)
theorem dX3_sum_19 : decode cX3_sum 19 = .ok (.iload_n 2, 1) := dk_28 (dk_at dksX3_sum_0 19 rfl rfl)
theorem dX3_sum_20 : decode cX3_sum 20 = .ok (.ifCond .eq 10, 3) := dk_153 0 10 (dk_at dksX3_sum_0 20 rfl rfl)
theorem dX3_sum_23 : decode cX3_sum 23 = .ok (.aload_n 0, 1) := dk_42 (dk_at dksX3_sum_0 23 rfl rfl)
theorem dX3_sum_24 : decode cX3_sum 24 = .ok (.getfield 25, 3) := dk_180 0 25 (dk_at dksX3_sum_1 0 rfl rfl)
theorem dX3_sum_27 : decode cX3_sum 27 = .ok (.invokevirtual 90, 3) := dk_182 0 90 (dk_at dksX3_sum_1 3 rfl rfl)
theorem dX3_sum_30 : decode cX3_sum 30 = .ok (.aload_n 0, 1) := dk_42 (dk_at dksX3_sum_1 6 rfl rfl)
theorem dX3_sum_31 : decode cX3_sum 31 = .ok (.iload_n 2, 1) := dk_28 (dk_at dksX3_sum_1 7 rfl rfl)
theorem dX3_sum_32 : decode cX3_sum 32 = .ok (.ifCond .eq 8, 3) := dk_153 0 8 (dk_at dksX3_sum_1 8 rfl rfl)
theorem dX3_sum_35 : decode cX3_sum 35 = .ok (.iload_n 1, 1) := dk_27 (dk_at dksX3_sum_1 11 rfl rfl)
theorem dX3_sum_36 : decode cX3_sum 36 = .ok (.ineg, 1) := dk_116 (dk_at dksX3_sum_1 12 rfl rfl)
theorem dX3_sum_37 : decode cX3_sum 37 = .ok (.goto 4, 3) := dk_167 0 4 (dk_at dksX3_sum_1 13 rfl rfl)
theorem dX3_sum_40 : decode cX3_sum 40 = .ok (.iload_n 1, 1) := dk_27 (dk_at dksX3_sum_1 16 rfl rfl)
theorem dX3_sum_41 : decode cX3_sum 41 = .ok (.invokevirtual 136, 3) := dk_182 0 136 (dk_at dksX3_sum_1 17 rfl rfl)
theorem dX3_sum_44 : decode cX3_sum 44 = .ok (.aload_n 0, 1) := dk_42 (dk_at dksX3_sum_1 20 rfl rfl)
theorem dX3_sum_45 : decode cX3_sum 45 = .ok (.getfield 25, 3) := dk_180 0 25 (dk_at dksX3_sum_1 21 rfl rfl)
theorem dX3_sum_48 : decode cX3_sum 48 = .ok (.getfield 81, 3) := dk_180 0 81 (dk_at dksX3_sum_2 0 rfl rfl)
theorem dX3_sum_51 : decode cX3_sum 51 = .ok (.getstatic 139, 3) := dk_178 0 139 (dk_at dksX3_sum_2 3 rfl rfl)
theorem dX3_sum_54 : decode cX3_sum 54 = .ok (.if_acmp .eq 16, 3) := dk_165 0 16 (dk_at dksX3_sum_2 6 rfl rfl)
theorem dX3_sum_57 : decode cX3_sum 57 = .ok (.aload_n 0, 1) := dk_42 (dk_at dksX3_sum_2 9 rfl rfl)
theorem dX3_sum_58 : decode cX3_sum 58 = .ok (.getfield 25, 3) := dk_180 0 25 (dk_at dksX3_sum_2 10 rfl rfl)
theorem dX3_sum_61 : decode cX3_sum 61 = .ok (.getfield 81, 3) := dk_180 0 81 (dk_at dksX3_sum_2 13 rfl rfl)
theorem dX3_sum_64 : decode cX3_sum 64 = .ok (.getstatic 133, 3) := dk_178 0 133 (dk_at dksX3_sum_2 16 rfl rfl)
theorem dX3_sum_67 : decode cX3_sum 67 = .ok (.if_acmp .ne 38, 3) := dk_166 0 38 (dk_at dksX3_sum_2 19 rfl rfl)
theorem dX3_sum_70 : decode cX3_sum 70 = .ok (.aload_n 0, 1) := dk_42 (dk_at dksX3_sum_2 22 rfl rfl)
theorem dX3_sum_71 : decode cX3_sum 71 = .ok (.getfield 25, 3) := dk_180 0 25 (dk_at dksX3_sum_3 0 rfl rfl)
theorem dX3_sum_74 : decode cX3_sum 74 = .ok (.getfield 81, 3) := dk_180 0 81 (dk_at dksX3_sum_3 3 rfl rfl)
theorem dX3_sum_77 : decode cX3_sum 77 = .ok (.getstatic 139, 3) := dk_178 0 139 (dk_at dksX3_sum_3 6 rfl rfl)
theorem dX3_sum_80 : decode cX3_sum 80 = .ok (.if_acmp .ne 7, 3) := dk_166 0 7 (dk_at dksX3_sum_3 9 rfl rfl)
theorem dX3_sum_83 : decode cX3_sum 83 = .ok (.iload_n 1, 1) := dk_27 (dk_at dksX3_sum_3 12 rfl rfl)
theorem dX3_sum_84 : decode cX3_sum 84 = .ok (.goto 5, 3) := dk_167 0 5 (dk_at dksX3_sum_3 13 rfl rfl)
theorem dX3_sum_87 : decode cX3_sum 87 = .ok (.iload_n 1, 1) := dk_27 (dk_at dksX3_sum_3 16 rfl rfl)
theorem dX3_sum_88 : decode cX3_sum 88 = .ok (.ineg, 1) := dk_116 (dk_at dksX3_sum_3 17 rfl rfl)
theorem dX3_sum_89 : decode cX3_sum 89 = .ok (.istore_n 3, 1) := dk_62 (dk_at dksX3_sum_3 18 rfl rfl)
theorem dX3_sum_90 : decode cX3_sum 90 = .ok (.aload_n 0, 1) := dk_42 (dk_at dksX3_sum_3 19 rfl rfl)
theorem dX3_sum_91 : decode cX3_sum 91 = .ok (.getfield 25, 3) := dk_180 0 25 (dk_at dksX3_sum_3 20 rfl rfl)
theorem dX3_sum_94 : decode cX3_sum 94 = .ok (.invokevirtual 90, 3) := dk_182 0 90 (dk_at dksX3_sum_4 0 rfl rfl)
theorem dX3_sum_97 : decode cX3_sum 97 = .ok (.aload_n 0, 1) := dk_42 (dk_at dksX3_sum_4 3 rfl rfl)
theorem dX3_sum_98 : decode cX3_sum 98 = .ok (.iload_n 3, 1) := dk_29 (dk_at dksX3_sum_4 4 rfl rfl)
theorem dX3_sum_99 : decode cX3_sum 99 = .ok (.invokevirtual 136, 3) := dk_182 0 136 (dk_at dksX3_sum_4 5 rfl rfl)
theorem dX3_sum_102 : decode cX3_sum 102 = .ok (.goto (-58), 3) := dk_167 255 198 (dk_at dksX3_sum_4 8 rfl rfl)
theorem dX3_sum_105 : decode cX3_sum 105 = .ok (.return_, 1) := dk_177 (dk_at dksX3_sum_4 11 rfl rfl)
abbrev cX3_term : ByteArray := prog_7_method_10_code
def yX3_term : MethodName := ⟨RX3, "term", "(I)V"⟩
def dkwX3_term_7 : List UInt8 := [89, 180, 0, 104, 27, 28, 104, 96, 181, 0, 104, 177]
abbrev dktX3_term_7 : List UInt8 := dkwX3_term_7 ++ []
def dkwX3_term_6 : List UInt8 := [180, 0, 145, 182, 0, 154, 92, 46, 27, 28, 104, 96, 79, 42, 180, 0, 25, 182, 0, 90, 167, 0, 15, 42]
abbrev dktX3_term_6 : List UInt8 := dkwX3_term_6 ++ dktX3_term_7
def dkwX3_term_5 : List UInt8 := [178, 0, 151, 166, 0, 42, 42, 180, 0, 43, 153, 0, 25, 42, 180, 0, 22, 42, 42, 180, 0, 25]
abbrev dktX3_term_5 : List UInt8 := dkwX3_term_5 ++ dktX3_term_6
def dkwX3_term_4 : List UInt8 := [180, 0, 81, 178, 0, 151, 166, 0, 7, 4, 167, 0, 4, 3, 182, 0, 96, 42, 180, 0, 25, 180, 0, 81]
abbrev dktX3_term_4 : List UInt8 := dkwX3_term_4 ++ dktX3_term_5
def dkwX3_term_3 : List UInt8 := [54, 4, 21, 4, 153, 0, 10, 42, 180, 0, 25, 182, 0, 90, 42, 21, 4, 153, 0, 16, 42, 180, 0, 25]
abbrev dktX3_term_3 : List UInt8 := dkwX3_term_3 ++ dktX3_term_4
def dkwX3_term_2 : List UInt8 := [180, 0, 25, 182, 0, 90, 42, 180, 0, 25, 180, 0, 81, 178, 0, 148, 166, 0, 7, 4, 167, 0, 4, 3]
abbrev dktX3_term_2 : List UInt8 := dkwX3_term_2 ++ dktX3_term_3
def dkwX3_term_1 : List UInt8 := [154, 0, 7, 4, 167, 0, 4, 3, 54, 4, 29, 153, 0, 50, 42, 180, 0, 25, 180, 0, 145, 61, 42]
abbrev dktX3_term_1 : List UInt8 := dkwX3_term_1 ++ dktX3_term_2
def dkwX3_term_0 : List UInt8 := [4, 61, 42, 180, 0, 25, 180, 0, 81, 178, 0, 142, 166, 0, 7, 4, 167, 0, 4, 3, 62, 29]
abbrev dktX3_term_0 : List UInt8 := dkwX3_term_0 ++ dktX3_term_1
theorem dksX3_term_0 : cX3_term.data.toList.drop 0 = dktX3_term_0 := by decide +kernel
theorem dksX3_term_1 : cX3_term.data.toList.drop 22 = dktX3_term_1 := dk_seg dksX3_term_0 22 rfl rfl
theorem dksX3_term_2 : cX3_term.data.toList.drop 45 = dktX3_term_2 := dk_seg dksX3_term_1 23 rfl rfl
theorem dksX3_term_3 : cX3_term.data.toList.drop 69 = dktX3_term_3 := dk_seg dksX3_term_2 24 rfl rfl
theorem dksX3_term_4 : cX3_term.data.toList.drop 93 = dktX3_term_4 := dk_seg dksX3_term_3 24 rfl rfl
theorem dksX3_term_5 : cX3_term.data.toList.drop 117 = dktX3_term_5 := dk_seg dksX3_term_4 24 rfl rfl
theorem dksX3_term_6 : cX3_term.data.toList.drop 139 = dktX3_term_6 := dk_seg dksX3_term_5 22 rfl rfl
theorem dksX3_term_7 : cX3_term.data.toList.drop 163 = dktX3_term_7 := dk_seg dksX3_term_6 24 rfl rfl
theorem dX3_term_0 : decode cX3_term 0 = .ok (.iconst 1, 1) := dk_4 (dk_at dksX3_term_0 0 rfl rfl)
theorem dX3_term_1 : decode cX3_term 1 = .ok (.istore_n 2, 1) := dk_61 (dk_at dksX3_term_0 1 rfl rfl)
theorem dX3_term_2 : decode cX3_term 2 = .ok (.aload_n 0, 1) := dk_42 (dk_at dksX3_term_0 2 rfl rfl)
theorem dX3_term_3 : decode cX3_term 3 = .ok (.getfield 25, 3) := dk_180 0 25 (dk_at dksX3_term_0 3 rfl rfl)
theorem dX3_term_6 : decode cX3_term 6 = .ok (.getfield 81, 3) := dk_180 0 81 (dk_at dksX3_term_0 6 rfl rfl)
theorem dX3_term_9 : decode cX3_term 9 = .ok (.getstatic 142, 3) := dk_178 0 142 (dk_at dksX3_term_0 9 rfl rfl)
theorem dX3_term_12 : decode cX3_term 12 = .ok (.if_acmp .ne 7, 3) := dk_166 0 7 (dk_at dksX3_term_0 12 rfl rfl)
theorem dX3_term_15 : decode cX3_term 15 = .ok (.iconst 1, 1) := dk_4 (dk_at dksX3_term_0 15 rfl rfl)
theorem dX3_term_16 : decode cX3_term 16 = .ok (.goto 4, 3) := dk_167 0 4 (dk_at dksX3_term_0 16 rfl rfl)
theorem dX3_term_19 : decode cX3_term 19 = .ok (.iconst 0, 1) := dk_3 (dk_at dksX3_term_0 19 rfl rfl)
theorem dX3_term_20 : decode cX3_term 20 = .ok (.istore_n 3, 1) := dk_62 (dk_at dksX3_term_0 20 rfl rfl)
theorem dX3_term_21 : decode cX3_term 21 = .ok (.iload_n 3, 1) := dk_29 (dk_at dksX3_term_0 21 rfl rfl)
theorem dX3_term_22 : decode cX3_term 22 = .ok (.ifCond .ne 7, 3) := dk_154 0 7 (dk_at dksX3_term_1 0 rfl rfl)
theorem dX3_term_25 : decode cX3_term 25 = .ok (.iconst 1, 1) := dk_4 (dk_at dksX3_term_1 3 rfl rfl)
theorem dX3_term_26 : decode cX3_term 26 = .ok (.goto 4, 3) := dk_167 0 4 (dk_at dksX3_term_1 4 rfl rfl)
theorem dX3_term_29 : decode cX3_term 29 = .ok (.iconst 0, 1) := dk_3 (dk_at dksX3_term_1 7 rfl rfl)
theorem dX3_term_30 : decode cX3_term 30 = .ok (.istore 4, 2) := dk_54 4 (dk_at dksX3_term_1 8 rfl rfl)
theorem dX3_term_32 : decode cX3_term 32 = .ok (.iload_n 3, 1) := dk_29 (dk_at dksX3_term_1 10 rfl rfl)
theorem dX3_term_33 : decode cX3_term 33 = .ok (.ifCond .eq 50, 3) := dk_153 0 50 (dk_at dksX3_term_1 11 rfl rfl)
theorem dX3_term_36 : decode cX3_term 36 = .ok (.aload_n 0, 1) := dk_42 (dk_at dksX3_term_1 14 rfl rfl)
theorem dX3_term_37 : decode cX3_term 37 = .ok (.getfield 25, 3) := dk_180 0 25 (dk_at dksX3_term_1 15 rfl rfl)
theorem dX3_term_40 : decode cX3_term 40 = .ok (.getfield 145, 3) := dk_180 0 145 (dk_at dksX3_term_1 18 rfl rfl)
theorem dX3_term_43 : decode cX3_term 43 = .ok (.istore_n 2, 1) := dk_61 (dk_at dksX3_term_1 21 rfl rfl)
theorem dX3_term_44 : decode cX3_term 44 = .ok (.aload_n 0, 1) := dk_42 (dk_at dksX3_term_1 22 rfl rfl)
theorem dX3_term_45 : decode cX3_term 45 = .ok (.getfield 25, 3) := dk_180 0 25 (dk_at dksX3_term_2 0 rfl rfl)
theorem dX3_term_48 : decode cX3_term 48 = .ok (.invokevirtual 90, 3) := dk_182 0 90 (dk_at dksX3_term_2 3 rfl rfl)
theorem dX3_term_51 : decode cX3_term 51 = .ok (.aload_n 0, 1) := dk_42 (dk_at dksX3_term_2 6 rfl rfl)
theorem dX3_term_52 : decode cX3_term 52 = .ok (.getfield 25, 3) := dk_180 0 25 (dk_at dksX3_term_2 7 rfl rfl)
theorem dX3_term_55 : decode cX3_term 55 = .ok (.getfield 81, 3) := dk_180 0 81 (dk_at dksX3_term_2 10 rfl rfl)
theorem dX3_term_58 : decode cX3_term 58 = .ok (.getstatic 148, 3) := dk_178 0 148 (dk_at dksX3_term_2 13 rfl rfl)
theorem dX3_term_61 : decode cX3_term 61 = .ok (.if_acmp .ne 7, 3) := dk_166 0 7 (dk_at dksX3_term_2 16 rfl rfl)
theorem dX3_term_64 : decode cX3_term 64 = .ok (.iconst 1, 1) := dk_4 (dk_at dksX3_term_2 19 rfl rfl)
theorem dX3_term_65 : decode cX3_term 65 = .ok (.goto 4, 3) := dk_167 0 4 (dk_at dksX3_term_2 20 rfl rfl)
theorem dX3_term_68 : decode cX3_term 68 = .ok (.iconst 0, 1) := dk_3 (dk_at dksX3_term_2 23 rfl rfl)
theorem dX3_term_69 : decode cX3_term 69 = .ok (.istore 4, 2) := dk_54 4 (dk_at dksX3_term_3 0 rfl rfl)
theorem dX3_term_71 : decode cX3_term 71 = .ok (.iload 4, 2) := dk_21 4 (dk_at dksX3_term_3 2 rfl rfl)
theorem dX3_term_73 : decode cX3_term 73 = .ok (.ifCond .eq 10, 3) := dk_153 0 10 (dk_at dksX3_term_3 4 rfl rfl)
theorem dX3_term_76 : decode cX3_term 76 = .ok (.aload_n 0, 1) := dk_42 (dk_at dksX3_term_3 7 rfl rfl)
theorem dX3_term_77 : decode cX3_term 77 = .ok (.getfield 25, 3) := dk_180 0 25 (dk_at dksX3_term_3 8 rfl rfl)
theorem dX3_term_80 : decode cX3_term 80 = .ok (.invokevirtual 90, 3) := dk_182 0 90 (dk_at dksX3_term_3 11 rfl rfl)
theorem dX3_term_83 : decode cX3_term 83 = .ok (.aload_n 0, 1) := dk_42 (dk_at dksX3_term_3 14 rfl rfl)
theorem dX3_term_84 : decode cX3_term 84 = .ok (.iload 4, 2) := dk_21 4 (dk_at dksX3_term_3 15 rfl rfl)
theorem dX3_term_86 : decode cX3_term 86 = .ok (.ifCond .eq 16, 3) := dk_153 0 16 (dk_at dksX3_term_3 17 rfl rfl)
theorem dX3_term_89 : decode cX3_term 89 = .ok (.aload_n 0, 1) := dk_42 (dk_at dksX3_term_3 20 rfl rfl)
theorem dX3_term_90 : decode cX3_term 90 = .ok (.getfield 25, 3) := dk_180 0 25 (dk_at dksX3_term_3 21 rfl rfl)
theorem dX3_term_93 : decode cX3_term 93 = .ok (.getfield 81, 3) := dk_180 0 81 (dk_at dksX3_term_4 0 rfl rfl)
theorem dX3_term_96 : decode cX3_term 96 = .ok (.getstatic 151, 3) := dk_178 0 151 (dk_at dksX3_term_4 3 rfl rfl)
theorem dX3_term_99 : decode cX3_term 99 = .ok (.if_acmp .ne 7, 3) := dk_166 0 7 (dk_at dksX3_term_4 6 rfl rfl)
theorem dX3_term_102 : decode cX3_term 102 = .ok (.iconst 1, 1) := dk_4 (dk_at dksX3_term_4 9 rfl rfl)
theorem dX3_term_103 : decode cX3_term 103 = .ok (.goto 4, 3) := dk_167 0 4 (dk_at dksX3_term_4 10 rfl rfl)
theorem dX3_term_106 : decode cX3_term 106 = .ok (.iconst 0, 1) := dk_3 (dk_at dksX3_term_4 13 rfl rfl)
theorem dX3_term_107 : decode cX3_term 107 = .ok (.invokevirtual 96, 3) := dk_182 0 96 (dk_at dksX3_term_4 14 rfl rfl)
theorem dX3_term_110 : decode cX3_term 110 = .ok (.aload_n 0, 1) := dk_42 (dk_at dksX3_term_4 17 rfl rfl)
theorem dX3_term_111 : decode cX3_term 111 = .ok (.getfield 25, 3) := dk_180 0 25 (dk_at dksX3_term_4 18 rfl rfl)
theorem dX3_term_114 : decode cX3_term 114 = .ok (.getfield 81, 3) := dk_180 0 81 (dk_at dksX3_term_4 21 rfl rfl)
theorem dX3_term_117 : decode cX3_term 117 = .ok (.getstatic 151, 3) := dk_178 0 151 (dk_at dksX3_term_5 0 rfl rfl)
theorem dX3_term_120 : decode cX3_term 120 = .ok (.if_acmp .ne 42, 3) := dk_166 0 42 (dk_at dksX3_term_5 3 rfl rfl)
theorem dX3_term_123 : decode cX3_term 123 = .ok (.aload_n 0, 1) := dk_42 (dk_at dksX3_term_5 6 rfl rfl)
theorem dX3_term_124 : decode cX3_term 124 = .ok (.getfield 43, 3) := dk_180 0 43 (dk_at dksX3_term_5 7 rfl rfl)
theorem dX3_term_127 : decode cX3_term 127 = .ok (.ifCond .eq 25, 3) := dk_153 0 25 (dk_at dksX3_term_5 10 rfl rfl)
theorem dX3_term_130 : decode cX3_term 130 = .ok (.aload_n 0, 1) := dk_42 (dk_at dksX3_term_5 13 rfl rfl)
theorem dX3_term_131 : decode cX3_term 131 = .ok (.getfield 22, 3) := dk_180 0 22 (dk_at dksX3_term_5 14 rfl rfl)
theorem dX3_term_134 : decode cX3_term 134 = .ok (.aload_n 0, 1) := dk_42 (dk_at dksX3_term_5 17 rfl rfl)
theorem dX3_term_135 : decode cX3_term 135 = .ok (.aload_n 0, 1) := dk_42 (dk_at dksX3_term_5 18 rfl rfl)
theorem dX3_term_136 : decode cX3_term 136 = .ok (.getfield 25, 3) := dk_180 0 25 (dk_at dksX3_term_5 19 rfl rfl)
theorem dX3_term_139 : decode cX3_term 139 = .ok (.getfield 145, 3) := dk_180 0 145 (dk_at dksX3_term_6 0 rfl rfl)
theorem dX3_term_142 : decode cX3_term 142 = .ok (.invokevirtual 154, 3) := dk_182 0 154 (dk_at dksX3_term_6 3 rfl rfl)
theorem dX3_term_145 : decode cX3_term 145 = .ok (.dup2, 1) := dk_92 (dk_at dksX3_term_6 6 rfl rfl)
theorem dX3_term_146 : decode cX3_term 146 = .ok (.iaload, 1) := dk_46 (dk_at dksX3_term_6 7 rfl rfl)
theorem dX3_term_147 : decode cX3_term 147 = .ok (.iload_n 1, 1) := dk_27 (dk_at dksX3_term_6 8 rfl rfl)
theorem dX3_term_148 : decode cX3_term 148 = .ok (.iload_n 2, 1) := dk_28 (dk_at dksX3_term_6 9 rfl rfl)
theorem dX3_term_149 : decode cX3_term 149 = .ok (.imul, 1) := dk_104 (dk_at dksX3_term_6 10 rfl rfl)
theorem dX3_term_150 : decode cX3_term 150 = .ok (.iadd, 1) := dk_96 (dk_at dksX3_term_6 11 rfl rfl)
theorem dX3_term_151 : decode cX3_term 151 = .ok (.iastore, 1) := dk_79 (dk_at dksX3_term_6 12 rfl rfl)
theorem dX3_term_152 : decode cX3_term 152 = .ok (.aload_n 0, 1) := dk_42 (dk_at dksX3_term_6 13 rfl rfl)
theorem dX3_term_153 : decode cX3_term 153 = .ok (.getfield 25, 3) := dk_180 0 25 (dk_at dksX3_term_6 14 rfl rfl)
theorem dX3_term_156 : decode cX3_term 156 = .ok (.invokevirtual 90, 3) := dk_182 0 90 (dk_at dksX3_term_6 17 rfl rfl)
theorem dX3_term_159 : decode cX3_term 159 = .ok (.goto 15, 3) := dk_167 0 15 (dk_at dksX3_term_6 20 rfl rfl)
theorem dX3_term_162 : decode cX3_term 162 = .ok (.aload_n 0, 1) := dk_42 (dk_at dksX3_term_6 23 rfl rfl)
theorem dX3_term_163 : decode cX3_term 163 = .ok (.dup, 1) := dk_89 (dk_at dksX3_term_7 0 rfl rfl)
theorem dX3_term_164 : decode cX3_term 164 = .ok (.getfield 104, 3) := dk_180 0 104 (dk_at dksX3_term_7 1 rfl rfl)
theorem dX3_term_167 : decode cX3_term 167 = .ok (.iload_n 1, 1) := dk_27 (dk_at dksX3_term_7 4 rfl rfl)
theorem dX3_term_168 : decode cX3_term 168 = .ok (.iload_n 2, 1) := dk_28 (dk_at dksX3_term_7 5 rfl rfl)
theorem dX3_term_169 : decode cX3_term 169 = .ok (.imul, 1) := dk_104 (dk_at dksX3_term_7 6 rfl rfl)
theorem dX3_term_170 : decode cX3_term 170 = .ok (.iadd, 1) := dk_96 (dk_at dksX3_term_7 7 rfl rfl)
theorem dX3_term_171 : decode cX3_term 171 = .ok (.putfield 104, 3) := dk_181 0 104 (dk_at dksX3_term_7 8 rfl rfl)
theorem dX3_term_174 : decode cX3_term 174 = .ok (.return_, 1) := dk_177 (dk_at dksX3_term_7 11 rfl rfl)
abbrev cX3_require : ByteArray := prog_7_method_3_code
def yX3_require : MethodName := ⟨RX3, "require", "(Z)V"⟩
def dkwX3_require_0 : List UInt8 := [27, 154, 0, 15, 42, 4, 42, 180, 0, 25, 180, 0, 36, 182, 0, 39, 177]
abbrev dktX3_require_0 : List UInt8 := dkwX3_require_0 ++ []
theorem dksX3_require_0 : cX3_require.data.toList.drop 0 = dktX3_require_0 := by decide +kernel
theorem dX3_require_0 : decode cX3_require 0 = .ok (.iload_n 1, 1) := dk_27 (dk_at dksX3_require_0 0 rfl rfl)
theorem dX3_require_1 : decode cX3_require 1 = .ok (.ifCond .ne 15, 3) := dk_154 0 15 (dk_at dksX3_require_0 1 rfl rfl)
theorem dX3_require_4 : decode cX3_require 4 = .ok (.aload_n 0, 1) := dk_42 (dk_at dksX3_require_0 4 rfl rfl)
theorem dX3_require_5 : decode cX3_require 5 = .ok (.iconst 1, 1) := dk_4 (dk_at dksX3_require_0 5 rfl rfl)
theorem dX3_require_6 : decode cX3_require 6 = .ok (.aload_n 0, 1) := dk_42 (dk_at dksX3_require_0 6 rfl rfl)
theorem dX3_require_7 : decode cX3_require 7 = .ok (.getfield 25, 3) := dk_180 0 25 (dk_at dksX3_require_0 7 rfl rfl)
theorem dX3_require_10 : decode cX3_require 10 = .ok (.getfield 36, 3) := dk_180 0 36 (dk_at dksX3_require_0 10 rfl rfl)
theorem dX3_require_13 : decode cX3_require 13 = .ok (.invokevirtual 39, 3) := dk_182 0 39 (dk_at dksX3_require_0 13 rfl rfl)
theorem dX3_require_16 : decode cX3_require 16 = .ok (.return_, 1) := dk_177 (dk_at dksX3_require_0 16 rfl rfl)
abbrev cX3_column : ByteArray := prog_7_method_11_code
def yX3_column : MethodName := ⟨RX3, "column", "(I)I"⟩
def dkwX3_column_4 : List UInt8 := [90, 4, 96, 181, 0, 62, 27, 79, 28, 172]
abbrev dktX3_column_4 : List UInt8 := dkwX3_column_4 ++ []
def dkwX3_column_3 : List UInt8 := [180, 0, 25, 180, 0, 36, 182, 0, 100, 42, 180, 0, 47, 180, 0, 157, 42, 180, 0, 47, 89, 180, 0, 62]
abbrev dktX3_column_3 : List UInt8 := dkwX3_column_3 ++ dktX3_column_4
def dkwX3_column_2 : List UInt8 := [180, 0, 47, 180, 0, 62, 42, 180, 0, 56, 96, 16, 6, 162, 0, 7, 4, 167, 0, 4, 3, 5, 42]
abbrev dktX3_column_2 : List UInt8 := dkwX3_column_2 ++ dktX3_column_3
def dkwX3_column_1 : List UInt8 := [159, 0, 9, 132, 2, 1, 167, 255, 229, 28, 42, 180, 0, 47, 180, 0, 62, 160, 0, 60, 42, 42]
abbrev dktX3_column_1 : List UInt8 := dkwX3_column_1 ++ dktX3_column_2
def dkwX3_column_0 : List UInt8 := [3, 61, 28, 42, 180, 0, 47, 180, 0, 62, 162, 0, 22, 42, 180, 0, 47, 180, 0, 157, 28, 46, 27]
abbrev dktX3_column_0 : List UInt8 := dkwX3_column_0 ++ dktX3_column_1
theorem dksX3_column_0 : cX3_column.data.toList.drop 0 = dktX3_column_0 := by decide +kernel
theorem dksX3_column_1 : cX3_column.data.toList.drop 23 = dktX3_column_1 := dk_seg dksX3_column_0 23 rfl rfl
theorem dksX3_column_2 : cX3_column.data.toList.drop 45 = dktX3_column_2 := dk_seg dksX3_column_1 22 rfl rfl
theorem dksX3_column_3 : cX3_column.data.toList.drop 68 = dktX3_column_3 := dk_seg dksX3_column_2 23 rfl rfl
theorem dksX3_column_4 : cX3_column.data.toList.drop 92 = dktX3_column_4 := dk_seg dksX3_column_3 24 rfl rfl
theorem dX3_column_0 : decode cX3_column 0 = .ok (.iconst 0, 1) := dk_3 (dk_at dksX3_column_0 0 rfl rfl)
theorem dX3_column_1 : decode cX3_column 1 = .ok (.istore_n 2, 1) := dk_61 (dk_at dksX3_column_0 1 rfl rfl)
theorem dX3_column_2 : decode cX3_column 2 = .ok (.iload_n 2, 1) := dk_28 (dk_at dksX3_column_0 2 rfl rfl)
theorem dX3_column_3 : decode cX3_column 3 = .ok (.aload_n 0, 1) := dk_42 (dk_at dksX3_column_0 3 rfl rfl)
theorem dX3_column_4 : decode cX3_column 4 = .ok (.getfield 47, 3) := dk_180 0 47 (dk_at dksX3_column_0 4 rfl rfl)
theorem dX3_column_7 : decode cX3_column 7 = .ok (.getfield 62, 3) := dk_180 0 62 (dk_at dksX3_column_0 7 rfl rfl)
theorem dX3_column_10 : decode cX3_column 10 = .ok (.if_icmp .ge 22, 3) := dk_162 0 22 (dk_at dksX3_column_0 10 rfl rfl)
theorem dX3_column_13 : decode cX3_column 13 = .ok (.aload_n 0, 1) := dk_42 (dk_at dksX3_column_0 13 rfl rfl)
theorem dX3_column_14 : decode cX3_column 14 = .ok (.getfield 47, 3) := dk_180 0 47 (dk_at dksX3_column_0 14 rfl rfl)
theorem dX3_column_17 : decode cX3_column 17 = .ok (.getfield 157, 3) := dk_180 0 157 (dk_at dksX3_column_0 17 rfl rfl)
theorem dX3_column_20 : decode cX3_column 20 = .ok (.iload_n 2, 1) := dk_28 (dk_at dksX3_column_0 20 rfl rfl)
theorem dX3_column_21 : decode cX3_column 21 = .ok (.iaload, 1) := dk_46 (dk_at dksX3_column_0 21 rfl rfl)
theorem dX3_column_22 : decode cX3_column 22 = .ok (.iload_n 1, 1) := dk_27 (dk_at dksX3_column_0 22 rfl rfl)
theorem dX3_column_23 : decode cX3_column 23 = .ok (.if_icmp .eq 9, 3) := dk_159 0 9 (dk_at dksX3_column_1 0 rfl rfl)
theorem dX3_column_26 : decode cX3_column 26 = .ok (.iinc 2 1, 3) := dk_132 2 1 (dk_at dksX3_column_1 3 rfl rfl)
theorem dX3_column_29 : decode cX3_column 29 = .ok (.goto (-27), 3) := dk_167 255 229 (dk_at dksX3_column_1 6 rfl rfl)
theorem dX3_column_32 : decode cX3_column 32 = .ok (.iload_n 2, 1) := dk_28 (dk_at dksX3_column_1 9 rfl rfl)
theorem dX3_column_33 : decode cX3_column 33 = .ok (.aload_n 0, 1) := dk_42 (dk_at dksX3_column_1 10 rfl rfl)
theorem dX3_column_34 : decode cX3_column 34 = .ok (.getfield 47, 3) := dk_180 0 47 (dk_at dksX3_column_1 11 rfl rfl)
theorem dX3_column_37 : decode cX3_column 37 = .ok (.getfield 62, 3) := dk_180 0 62 (dk_at dksX3_column_1 14 rfl rfl)
theorem dX3_column_40 : decode cX3_column 40 = .ok (.if_icmp .ne 60, 3) := dk_160 0 60 (dk_at dksX3_column_1 17 rfl rfl)
theorem dX3_column_43 : decode cX3_column 43 = .ok (.aload_n 0, 1) := dk_42 (dk_at dksX3_column_1 20 rfl rfl)
theorem dX3_column_44 : decode cX3_column 44 = .ok (.aload_n 0, 1) := dk_42 (dk_at dksX3_column_1 21 rfl rfl)
theorem dX3_column_45 : decode cX3_column 45 = .ok (.getfield 47, 3) := dk_180 0 47 (dk_at dksX3_column_2 0 rfl rfl)
theorem dX3_column_48 : decode cX3_column 48 = .ok (.getfield 62, 3) := dk_180 0 62 (dk_at dksX3_column_2 3 rfl rfl)
theorem dX3_column_51 : decode cX3_column 51 = .ok (.aload_n 0, 1) := dk_42 (dk_at dksX3_column_2 6 rfl rfl)
theorem dX3_column_52 : decode cX3_column 52 = .ok (.getfield 56, 3) := dk_180 0 56 (dk_at dksX3_column_2 7 rfl rfl)
theorem dX3_column_55 : decode cX3_column 55 = .ok (.iadd, 1) := dk_96 (dk_at dksX3_column_2 10 rfl rfl)
theorem dX3_column_56 : decode cX3_column 56 = .ok (.bipush 6, 2) := dk_16 6 (dk_at dksX3_column_2 11 rfl rfl)
theorem dX3_column_58 : decode cX3_column 58 = .ok (.if_icmp .ge 7, 3) := dk_162 0 7 (dk_at dksX3_column_2 13 rfl rfl)
theorem dX3_column_61 : decode cX3_column 61 = .ok (.iconst 1, 1) := dk_4 (dk_at dksX3_column_2 16 rfl rfl)
theorem dX3_column_62 : decode cX3_column 62 = .ok (.goto 4, 3) := dk_167 0 4 (dk_at dksX3_column_2 17 rfl rfl)
theorem dX3_column_65 : decode cX3_column 65 = .ok (.iconst 0, 1) := dk_3 (dk_at dksX3_column_2 20 rfl rfl)
theorem dX3_column_66 : decode cX3_column 66 = .ok (.iconst 2, 1) := dk_5 (dk_at dksX3_column_2 21 rfl rfl)
theorem dX3_column_67 : decode cX3_column 67 = .ok (.aload_n 0, 1) := dk_42 (dk_at dksX3_column_2 22 rfl rfl)
theorem dX3_column_68 : decode cX3_column 68 = .ok (.getfield 25, 3) := dk_180 0 25 (dk_at dksX3_column_3 0 rfl rfl)
theorem dX3_column_71 : decode cX3_column 71 = .ok (.getfield 36, 3) := dk_180 0 36 (dk_at dksX3_column_3 3 rfl rfl)
theorem dX3_column_74 : decode cX3_column 74 = .ok (.invokevirtual 100, 3) := dk_182 0 100 (dk_at dksX3_column_3 6 rfl rfl)
theorem dX3_column_77 : decode cX3_column 77 = .ok (.aload_n 0, 1) := dk_42 (dk_at dksX3_column_3 9 rfl rfl)
theorem dX3_column_78 : decode cX3_column 78 = .ok (.getfield 47, 3) := dk_180 0 47 (dk_at dksX3_column_3 10 rfl rfl)
theorem dX3_column_81 : decode cX3_column 81 = .ok (.getfield 157, 3) := dk_180 0 157 (dk_at dksX3_column_3 13 rfl rfl)
theorem dX3_column_84 : decode cX3_column 84 = .ok (.aload_n 0, 1) := dk_42 (dk_at dksX3_column_3 16 rfl rfl)
theorem dX3_column_85 : decode cX3_column 85 = .ok (.getfield 47, 3) := dk_180 0 47 (dk_at dksX3_column_3 17 rfl rfl)
theorem dX3_column_88 : decode cX3_column 88 = .ok (.dup, 1) := dk_89 (dk_at dksX3_column_3 20 rfl rfl)
theorem dX3_column_89 : decode cX3_column 89 = .ok (.getfield 62, 3) := dk_180 0 62 (dk_at dksX3_column_3 21 rfl rfl)
theorem dX3_column_92 : decode cX3_column 92 = .ok (.dup_x1, 1) := dk_90 (dk_at dksX3_column_4 0 rfl rfl)
theorem dX3_column_93 : decode cX3_column 93 = .ok (.iconst 1, 1) := dk_4 (dk_at dksX3_column_4 1 rfl rfl)
theorem dX3_column_94 : decode cX3_column 94 = .ok (.iadd, 1) := dk_96 (dk_at dksX3_column_4 2 rfl rfl)
theorem dX3_column_95 : decode cX3_column 95 = .ok (.putfield 62, 3) := dk_181 0 62 (dk_at dksX3_column_4 3 rfl rfl)
theorem dX3_column_98 : decode cX3_column 98 = .ok (.iload_n 1, 1) := dk_27 (dk_at dksX3_column_4 6 rfl rfl)
theorem dX3_column_99 : decode cX3_column 99 = .ok (.iastore, 1) := dk_79 (dk_at dksX3_column_4 7 rfl rfl)
theorem dX3_column_100 : decode cX3_column 100 = .ok (.iload_n 2, 1) := dk_28 (dk_at dksX3_column_4 8 rfl rfl)
theorem dX3_column_101 : decode cX3_column 101 = .ok (.ireturn, 1) := dk_172 (dk_at dksX3_column_4 9 rfl rfl)
abbrev cX3_keep : ByteArray := prog_7_method_8_code
def yX3_keep : MethodName := ⟨RX3, "keep", "(LLeastSolutions$Word;I)V"⟩
def dkwX3_keep_8 : List UInt8 := [42, 180, 0, 18, 42, 180, 0, 47, 89, 180, 0, 68, 90, 4, 96, 181, 0, 68, 29, 79, 177]
abbrev dktX3_keep_8 : List UInt8 := dkwX3_keep_8 ++ []
def dkwX3_keep_7 : List UInt8 := [28, 182, 0, 100, 42, 180, 0, 47, 180, 0, 130, 42, 180, 0, 47, 180, 0, 68, 42, 180, 0, 104, 116, 79]
abbrev dktX3_keep_7 : List UInt8 := dkwX3_keep_7 ++ dktX3_keep_8
def dkwX3_keep_6 : List UInt8 := [180, 0, 68, 50, 21, 5, 42, 180, 0, 22, 21, 5, 46, 79, 132, 5, 1, 167, 255, 191, 42, 21, 4, 6]
abbrev dktX3_keep_6 : List UInt8 := dkwX3_keep_6 ++ dktX3_keep_7
def dkwX3_keep_5 : List UInt8 := [163, 0, 7, 4, 167, 0, 4, 3, 126, 54, 4, 42, 180, 0, 47, 180, 0, 71, 42, 180, 0, 47]
abbrev dktX3_keep_5 : List UInt8 := dkwX3_keep_5 ++ dktX3_keep_6
def dkwX3_keep_4 : List UInt8 := [42, 180, 0, 47, 180, 0, 62, 162, 0, 59, 21, 4, 42, 180, 0, 22, 21, 5, 46, 184, 0, 124, 16, 20]
abbrev dktX3_keep_4 : List UInt8 := dkwX3_keep_4 ++ dktX3_keep_5
def dkwX3_keep_3 : List UInt8 := [180, 0, 104, 184, 0, 124, 17, 0, 200, 163, 0, 7, 4, 167, 0, 4, 3, 54, 4, 3, 54, 5, 21, 5]
abbrev dktX3_keep_3 : List UInt8 := dkwX3_keep_3 ++ dktX3_keep_4
def dkwX3_keep_2 : List UInt8 := [180, 0, 62, 42, 180, 0, 56, 96, 16, 6, 163, 0, 7, 4, 167, 0, 4, 3, 5, 28, 182, 0, 100, 42]
abbrev dktX3_keep_2 : List UInt8 := dkwX3_keep_2 ++ dktX3_keep_3
def dkwX3_keep_1 : List UInt8 := [42, 89, 180, 0, 56, 29, 154, 0, 7, 3, 167, 0, 4, 4, 96, 181, 0, 56, 42, 42, 180, 0, 47]
abbrev dktX3_keep_1 : List UInt8 := dkwX3_keep_1 ++ dktX3_keep_2
def dkwX3_keep_0 : List UInt8 := [43, 178, 0, 111, 166, 0, 7, 3, 167, 0, 15, 43, 178, 0, 114, 166, 0, 7, 4, 167, 0, 4, 2, 62]
abbrev dktX3_keep_0 : List UInt8 := dkwX3_keep_0 ++ dktX3_keep_1
theorem dksX3_keep_0 : cX3_keep.data.toList.drop 0 = dktX3_keep_0 := by decide +kernel
theorem dksX3_keep_1 : cX3_keep.data.toList.drop 24 = dktX3_keep_1 := dk_seg dksX3_keep_0 24 rfl rfl
theorem dksX3_keep_2 : cX3_keep.data.toList.drop 47 = dktX3_keep_2 := dk_seg dksX3_keep_1 23 rfl rfl
theorem dksX3_keep_3 : cX3_keep.data.toList.drop 71 = dktX3_keep_3 := dk_seg dksX3_keep_2 24 rfl rfl
theorem dksX3_keep_4 : cX3_keep.data.toList.drop 95 = dktX3_keep_4 := dk_seg dksX3_keep_3 24 rfl rfl
theorem dksX3_keep_5 : cX3_keep.data.toList.drop 119 = dktX3_keep_5 := dk_seg dksX3_keep_4 24 rfl rfl
theorem dksX3_keep_6 : cX3_keep.data.toList.drop 141 = dktX3_keep_6 := dk_seg dksX3_keep_5 22 rfl rfl
theorem dksX3_keep_7 : cX3_keep.data.toList.drop 165 = dktX3_keep_7 := dk_seg dksX3_keep_6 24 rfl rfl
theorem dksX3_keep_8 : cX3_keep.data.toList.drop 189 = dktX3_keep_8 := dk_seg dksX3_keep_7 24 rfl rfl
theorem dX3_keep_0 : decode cX3_keep 0 = .ok (.aload_n 1, 1) := dk_43 (dk_at dksX3_keep_0 0 rfl rfl)
theorem dX3_keep_1 : decode cX3_keep 1 = .ok (.getstatic 111, 3) := dk_178 0 111 (dk_at dksX3_keep_0 1 rfl rfl)
theorem dX3_keep_4 : decode cX3_keep 4 = .ok (.if_acmp .ne 7, 3) := dk_166 0 7 (dk_at dksX3_keep_0 4 rfl rfl)
theorem dX3_keep_7 : decode cX3_keep 7 = .ok (.iconst 0, 1) := dk_3 (dk_at dksX3_keep_0 7 rfl rfl)
theorem dX3_keep_8 : decode cX3_keep 8 = .ok (.goto 15, 3) := dk_167 0 15 (dk_at dksX3_keep_0 8 rfl rfl)
theorem dX3_keep_11 : decode cX3_keep 11 = .ok (.aload_n 1, 1) := dk_43 (dk_at dksX3_keep_0 11 rfl rfl)
theorem dX3_keep_12 : decode cX3_keep 12 = .ok (.getstatic 114, 3) := dk_178 0 114 (dk_at dksX3_keep_0 12 rfl rfl)
theorem dX3_keep_15 : decode cX3_keep 15 = .ok (.if_acmp .ne 7, 3) := dk_166 0 7 (dk_at dksX3_keep_0 15 rfl rfl)
theorem dX3_keep_18 : decode cX3_keep 18 = .ok (.iconst 1, 1) := dk_4 (dk_at dksX3_keep_0 18 rfl rfl)
theorem dX3_keep_19 : decode cX3_keep 19 = .ok (.goto 4, 3) := dk_167 0 4 (dk_at dksX3_keep_0 19 rfl rfl)
theorem dX3_keep_22 : decode cX3_keep 22 = .ok (.iconst (-1), 1) := dk_2 (dk_at dksX3_keep_0 22 rfl rfl)
theorem dX3_keep_23 : decode cX3_keep 23 = .ok (.istore_n 3, 1) := dk_62 (dk_at dksX3_keep_0 23 rfl rfl)
theorem dX3_keep_24 : decode cX3_keep 24 = .ok (.aload_n 0, 1) := dk_42 (dk_at dksX3_keep_1 0 rfl rfl)
theorem dX3_keep_25 : decode cX3_keep 25 = .ok (.dup, 1) := dk_89 (dk_at dksX3_keep_1 1 rfl rfl)
theorem dX3_keep_26 : decode cX3_keep 26 = .ok (.getfield 56, 3) := dk_180 0 56 (dk_at dksX3_keep_1 2 rfl rfl)
theorem dX3_keep_29 : decode cX3_keep 29 = .ok (.iload_n 3, 1) := dk_29 (dk_at dksX3_keep_1 5 rfl rfl)
theorem dX3_keep_30 : decode cX3_keep 30 = .ok (.ifCond .ne 7, 3) := dk_154 0 7 (dk_at dksX3_keep_1 6 rfl rfl)
theorem dX3_keep_33 : decode cX3_keep 33 = .ok (.iconst 0, 1) := dk_3 (dk_at dksX3_keep_1 9 rfl rfl)
theorem dX3_keep_34 : decode cX3_keep 34 = .ok (.goto 4, 3) := dk_167 0 4 (dk_at dksX3_keep_1 10 rfl rfl)
theorem dX3_keep_37 : decode cX3_keep 37 = .ok (.iconst 1, 1) := dk_4 (dk_at dksX3_keep_1 13 rfl rfl)
theorem dX3_keep_38 : decode cX3_keep 38 = .ok (.iadd, 1) := dk_96 (dk_at dksX3_keep_1 14 rfl rfl)
theorem dX3_keep_39 : decode cX3_keep 39 = .ok (.putfield 56, 3) := dk_181 0 56 (dk_at dksX3_keep_1 15 rfl rfl)
theorem dX3_keep_42 : decode cX3_keep 42 = .ok (.aload_n 0, 1) := dk_42 (dk_at dksX3_keep_1 18 rfl rfl)
theorem dX3_keep_43 : decode cX3_keep 43 = .ok (.aload_n 0, 1) := dk_42 (dk_at dksX3_keep_1 19 rfl rfl)
theorem dX3_keep_44 : decode cX3_keep 44 = .ok (.getfield 47, 3) := dk_180 0 47 (dk_at dksX3_keep_1 20 rfl rfl)
theorem dX3_keep_47 : decode cX3_keep 47 = .ok (.getfield 62, 3) := dk_180 0 62 (dk_at dksX3_keep_2 0 rfl rfl)
theorem dX3_keep_50 : decode cX3_keep 50 = .ok (.aload_n 0, 1) := dk_42 (dk_at dksX3_keep_2 3 rfl rfl)
theorem dX3_keep_51 : decode cX3_keep 51 = .ok (.getfield 56, 3) := dk_180 0 56 (dk_at dksX3_keep_2 4 rfl rfl)
theorem dX3_keep_54 : decode cX3_keep 54 = .ok (.iadd, 1) := dk_96 (dk_at dksX3_keep_2 7 rfl rfl)
theorem dX3_keep_55 : decode cX3_keep 55 = .ok (.bipush 6, 2) := dk_16 6 (dk_at dksX3_keep_2 8 rfl rfl)
theorem dX3_keep_57 : decode cX3_keep 57 = .ok (.if_icmp .gt 7, 3) := dk_163 0 7 (dk_at dksX3_keep_2 10 rfl rfl)
theorem dX3_keep_60 : decode cX3_keep 60 = .ok (.iconst 1, 1) := dk_4 (dk_at dksX3_keep_2 13 rfl rfl)
theorem dX3_keep_61 : decode cX3_keep 61 = .ok (.goto 4, 3) := dk_167 0 4 (dk_at dksX3_keep_2 14 rfl rfl)
theorem dX3_keep_64 : decode cX3_keep 64 = .ok (.iconst 0, 1) := dk_3 (dk_at dksX3_keep_2 17 rfl rfl)
theorem dX3_keep_65 : decode cX3_keep 65 = .ok (.iconst 2, 1) := dk_5 (dk_at dksX3_keep_2 18 rfl rfl)
theorem dX3_keep_66 : decode cX3_keep 66 = .ok (.iload_n 2, 1) := dk_28 (dk_at dksX3_keep_2 19 rfl rfl)
theorem dX3_keep_67 : decode cX3_keep 67 = .ok (.invokevirtual 100, 3) := dk_182 0 100 (dk_at dksX3_keep_2 20 rfl rfl)
theorem dX3_keep_70 : decode cX3_keep 70 = .ok (.aload_n 0, 1) := dk_42 (dk_at dksX3_keep_2 23 rfl rfl)
theorem dX3_keep_71 : decode cX3_keep 71 = .ok (.getfield 104, 3) := dk_180 0 104 (dk_at dksX3_keep_3 0 rfl rfl)
theorem dX3_keep_74 : decode cX3_keep 74 = .ok (.invokestatic 124, 3) := dk_184 0 124 (dk_at dksX3_keep_3 3 rfl rfl)
theorem dX3_keep_77 : decode cX3_keep 77 = .ok (.sipush 200, 3) := dk_17 0 200 (dk_at dksX3_keep_3 6 rfl rfl)
theorem dX3_keep_80 : decode cX3_keep 80 = .ok (.if_icmp .gt 7, 3) := dk_163 0 7 (dk_at dksX3_keep_3 9 rfl rfl)
theorem dX3_keep_83 : decode cX3_keep 83 = .ok (.iconst 1, 1) := dk_4 (dk_at dksX3_keep_3 12 rfl rfl)
theorem dX3_keep_84 : decode cX3_keep 84 = .ok (.goto 4, 3) := dk_167 0 4 (dk_at dksX3_keep_3 13 rfl rfl)
theorem dX3_keep_87 : decode cX3_keep 87 = .ok (.iconst 0, 1) := dk_3 (dk_at dksX3_keep_3 16 rfl rfl)
theorem dX3_keep_88 : decode cX3_keep 88 = .ok (.istore 4, 2) := dk_54 4 (dk_at dksX3_keep_3 17 rfl rfl)
theorem dX3_keep_90 : decode cX3_keep 90 = .ok (.iconst 0, 1) := dk_3 (dk_at dksX3_keep_3 19 rfl rfl)
theorem dX3_keep_91 : decode cX3_keep 91 = .ok (.istore 5, 2) := dk_54 5 (dk_at dksX3_keep_3 20 rfl rfl)
theorem dX3_keep_93 : decode cX3_keep 93 = .ok (.iload 5, 2) := dk_21 5 (dk_at dksX3_keep_3 22 rfl rfl)
theorem dX3_keep_95 : decode cX3_keep 95 = .ok (.aload_n 0, 1) := dk_42 (dk_at dksX3_keep_4 0 rfl rfl)
theorem dX3_keep_96 : decode cX3_keep 96 = .ok (.getfield 47, 3) := dk_180 0 47 (dk_at dksX3_keep_4 1 rfl rfl)
theorem dX3_keep_99 : decode cX3_keep 99 = .ok (.getfield 62, 3) := dk_180 0 62 (dk_at dksX3_keep_4 4 rfl rfl)
theorem dX3_keep_102 : decode cX3_keep 102 = .ok (.if_icmp .ge 59, 3) := dk_162 0 59 (dk_at dksX3_keep_4 7 rfl rfl)
theorem dX3_keep_105 : decode cX3_keep 105 = .ok (.iload 4, 2) := dk_21 4 (dk_at dksX3_keep_4 10 rfl rfl)
theorem dX3_keep_107 : decode cX3_keep 107 = .ok (.aload_n 0, 1) := dk_42 (dk_at dksX3_keep_4 12 rfl rfl)
theorem dX3_keep_108 : decode cX3_keep 108 = .ok (.getfield 22, 3) := dk_180 0 22 (dk_at dksX3_keep_4 13 rfl rfl)
theorem dX3_keep_111 : decode cX3_keep 111 = .ok (.iload 5, 2) := dk_21 5 (dk_at dksX3_keep_4 16 rfl rfl)
theorem dX3_keep_113 : decode cX3_keep 113 = .ok (.iaload, 1) := dk_46 (dk_at dksX3_keep_4 18 rfl rfl)
theorem dX3_keep_114 : decode cX3_keep 114 = .ok (.invokestatic 124, 3) := dk_184 0 124 (dk_at dksX3_keep_4 19 rfl rfl)
theorem dX3_keep_117 : decode cX3_keep 117 = .ok (.bipush 20, 2) := dk_16 20 (dk_at dksX3_keep_4 22 rfl rfl)
theorem dX3_keep_119 : decode cX3_keep 119 = .ok (.if_icmp .gt 7, 3) := dk_163 0 7 (dk_at dksX3_keep_5 0 rfl rfl)
theorem dX3_keep_122 : decode cX3_keep 122 = .ok (.iconst 1, 1) := dk_4 (dk_at dksX3_keep_5 3 rfl rfl)
theorem dX3_keep_123 : decode cX3_keep 123 = .ok (.goto 4, 3) := dk_167 0 4 (dk_at dksX3_keep_5 4 rfl rfl)
theorem dX3_keep_126 : decode cX3_keep 126 = .ok (.iconst 0, 1) := dk_3 (dk_at dksX3_keep_5 7 rfl rfl)
theorem dX3_keep_127 : decode cX3_keep 127 = .ok (.iand, 1) := dk_126 (dk_at dksX3_keep_5 8 rfl rfl)
theorem dX3_keep_128 : decode cX3_keep 128 = .ok (.istore 4, 2) := dk_54 4 (dk_at dksX3_keep_5 9 rfl rfl)
theorem dX3_keep_130 : decode cX3_keep 130 = .ok (.aload_n 0, 1) := dk_42 (dk_at dksX3_keep_5 11 rfl rfl)
theorem dX3_keep_131 : decode cX3_keep 131 = .ok (.getfield 47, 3) := dk_180 0 47 (dk_at dksX3_keep_5 12 rfl rfl)
theorem dX3_keep_134 : decode cX3_keep 134 = .ok (.getfield 71, 3) := dk_180 0 71 (dk_at dksX3_keep_5 15 rfl rfl)
theorem dX3_keep_137 : decode cX3_keep 137 = .ok (.aload_n 0, 1) := dk_42 (dk_at dksX3_keep_5 18 rfl rfl)
theorem dX3_keep_138 : decode cX3_keep 138 = .ok (.getfield 47, 3) := dk_180 0 47 (dk_at dksX3_keep_5 19 rfl rfl)
theorem dX3_keep_141 : decode cX3_keep 141 = .ok (.getfield 68, 3) := dk_180 0 68 (dk_at dksX3_keep_6 0 rfl rfl)
theorem dX3_keep_144 : decode cX3_keep 144 = .ok (.aaload, 1) := dk_50 (dk_at dksX3_keep_6 3 rfl rfl)
theorem dX3_keep_145 : decode cX3_keep 145 = .ok (.iload 5, 2) := dk_21 5 (dk_at dksX3_keep_6 4 rfl rfl)
theorem dX3_keep_147 : decode cX3_keep 147 = .ok (.aload_n 0, 1) := dk_42 (dk_at dksX3_keep_6 6 rfl rfl)
theorem dX3_keep_148 : decode cX3_keep 148 = .ok (.getfield 22, 3) := dk_180 0 22 (dk_at dksX3_keep_6 7 rfl rfl)
theorem dX3_keep_151 : decode cX3_keep 151 = .ok (.iload 5, 2) := dk_21 5 (dk_at dksX3_keep_6 10 rfl rfl)
theorem dX3_keep_153 : decode cX3_keep 153 = .ok (.iaload, 1) := dk_46 (dk_at dksX3_keep_6 12 rfl rfl)
theorem dX3_keep_154 : decode cX3_keep 154 = .ok (.iastore, 1) := dk_79 (dk_at dksX3_keep_6 13 rfl rfl)
theorem dX3_keep_155 : decode cX3_keep 155 = .ok (.iinc 5 1, 3) := dk_132 5 1 (dk_at dksX3_keep_6 14 rfl rfl)
theorem dX3_keep_158 : decode cX3_keep 158 = .ok (.goto (-65), 3) := dk_167 255 191 (dk_at dksX3_keep_6 17 rfl rfl)
theorem dX3_keep_161 : decode cX3_keep 161 = .ok (.aload_n 0, 1) := dk_42 (dk_at dksX3_keep_6 20 rfl rfl)
theorem dX3_keep_162 : decode cX3_keep 162 = .ok (.iload 4, 2) := dk_21 4 (dk_at dksX3_keep_6 21 rfl rfl)
theorem dX3_keep_164 : decode cX3_keep 164 = .ok (.iconst 3, 1) := dk_6 (dk_at dksX3_keep_6 23 rfl rfl)
theorem dX3_keep_165 : decode cX3_keep 165 = .ok (.iload_n 2, 1) := dk_28 (dk_at dksX3_keep_7 0 rfl rfl)
theorem dX3_keep_166 : decode cX3_keep 166 = .ok (.invokevirtual 100, 3) := dk_182 0 100 (dk_at dksX3_keep_7 1 rfl rfl)
theorem dX3_keep_169 : decode cX3_keep 169 = .ok (.aload_n 0, 1) := dk_42 (dk_at dksX3_keep_7 4 rfl rfl)
theorem dX3_keep_170 : decode cX3_keep 170 = .ok (.getfield 47, 3) := dk_180 0 47 (dk_at dksX3_keep_7 5 rfl rfl)
theorem dX3_keep_173 : decode cX3_keep 173 = .ok (.getfield 130, 3) := dk_180 0 130 (dk_at dksX3_keep_7 8 rfl rfl)
theorem dX3_keep_176 : decode cX3_keep 176 = .ok (.aload_n 0, 1) := dk_42 (dk_at dksX3_keep_7 11 rfl rfl)
theorem dX3_keep_177 : decode cX3_keep 177 = .ok (.getfield 47, 3) := dk_180 0 47 (dk_at dksX3_keep_7 12 rfl rfl)
theorem dX3_keep_180 : decode cX3_keep 180 = .ok (.getfield 68, 3) := dk_180 0 68 (dk_at dksX3_keep_7 15 rfl rfl)
theorem dX3_keep_183 : decode cX3_keep 183 = .ok (.aload_n 0, 1) := dk_42 (dk_at dksX3_keep_7 18 rfl rfl)
theorem dX3_keep_184 : decode cX3_keep 184 = .ok (.getfield 104, 3) := dk_180 0 104 (dk_at dksX3_keep_7 19 rfl rfl)
theorem dX3_keep_187 : decode cX3_keep 187 = .ok (.ineg, 1) := dk_116 (dk_at dksX3_keep_7 22 rfl rfl)
theorem dX3_keep_188 : decode cX3_keep 188 = .ok (.iastore, 1) := dk_79 (dk_at dksX3_keep_7 23 rfl rfl)
theorem dX3_keep_189 : decode cX3_keep 189 = .ok (.aload_n 0, 1) := dk_42 (dk_at dksX3_keep_8 0 rfl rfl)
theorem dX3_keep_190 : decode cX3_keep 190 = .ok (.getfield 18, 3) := dk_180 0 18 (dk_at dksX3_keep_8 1 rfl rfl)
theorem dX3_keep_193 : decode cX3_keep 193 = .ok (.aload_n 0, 1) := dk_42 (dk_at dksX3_keep_8 4 rfl rfl)
theorem dX3_keep_194 : decode cX3_keep 194 = .ok (.getfield 47, 3) := dk_180 0 47 (dk_at dksX3_keep_8 5 rfl rfl)
theorem dX3_keep_197 : decode cX3_keep 197 = .ok (.dup, 1) := dk_89 (dk_at dksX3_keep_8 8 rfl rfl)
theorem dX3_keep_198 : decode cX3_keep 198 = .ok (.getfield 68, 3) := dk_180 0 68 (dk_at dksX3_keep_8 9 rfl rfl)
theorem dX3_keep_201 : decode cX3_keep 201 = .ok (.dup_x1, 1) := dk_90 (dk_at dksX3_keep_8 12 rfl rfl)
theorem dX3_keep_202 : decode cX3_keep 202 = .ok (.iconst 1, 1) := dk_4 (dk_at dksX3_keep_8 13 rfl rfl)
theorem dX3_keep_203 : decode cX3_keep 203 = .ok (.iadd, 1) := dk_96 (dk_at dksX3_keep_8 14 rfl rfl)
theorem dX3_keep_204 : decode cX3_keep 204 = .ok (.putfield 68, 3) := dk_181 0 68 (dk_at dksX3_keep_8 15 rfl rfl)
theorem dX3_keep_207 : decode cX3_keep 207 = .ok (.iload_n 3, 1) := dk_29 (dk_at dksX3_keep_8 18 rfl rfl)
theorem dX3_keep_208 : decode cX3_keep 208 = .ok (.iastore, 1) := dk_79 (dk_at dksX3_keep_8 19 rfl rfl)
theorem dX3_keep_209 : decode cX3_keep 209 = .ok (.return_, 1) := dk_177 (dk_at dksX3_keep_8 20 rfl rfl)
theorem q79 : (Jvm.Cond.initialized "LeastSolutions$Reader") ∈ lw_all := lw_g (lw_at lw_m1 5 rfl) rfl
theorem q134 : (Jvm.Cond.fieldLinkNest "LeastSolutions$Reader" (81 : Nat) "LeastSolutions$Scanner" "word" "LLeastSolutions$Word;" "LeastSolutions") ∈ lw_tbl := lw_at lw_m1 60 rfl
theorem q135 : (Jvm.Cond.fieldLinkNest "LeastSolutions$Reader" (36 : Nat) "LeastSolutions$Scanner" "place" "I" "LeastSolutions") ∈ lw_tbl := lw_at lw_m1 61 rfl
theorem q138 : (Jvm.Cond.fieldLinkNest "LeastSolutions$Reader" (145 : Nat) "LeastSolutions$Scanner" "value" "I" "LeastSolutions") ∈ lw_tbl := lw_at lw_m1 64 rfl
theorem q154 : (Jvm.Cond.instantiable "LeastSolutions$Reader" (10 : Nat)) ∈ lw_all := lw_g (lw_at lw_m1 80 rfl) rfl
theorem q156 : (Jvm.Cond.instanceMethod ({ cls := "LeastSolutions$Reader", name := "<init>", desc := "(LLeastSolutions$Scanner;)V" } : Jvm.MethodName)) ∈ lw_all := lw_g (lw_at lw_m1 82 rfl) rfl
theorem q157 : (Jvm.Cond.code ({ cls := "LeastSolutions$Reader", name := "<init>", desc := "(LLeastSolutions$Scanner;)V" } : Jvm.MethodName) prog_7_method_1_code (2 : Nat) (Option.none : Option Jvm.ClassFile.FieldType)) ∈ lw_all := lw_g (lw_at lw_m1 83 rfl) rfl
theorem q158 : (Jvm.Cond.methodLink "LeastSolutions$Reader" (3 : Nat) ({ cls := "java/lang/Object", name := "<init>", desc := "()V" } : Jvm.MethodName)) ∈ lw_all := lw_g (lw_at lw_m1 84 rfl) rfl
theorem q159 : (Jvm.Cond.classLink "LeastSolutions$Reader" (9 : Nat) "java/lang/IllegalArgumentException") ∈ lw_all := lw_g (lw_at lw_m1 85 rfl) rfl
theorem q202 : (Jvm.Cond.methodLink "LeastSolutions$Reader" (11 : Nat) ({ cls := "java/lang/IllegalArgumentException", name := "<init>", desc := "()V" } : Jvm.MethodName)) ∈ lw_all := lw_g (lw_at lw_m1 128 rfl) rfl
theorem q225 : (Jvm.Cond.fieldLink "LeastSolutions$Reader" (25 : Nat) "LeastSolutions$Reader" "scanner" "LLeastSolutions$Scanner;") ∈ lw_all := lw_g (lw_at lw_m1 151 rfl) rfl
theorem q226 : (Jvm.Cond.fieldLink "LeastSolutions$Reader" (12 : Nat) "LeastSolutions$Reader" "signal" "Ljava/lang/IllegalArgumentException;") ∈ lw_all := lw_g (lw_at lw_m1 152 rfl) rfl
theorem q227 : (Jvm.Cond.fieldLink "LeastSolutions$Reader" (18 : Nat) "LeastSolutions$Reader" "slacks" "[I") ∈ lw_all := lw_g (lw_at lw_m1 153 rfl) rfl
theorem q228 : (Jvm.Cond.fieldLink "LeastSolutions$Reader" (56 : Nat) "LeastSolutions$Reader" "slackCount" "I") ∈ lw_all := lw_g (lw_at lw_m1 154 rfl) rfl
theorem q229 : (Jvm.Cond.fieldLink "LeastSolutions$Reader" (22 : Nat) "LeastSolutions$Reader" "sums" "[I") ∈ lw_all := lw_g (lw_at lw_m1 155 rfl) rfl
theorem q230 : (Jvm.Cond.fieldLink "LeastSolutions$Reader" (104 : Nat) "LeastSolutions$Reader" "alone" "I") ∈ lw_all := lw_g (lw_at lw_m1 156 rfl) rfl
theorem q231 : (Jvm.Cond.fieldLink "LeastSolutions$Reader" (47 : Nat) "LeastSolutions$Reader" "m" "LLeastSolutions$Model;") ∈ lw_all := lw_g (lw_at lw_m1 157 rfl) rfl
theorem q232 : (Jvm.Cond.fieldLink "LeastSolutions$Reader" (43 : Nat) "LeastSolutions$Reader" "building" "Z") ∈ lw_all := lw_g (lw_at lw_m1 158 rfl) rfl
theorem q233 : (Jvm.Cond.fieldLink "LeastSolutions$Reader" (29 : Nat) "LeastSolutions$Reader" "fault" "I") ∈ lw_all := lw_g (lw_at lw_m1 159 rfl) rfl
theorem q234 : (Jvm.Cond.fieldLink "LeastSolutions$Reader" (33 : Nat) "LeastSolutions$Reader" "place" "I") ∈ lw_all := lw_g (lw_at lw_m1 160 rfl) rfl
theorem q236 : (Jvm.Cond.laysFinal "LeastSolutions$Reader" "LeastSolutions$Reader" "scanner" "LLeastSolutions$Scanner;") ∈ lw_all := lw_g (lw_at lw_m1 162 rfl) rfl
theorem q237 : (Jvm.Cond.soleField "LeastSolutions$Reader" "scanner") ∈ lw_all := lw_g (lw_at lw_m1 163 rfl) rfl
theorem q238 : (Jvm.Cond.laysFinal "LeastSolutions$Reader" "LeastSolutions$Reader" "signal" "Ljava/lang/IllegalArgumentException;") ∈ lw_all := lw_g (lw_at lw_m1 164 rfl) rfl
theorem q239 : (Jvm.Cond.soleField "LeastSolutions$Reader" "signal") ∈ lw_all := lw_g (lw_at lw_m1 165 rfl) rfl
theorem q240 : (Jvm.Cond.laysFinal "LeastSolutions$Reader" "LeastSolutions$Reader" "slacks" "[I") ∈ lw_all := lw_g (lw_at lw_m1 166 rfl) rfl
theorem q241 : (Jvm.Cond.soleField "LeastSolutions$Reader" "slacks") ∈ lw_all := lw_g (lw_at lw_m1 167 rfl) rfl
theorem q242 : (Jvm.Cond.lays "LeastSolutions$Reader" "LeastSolutions$Reader" "slackCount" "I") ∈ lw_all := lw_g (lw_at lw_m1 168 rfl) rfl
theorem q243 : (Jvm.Cond.soleField "LeastSolutions$Reader" "slackCount") ∈ lw_all := lw_g (lw_at lw_m1 169 rfl) rfl
theorem q244 : (Jvm.Cond.laysFinal "LeastSolutions$Reader" "LeastSolutions$Reader" "sums" "[I") ∈ lw_all := lw_g (lw_at lw_m1 170 rfl) rfl
theorem q245 : (Jvm.Cond.soleField "LeastSolutions$Reader" "sums") ∈ lw_all := lw_g (lw_at lw_m1 171 rfl) rfl
theorem q246 : (Jvm.Cond.lays "LeastSolutions$Reader" "LeastSolutions$Reader" "alone" "I") ∈ lw_all := lw_g (lw_at lw_m1 172 rfl) rfl
theorem q247 : (Jvm.Cond.soleField "LeastSolutions$Reader" "alone") ∈ lw_all := lw_g (lw_at lw_m1 173 rfl) rfl
theorem q248 : (Jvm.Cond.lays "LeastSolutions$Reader" "LeastSolutions$Reader" "m" "LLeastSolutions$Model;") ∈ lw_all := lw_g (lw_at lw_m1 174 rfl) rfl
theorem q249 : (Jvm.Cond.soleField "LeastSolutions$Reader" "m") ∈ lw_all := lw_g (lw_at lw_m1 175 rfl) rfl
theorem q250 : (Jvm.Cond.lays "LeastSolutions$Reader" "LeastSolutions$Reader" "building" "Z") ∈ lw_all := lw_g (lw_at lw_m1 176 rfl) rfl
theorem q251 : (Jvm.Cond.soleField "LeastSolutions$Reader" "building") ∈ lw_all := lw_g (lw_at lw_m1 177 rfl) rfl
theorem q252 : (Jvm.Cond.lays "LeastSolutions$Reader" "LeastSolutions$Reader" "fault" "I") ∈ lw_all := lw_g (lw_at lw_m1 178 rfl) rfl
theorem q253 : (Jvm.Cond.soleField "LeastSolutions$Reader" "fault") ∈ lw_all := lw_g (lw_at lw_m1 179 rfl) rfl
theorem q254 : (Jvm.Cond.lays "LeastSolutions$Reader" "LeastSolutions$Reader" "place" "I") ∈ lw_all := lw_g (lw_at lw_m1 180 rfl) rfl
theorem q255 : (Jvm.Cond.soleField "LeastSolutions$Reader" "place") ∈ lw_all := lw_g (lw_at lw_m1 181 rfl) rfl
theorem q256 : (Jvm.Cond.superclass "LeastSolutions$Reader" "java/lang/Object") ∈ lw_all := lw_g (lw_at lw_m1 182 rfl) rfl
theorem q270 : (Jvm.Cond.fieldLinkNest "LeastSolutions$Reader" (68 : Nat) "LeastSolutions$Model" "rows" "I" "LeastSolutions") ∈ lw_tbl := lw_at lw_m1 196 rfl
theorem q276 : (Jvm.Cond.fieldLinkNest "LeastSolutions$Reader" (65 : Nat) "LeastSolutions$Model" "columns" "I" "LeastSolutions") ∈ lw_tbl := lw_at lw_m1 202 rfl
theorem q279 : (Jvm.Cond.fieldLinkNest "LeastSolutions$Reader" (62 : Nat) "LeastSolutions$Model" "variables" "I" "LeastSolutions") ∈ lw_tbl := lw_at lw_m1 205 rfl
theorem q283 : (Jvm.Cond.fieldLinkNest "LeastSolutions$Reader" (157 : Nat) "LeastSolutions$Model" "letters" "[I" "LeastSolutions") ∈ lw_tbl := lw_at lw_m1 209 rfl
theorem q288 : (Jvm.Cond.fieldLinkNest "LeastSolutions$Reader" (71 : Nat) "LeastSolutions$Model" "a" "[[I" "LeastSolutions") ∈ lw_tbl := lw_at lw_m1 214 rfl
theorem q295 : (Jvm.Cond.fieldLinkNest "LeastSolutions$Reader" (130 : Nat) "LeastSolutions$Model" "b" "[I" "LeastSolutions") ∈ lw_tbl := lw_at lw_m1 221 rfl
theorem q524 : (Jvm.Cond.instanceMethod ({ cls := "LeastSolutions$Reader", name := "work", desc := "(LLeastSolutions$Model;)I" } : Jvm.MethodName)) ∈ lw_all := lw_g (lw_at lw_m2 210 rfl) rfl
theorem q525 : (Jvm.Cond.selects "LeastSolutions$Reader" ({ cls := "LeastSolutions$Reader", name := "work", desc := "(LLeastSolutions$Model;)I" } : Jvm.MethodName) ({ cls := "LeastSolutions$Reader", name := "work", desc := "(LLeastSolutions$Model;)I" } : Jvm.MethodName)) ∈ lw_all := lw_g (lw_at lw_m2 211 rfl) rfl
theorem q526 : (Jvm.Cond.codeWith ({ cls := "LeastSolutions$Reader", name := "work", desc := "(LLeastSolutions$Model;)I" } : Jvm.MethodName) prog_7_method_5_code (3 : Nat) (Option.some Jvm.ClassFile.FieldType.int) [((22 : Nat), (40 : Nat), (43 : Nat), (9 : Nat))]) ∈ lw_all := lw_g (lw_at lw_m2 212 rfl) rfl
theorem q527 : (Jvm.Cond.methodLink "LeastSolutions$Reader" (51 : Nat) ({ cls := "LeastSolutions$Model", name := "clear", desc := "()V" } : Jvm.MethodName)) ∈ lw_all := lw_g (lw_at lw_m2 213 rfl) rfl
theorem q531 : (Jvm.Cond.methodLink "LeastSolutions$Reader" (59 : Nat) ({ cls := "LeastSolutions$Reader", name := "system", desc := "()V" } : Jvm.MethodName)) ∈ lw_all := lw_g (lw_at lw_m2 217 rfl) rfl
theorem q532 : (Jvm.Cond.privateMethod ({ cls := "LeastSolutions$Reader", name := "system", desc := "()V" } : Jvm.MethodName)) ∈ lw_tbl := lw_at lw_m2 218 rfl
theorem q533 : (Jvm.Cond.instanceMethod ({ cls := "LeastSolutions$Reader", name := "system", desc := "()V" } : Jvm.MethodName)) ∈ lw_all := lw_g (lw_at lw_m2 219 rfl) rfl
theorem q534 : (Jvm.Cond.code ({ cls := "LeastSolutions$Reader", name := "system", desc := "()V" } : Jvm.MethodName) prog_7_method_6_code (1 : Nat) (Option.none : Option Jvm.ClassFile.FieldType)) ∈ lw_all := lw_g (lw_at lw_m2 220 rfl) rfl
theorem q535 : (Jvm.Cond.methodLink "LeastSolutions$Reader" (75 : Nat) ({ cls := "LeastSolutions$Scanner", name := "begin", desc := "()V" } : Jvm.MethodName)) ∈ lw_all := lw_g (lw_at lw_m2 221 rfl) rfl
theorem q579 : (Jvm.Cond.methodLink "LeastSolutions$Reader" (78 : Nat) ({ cls := "LeastSolutions$Reader", name := "row", desc := "()V" } : Jvm.MethodName)) ∈ lw_all := lw_g (lw_at lw_m3 25 rfl) rfl
theorem q580 : (Jvm.Cond.privateMethod ({ cls := "LeastSolutions$Reader", name := "row", desc := "()V" } : Jvm.MethodName)) ∈ lw_tbl := lw_at lw_m3 26 rfl
theorem q581 : (Jvm.Cond.instanceMethod ({ cls := "LeastSolutions$Reader", name := "row", desc := "()V" } : Jvm.MethodName)) ∈ lw_all := lw_g (lw_at lw_m3 27 rfl) rfl
theorem q582 : (Jvm.Cond.code ({ cls := "LeastSolutions$Reader", name := "row", desc := "()V" } : Jvm.MethodName) prog_7_method_7_code (3 : Nat) (Option.none : Option Jvm.ClassFile.FieldType)) ∈ lw_all := lw_g (lw_at lw_m3 28 rfl) rfl
theorem q583 : (Jvm.Cond.methodLink "LeastSolutions$Reader" (100 : Nat) ({ cls := "LeastSolutions$Reader", name := "check", desc := "(ZII)V" } : Jvm.MethodName)) ∈ lw_all := lw_g (lw_at lw_m3 29 rfl) rfl
theorem q584 : (Jvm.Cond.privateMethod ({ cls := "LeastSolutions$Reader", name := "check", desc := "(ZII)V" } : Jvm.MethodName)) ∈ lw_tbl := lw_at lw_m3 30 rfl
theorem q585 : (Jvm.Cond.instanceMethod ({ cls := "LeastSolutions$Reader", name := "check", desc := "(ZII)V" } : Jvm.MethodName)) ∈ lw_all := lw_g (lw_at lw_m3 31 rfl) rfl
theorem q586 : (Jvm.Cond.code ({ cls := "LeastSolutions$Reader", name := "check", desc := "(ZII)V" } : Jvm.MethodName) prog_7_method_4_code (4 : Nat) (Option.none : Option Jvm.ClassFile.FieldType)) ∈ lw_all := lw_g (lw_at lw_m3 32 rfl) rfl
theorem q587 : (Jvm.Cond.methodLink "LeastSolutions$Reader" (39 : Nat) ({ cls := "LeastSolutions$Reader", name := "stop", desc := "(II)V" } : Jvm.MethodName)) ∈ lw_all := lw_g (lw_at lw_m3 33 rfl) rfl
theorem q588 : (Jvm.Cond.privateMethod ({ cls := "LeastSolutions$Reader", name := "stop", desc := "(II)V" } : Jvm.MethodName)) ∈ lw_tbl := lw_at lw_m3 34 rfl
theorem q589 : (Jvm.Cond.instanceMethod ({ cls := "LeastSolutions$Reader", name := "stop", desc := "(II)V" } : Jvm.MethodName)) ∈ lw_all := lw_g (lw_at lw_m3 35 rfl) rfl
theorem q590 : (Jvm.Cond.code ({ cls := "LeastSolutions$Reader", name := "stop", desc := "(II)V" } : Jvm.MethodName) prog_7_method_2_code (3 : Nat) (Option.none : Option Jvm.ClassFile.FieldType)) ∈ lw_all := lw_g (lw_at lw_m3 36 rfl) rfl
theorem q591 : (Jvm.Cond.methodLink "LeastSolutions$Reader" (107 : Nat) ({ cls := "LeastSolutions$Reader", name := "sum", desc := "(I)V" } : Jvm.MethodName)) ∈ lw_all := lw_g (lw_at lw_m3 37 rfl) rfl
theorem q592 : (Jvm.Cond.privateMethod ({ cls := "LeastSolutions$Reader", name := "sum", desc := "(I)V" } : Jvm.MethodName)) ∈ lw_tbl := lw_at lw_m3 38 rfl
theorem q593 : (Jvm.Cond.instanceMethod ({ cls := "LeastSolutions$Reader", name := "sum", desc := "(I)V" } : Jvm.MethodName)) ∈ lw_all := lw_g (lw_at lw_m3 39 rfl) rfl
theorem q594 : (Jvm.Cond.code ({ cls := "LeastSolutions$Reader", name := "sum", desc := "(I)V" } : Jvm.MethodName) prog_7_method_9_code (4 : Nat) (Option.none : Option Jvm.ClassFile.FieldType)) ∈ lw_all := lw_g (lw_at lw_m3 40 rfl) rfl
theorem q595 : (Jvm.Cond.fieldLink "LeastSolutions$Reader" (133 : Nat) "LeastSolutions$Word" "MINUS" "LLeastSolutions$Word;") ∈ lw_all := lw_g (lw_at lw_m3 41 rfl) rfl
theorem q596 : (Jvm.Cond.methodLink "LeastSolutions$Reader" (90 : Nat) ({ cls := "LeastSolutions$Scanner", name := "advance", desc := "()V" } : Jvm.MethodName)) ∈ lw_all := lw_g (lw_at lw_m3 42 rfl) rfl
theorem q597 : (Jvm.Cond.methodLink "LeastSolutions$Reader" (136 : Nat) ({ cls := "LeastSolutions$Reader", name := "term", desc := "(I)V" } : Jvm.MethodName)) ∈ lw_all := lw_g (lw_at lw_m3 43 rfl) rfl
theorem q598 : (Jvm.Cond.privateMethod ({ cls := "LeastSolutions$Reader", name := "term", desc := "(I)V" } : Jvm.MethodName)) ∈ lw_tbl := lw_at lw_m3 44 rfl
theorem q599 : (Jvm.Cond.instanceMethod ({ cls := "LeastSolutions$Reader", name := "term", desc := "(I)V" } : Jvm.MethodName)) ∈ lw_all := lw_g (lw_at lw_m3 45 rfl) rfl
theorem q600 : (Jvm.Cond.code ({ cls := "LeastSolutions$Reader", name := "term", desc := "(I)V" } : Jvm.MethodName) prog_7_method_10_code (5 : Nat) (Option.none : Option Jvm.ClassFile.FieldType)) ∈ lw_all := lw_g (lw_at lw_m3 46 rfl) rfl
theorem q601 : (Jvm.Cond.fieldLink "LeastSolutions$Reader" (142 : Nat) "LeastSolutions$Word" "NUMBER" "LLeastSolutions$Word;") ∈ lw_all := lw_g (lw_at lw_m3 47 rfl) rfl
theorem q602 : (Jvm.Cond.fieldLink "LeastSolutions$Reader" (148 : Nat) "LeastSolutions$Word" "TIMES" "LLeastSolutions$Word;") ∈ lw_all := lw_g (lw_at lw_m3 48 rfl) rfl
theorem q603 : (Jvm.Cond.fieldLink "LeastSolutions$Reader" (151 : Nat) "LeastSolutions$Word" "VARIABLE" "LLeastSolutions$Word;") ∈ lw_all := lw_g (lw_at lw_m3 49 rfl) rfl
theorem q604 : (Jvm.Cond.methodLink "LeastSolutions$Reader" (96 : Nat) ({ cls := "LeastSolutions$Reader", name := "require", desc := "(Z)V" } : Jvm.MethodName)) ∈ lw_all := lw_g (lw_at lw_m3 50 rfl) rfl
theorem q605 : (Jvm.Cond.privateMethod ({ cls := "LeastSolutions$Reader", name := "require", desc := "(Z)V" } : Jvm.MethodName)) ∈ lw_tbl := lw_at lw_m3 51 rfl
theorem q606 : (Jvm.Cond.instanceMethod ({ cls := "LeastSolutions$Reader", name := "require", desc := "(Z)V" } : Jvm.MethodName)) ∈ lw_all := lw_g (lw_at lw_m3 52 rfl) rfl
theorem q607 : (Jvm.Cond.code ({ cls := "LeastSolutions$Reader", name := "require", desc := "(Z)V" } : Jvm.MethodName) prog_7_method_3_code (2 : Nat) (Option.none : Option Jvm.ClassFile.FieldType)) ∈ lw_all := lw_g (lw_at lw_m3 53 rfl) rfl
theorem q608 : (Jvm.Cond.methodLink "LeastSolutions$Reader" (154 : Nat) ({ cls := "LeastSolutions$Reader", name := "column", desc := "(I)I" } : Jvm.MethodName)) ∈ lw_all := lw_g (lw_at lw_m3 54 rfl) rfl
theorem q609 : (Jvm.Cond.privateMethod ({ cls := "LeastSolutions$Reader", name := "column", desc := "(I)I" } : Jvm.MethodName)) ∈ lw_tbl := lw_at lw_m3 55 rfl
theorem q610 : (Jvm.Cond.instanceMethod ({ cls := "LeastSolutions$Reader", name := "column", desc := "(I)I" } : Jvm.MethodName)) ∈ lw_all := lw_g (lw_at lw_m3 56 rfl) rfl
theorem q611 : (Jvm.Cond.code ({ cls := "LeastSolutions$Reader", name := "column", desc := "(I)I" } : Jvm.MethodName) prog_7_method_11_code (3 : Nat) (Option.some Jvm.ClassFile.FieldType.int)) ∈ lw_all := lw_g (lw_at lw_m3 57 rfl) rfl
theorem q612 : (Jvm.Cond.fieldLink "LeastSolutions$Reader" (139 : Nat) "LeastSolutions$Word" "PLUS" "LLeastSolutions$Word;") ∈ lw_all := lw_g (lw_at lw_m3 58 rfl) rfl
theorem q613 : (Jvm.Cond.fieldLink "LeastSolutions$Reader" (111 : Nat) "LeastSolutions$Word" "EQUAL" "LLeastSolutions$Word;") ∈ lw_all := lw_g (lw_at lw_m3 59 rfl) rfl
theorem q614 : (Jvm.Cond.fieldLink "LeastSolutions$Reader" (114 : Nat) "LeastSolutions$Word" "LESS" "LLeastSolutions$Word;") ∈ lw_all := lw_g (lw_at lw_m3 60 rfl) rfl
theorem q615 : (Jvm.Cond.fieldLink "LeastSolutions$Reader" (117 : Nat) "LeastSolutions$Word" "MORE" "LLeastSolutions$Word;") ∈ lw_all := lw_g (lw_at lw_m3 61 rfl) rfl
theorem q616 : (Jvm.Cond.methodLink "LeastSolutions$Reader" (120 : Nat) ({ cls := "LeastSolutions$Reader", name := "keep", desc := "(LLeastSolutions$Word;I)V" } : Jvm.MethodName)) ∈ lw_all := lw_g (lw_at lw_m3 62 rfl) rfl
theorem q617 : (Jvm.Cond.privateMethod ({ cls := "LeastSolutions$Reader", name := "keep", desc := "(LLeastSolutions$Word;I)V" } : Jvm.MethodName)) ∈ lw_tbl := lw_at lw_m3 63 rfl
theorem q618 : (Jvm.Cond.instanceMethod ({ cls := "LeastSolutions$Reader", name := "keep", desc := "(LLeastSolutions$Word;I)V" } : Jvm.MethodName)) ∈ lw_all := lw_g (lw_at lw_m3 64 rfl) rfl
theorem q619 : (Jvm.Cond.code ({ cls := "LeastSolutions$Reader", name := "keep", desc := "(LLeastSolutions$Word;I)V" } : Jvm.MethodName) prog_7_method_8_code (6 : Nat) (Option.none : Option Jvm.ClassFile.FieldType)) ∈ lw_all := lw_g (lw_at lw_m3 65 rfl) rfl
theorem q620 : (Jvm.Cond.methodLink "LeastSolutions$Reader" (124 : Nat) ({ cls := "java/lang/Math", name := "abs", desc := "(I)I" } : Jvm.MethodName)) ∈ lw_all := lw_g (lw_at lw_m3 66 rfl) rfl
theorem q623 : (Jvm.Cond.fieldLink "LeastSolutions$Reader" (85 : Nat) "LeastSolutions$Word" "STOP" "LLeastSolutions$Word;") ∈ lw_all := lw_g (lw_at lw_m3 69 rfl) rfl
theorem q624 : (Jvm.Cond.fieldLink "LeastSolutions$Reader" (93 : Nat) "LeastSolutions$Word" "END" "LLeastSolutions$Word;") ∈ lw_all := lw_g (lw_at lw_m3 70 rfl) rfl
theorem q731 : (Jvm.Cond.selects "LeastSolutions$Reader" ({ cls := "java/lang/Object", name := "getClass", desc := "()Ljava/lang/Class;" } : Jvm.MethodName) ({ cls := "java/lang/Object", name := "getClass", desc := "()Ljava/lang/Class;" } : Jvm.MethodName)) ∈ lw_all := lw_g (lw_at lw_m3 177 rfl) rfl
theorem q1711 : (Jvm.Cond.castable "LeastSolutions$Reader" "java/lang/Object") ∈ lw_tbl := lw_at lw_m7 197 rfl
theorem in_X3 : ∀ w ∈ wsX30, w ∈ lw_all := lw_in wsX30 [236, 238, 240, 242, 244, 246, 248, 250, 252, 254] (by decide +kernel) (by decide +kernel)
/-! LeastSolutions$Model -/
set_option maxRecDepth 100000
def RX4 : String := "LeastSolutions$Model"
def TX4 : u_T := fun k => match k with
  | 0 => ("LeastSolutions$Model", "rows", "I", false)
  | 1 => ("LeastSolutions$Model", "columns", "I", false)
  | 2 => ("LeastSolutions$Model", "variables", "I", false)
  | 3 => ("LeastSolutions$Model", "letters", "[I", true)
  | 4 => ("LeastSolutions$Model", "a", "[[I", true)
  | _ => ("LeastSolutions$Model", "b", "[I", true)
def tyX4 : Nat → FieldType := fun k => match k with
  | 0 => .int
  | 1 => .int
  | 2 => .int
  | 3 => .array .int
  | 4 => .array (.array .int)
  | _ => .array .int
abbrev wsX40 : List Cond := u_ws RX4 TX4 6
theorem nmX4 : ∀ a, a < 6 → ∀ b, b < 6 → a ≠ b → (TX4 a).2.1 ≠ (TX4 b).2.1 := by decide +kernel
theorem tyX4_ok : ∀ k, k < 6 → parseFieldDescriptor (TX4 k).2.2.1 = some (tyX4 k) := by decide +kernel
abbrev cX4_init : ByteArray := prog_5_method_1_code
def yX4_init : MethodName := ⟨RX4, "<init>", "()V"⟩
def dkwX4_init_1 : List UInt8 := [7, 188, 10, 181, 0, 20, 177]
abbrev dktX4_init_1 : List UInt8 := dkwX4_init_1 ++ []
def dkwX4_init_0 : List UInt8 := [42, 183, 0, 3, 42, 16, 6, 188, 10, 181, 0, 9, 42, 7, 16, 6, 197, 0, 15, 2, 181, 0, 17, 42]
abbrev dktX4_init_0 : List UInt8 := dkwX4_init_0 ++ dktX4_init_1
theorem dksX4_init_0 : cX4_init.data.toList.drop 0 = dktX4_init_0 := by decide +kernel
theorem dksX4_init_1 : cX4_init.data.toList.drop 24 = dktX4_init_1 := dk_seg dksX4_init_0 24 rfl rfl
theorem dX4_init_0 : decode cX4_init 0 = .ok (.aload_n 0, 1) := dk_42 (dk_at dksX4_init_0 0 rfl rfl)
theorem dX4_init_1 : decode cX4_init 1 = .ok (.invokespecial 3, 3) := dk_183 0 3 (dk_at dksX4_init_0 1 rfl rfl)
theorem dX4_init_4 : decode cX4_init 4 = .ok (.aload_n 0, 1) := dk_42 (dk_at dksX4_init_0 4 rfl rfl)
theorem dX4_init_5 : decode cX4_init 5 = .ok (.bipush 6, 2) := dk_16 6 (dk_at dksX4_init_0 5 rfl rfl)
theorem dX4_init_7 : decode cX4_init 7 = .ok (.newarray .int, 2) := dk_188_10 (dk_at dksX4_init_0 7 rfl rfl)
theorem dX4_init_9 : decode cX4_init 9 = .ok (.putfield 9, 3) := dk_181 0 9 (dk_at dksX4_init_0 9 rfl rfl)
theorem dX4_init_12 : decode cX4_init 12 = .ok (.aload_n 0, 1) := dk_42 (dk_at dksX4_init_0 12 rfl rfl)
theorem dX4_init_13 : decode cX4_init 13 = .ok (.iconst 4, 1) := dk_7 (dk_at dksX4_init_0 13 rfl rfl)
theorem dX4_init_14 : decode cX4_init 14 = .ok (.bipush 6, 2) := dk_16 6 (dk_at dksX4_init_0 14 rfl rfl)
theorem dX4_init_16 : decode cX4_init 16 = .ok (.multianewarray 15 2, 4) := by decide +kernel
theorem dX4_init_20 : decode cX4_init 20 = .ok (.putfield 17, 3) := dk_181 0 17 (dk_at dksX4_init_0 20 rfl rfl)
theorem dX4_init_23 : decode cX4_init 23 = .ok (.aload_n 0, 1) := dk_42 (dk_at dksX4_init_0 23 rfl rfl)
theorem dX4_init_24 : decode cX4_init 24 = .ok (.iconst 4, 1) := dk_7 (dk_at dksX4_init_1 0 rfl rfl)
theorem dX4_init_25 : decode cX4_init 25 = .ok (.newarray .int, 2) := dk_188_10 (dk_at dksX4_init_1 1 rfl rfl)
theorem dX4_init_27 : decode cX4_init 27 = .ok (.putfield 20, 3) := dk_181 0 20 (dk_at dksX4_init_1 3 rfl rfl)
theorem dX4_init_30 : decode cX4_init 30 = .ok (.return_, 1) := dk_177 (dk_at dksX4_init_1 6 rfl rfl)
abbrev cX4_clear : ByteArray := prog_5_method_2_code
def yX4_clear : MethodName := ⟨RX4, "clear", "()V"⟩
def dkwX4_clear_2 : List UInt8 := [132, 2, 1, 167, 255, 238, 132, 1, 1, 167, 255, 218, 177]
abbrev dktX4_clear_2 : List UInt8 := dkwX4_clear_2 ++ []
def dkwX4_clear_1 : List UInt8 := [180, 0, 20, 27, 3, 79, 3, 61, 28, 16, 6, 162, 0, 18, 42, 180, 0, 17, 27, 50, 28, 3, 79]
abbrev dktX4_clear_1 : List UInt8 := dkwX4_clear_1 ++ dktX4_clear_2
def dkwX4_clear_0 : List UInt8 := [42, 3, 181, 0, 23, 42, 3, 181, 0, 27, 42, 3, 181, 0, 30, 3, 60, 27, 7, 162, 0, 39, 42]
abbrev dktX4_clear_0 : List UInt8 := dkwX4_clear_0 ++ dktX4_clear_1
theorem dksX4_clear_0 : cX4_clear.data.toList.drop 0 = dktX4_clear_0 := by decide +kernel
theorem dksX4_clear_1 : cX4_clear.data.toList.drop 23 = dktX4_clear_1 := dk_seg dksX4_clear_0 23 rfl rfl
theorem dksX4_clear_2 : cX4_clear.data.toList.drop 46 = dktX4_clear_2 := dk_seg dksX4_clear_1 23 rfl rfl
theorem dX4_clear_0 : decode cX4_clear 0 = .ok (.aload_n 0, 1) := dk_42 (dk_at dksX4_clear_0 0 rfl rfl)
theorem dX4_clear_1 : decode cX4_clear 1 = .ok (.iconst 0, 1) := dk_3 (dk_at dksX4_clear_0 1 rfl rfl)
theorem dX4_clear_2 : decode cX4_clear 2 = .ok (.putfield 23, 3) := dk_181 0 23 (dk_at dksX4_clear_0 2 rfl rfl)
theorem dX4_clear_5 : decode cX4_clear 5 = .ok (.aload_n 0, 1) := dk_42 (dk_at dksX4_clear_0 5 rfl rfl)
theorem dX4_clear_6 : decode cX4_clear 6 = .ok (.iconst 0, 1) := dk_3 (dk_at dksX4_clear_0 6 rfl rfl)
theorem dX4_clear_7 : decode cX4_clear 7 = .ok (.putfield 27, 3) := dk_181 0 27 (dk_at dksX4_clear_0 7 rfl rfl)
theorem dX4_clear_10 : decode cX4_clear 10 = .ok (.aload_n 0, 1) := dk_42 (dk_at dksX4_clear_0 10 rfl rfl)
theorem dX4_clear_11 : decode cX4_clear 11 = .ok (.iconst 0, 1) := dk_3 (dk_at dksX4_clear_0 11 rfl rfl)
theorem dX4_clear_12 : decode cX4_clear 12 = .ok (.putfield 30, 3) := dk_181 0 30 (dk_at dksX4_clear_0 12 rfl rfl)
theorem dX4_clear_15 : decode cX4_clear 15 = .ok (.iconst 0, 1) := dk_3 (dk_at dksX4_clear_0 15 rfl rfl)
theorem dX4_clear_16 : decode cX4_clear 16 = .ok (.istore_n 1, 1) := dk_60 (dk_at dksX4_clear_0 16 rfl rfl)
theorem dX4_clear_17 : decode cX4_clear 17 = .ok (.iload_n 1, 1) := dk_27 (dk_at dksX4_clear_0 17 rfl rfl)
theorem dX4_clear_18 : decode cX4_clear 18 = .ok (.iconst 4, 1) := dk_7 (dk_at dksX4_clear_0 18 rfl rfl)
theorem dX4_clear_19 : decode cX4_clear 19 = .ok (.if_icmp .ge 39, 3) := dk_162 0 39 (dk_at dksX4_clear_0 19 rfl rfl)
theorem dX4_clear_22 : decode cX4_clear 22 = .ok (.aload_n 0, 1) := dk_42 (dk_at dksX4_clear_0 22 rfl rfl)
theorem dX4_clear_23 : decode cX4_clear 23 = .ok (.getfield 20, 3) := dk_180 0 20 (dk_at dksX4_clear_1 0 rfl rfl)
theorem dX4_clear_26 : decode cX4_clear 26 = .ok (.iload_n 1, 1) := dk_27 (dk_at dksX4_clear_1 3 rfl rfl)
theorem dX4_clear_27 : decode cX4_clear 27 = .ok (.iconst 0, 1) := dk_3 (dk_at dksX4_clear_1 4 rfl rfl)
theorem dX4_clear_28 : decode cX4_clear 28 = .ok (.iastore, 1) := dk_79 (dk_at dksX4_clear_1 5 rfl rfl)
theorem dX4_clear_29 : decode cX4_clear 29 = .ok (.iconst 0, 1) := dk_3 (dk_at dksX4_clear_1 6 rfl rfl)
theorem dX4_clear_30 : decode cX4_clear 30 = .ok (.istore_n 2, 1) := dk_61 (dk_at dksX4_clear_1 7 rfl rfl)
theorem dX4_clear_31 : decode cX4_clear 31 = .ok (.iload_n 2, 1) := dk_28 (dk_at dksX4_clear_1 8 rfl rfl)
theorem dX4_clear_32 : decode cX4_clear 32 = .ok (.bipush 6, 2) := dk_16 6 (dk_at dksX4_clear_1 9 rfl rfl)
theorem dX4_clear_34 : decode cX4_clear 34 = .ok (.if_icmp .ge 18, 3) := dk_162 0 18 (dk_at dksX4_clear_1 11 rfl rfl)
theorem dX4_clear_37 : decode cX4_clear 37 = .ok (.aload_n 0, 1) := dk_42 (dk_at dksX4_clear_1 14 rfl rfl)
theorem dX4_clear_38 : decode cX4_clear 38 = .ok (.getfield 17, 3) := dk_180 0 17 (dk_at dksX4_clear_1 15 rfl rfl)
theorem dX4_clear_41 : decode cX4_clear 41 = .ok (.iload_n 1, 1) := dk_27 (dk_at dksX4_clear_1 18 rfl rfl)
theorem dX4_clear_42 : decode cX4_clear 42 = .ok (.aaload, 1) := dk_50 (dk_at dksX4_clear_1 19 rfl rfl)
theorem dX4_clear_43 : decode cX4_clear 43 = .ok (.iload_n 2, 1) := dk_28 (dk_at dksX4_clear_1 20 rfl rfl)
theorem dX4_clear_44 : decode cX4_clear 44 = .ok (.iconst 0, 1) := dk_3 (dk_at dksX4_clear_1 21 rfl rfl)
theorem dX4_clear_45 : decode cX4_clear 45 = .ok (.iastore, 1) := dk_79 (dk_at dksX4_clear_1 22 rfl rfl)
theorem dX4_clear_46 : decode cX4_clear 46 = .ok (.iinc 2 1, 3) := dk_132 2 1 (dk_at dksX4_clear_2 0 rfl rfl)
theorem dX4_clear_49 : decode cX4_clear 49 = .ok (.goto (-18), 3) := dk_167 255 238 (dk_at dksX4_clear_2 3 rfl rfl)
theorem dX4_clear_52 : decode cX4_clear 52 = .ok (.iinc 1 1, 3) := dk_132 1 1 (dk_at dksX4_clear_2 6 rfl rfl)
theorem dX4_clear_55 : decode cX4_clear 55 = .ok (.goto (-38), 3) := dk_167 255 218 (dk_at dksX4_clear_2 9 rfl rfl)
theorem dX4_clear_58 : decode cX4_clear 58 = .ok (.return_, 1) := dk_177 (dk_at dksX4_clear_2 12 rfl rfl)
theorem q84 : (Jvm.Cond.initialized "LeastSolutions$Model") ∈ lw_all := lw_g (lw_at lw_m1 10 rfl) rfl
theorem q259 : (Jvm.Cond.instantiable "LeastSolutions$Model" (6 : Nat)) ∈ lw_all := lw_g (lw_at lw_m1 185 rfl) rfl
theorem q261 : (Jvm.Cond.instanceMethod ({ cls := "LeastSolutions$Model", name := "<init>", desc := "()V" } : Jvm.MethodName)) ∈ lw_all := lw_g (lw_at lw_m1 187 rfl) rfl
theorem q262 : (Jvm.Cond.code ({ cls := "LeastSolutions$Model", name := "<init>", desc := "()V" } : Jvm.MethodName) prog_5_method_1_code (1 : Nat) (Option.none : Option Jvm.ClassFile.FieldType)) ∈ lw_all := lw_g (lw_at lw_m1 188 rfl) rfl
theorem q263 : (Jvm.Cond.methodLink "LeastSolutions$Model" (3 : Nat) ({ cls := "java/lang/Object", name := "<init>", desc := "()V" } : Jvm.MethodName)) ∈ lw_all := lw_g (lw_at lw_m1 189 rfl) rfl
theorem q264 : (Jvm.Cond.classLink "LeastSolutions$Model" (15 : Nat) "[[I") ∈ lw_all := lw_g (lw_at lw_m1 190 rfl) rfl
theorem q266 : (Jvm.Cond.fieldLink "LeastSolutions$Model" (23 : Nat) "LeastSolutions$Model" "rows" "I") ∈ lw_all := lw_g (lw_at lw_m1 192 rfl) rfl
theorem q273 : (Jvm.Cond.fieldLink "LeastSolutions$Model" (27 : Nat) "LeastSolutions$Model" "columns" "I") ∈ lw_all := lw_g (lw_at lw_m1 199 rfl) rfl
theorem q278 : (Jvm.Cond.fieldLink "LeastSolutions$Model" (30 : Nat) "LeastSolutions$Model" "variables" "I") ∈ lw_all := lw_g (lw_at lw_m1 204 rfl) rfl
theorem q281 : (Jvm.Cond.fieldLink "LeastSolutions$Model" (9 : Nat) "LeastSolutions$Model" "letters" "[I") ∈ lw_all := lw_g (lw_at lw_m1 207 rfl) rfl
theorem q284 : (Jvm.Cond.fieldLink "LeastSolutions$Model" (17 : Nat) "LeastSolutions$Model" "a" "[[I") ∈ lw_all := lw_g (lw_at lw_m1 210 rfl) rfl
theorem q290 : (Jvm.Cond.fieldLink "LeastSolutions$Model" (20 : Nat) "LeastSolutions$Model" "b" "[I") ∈ lw_all := lw_g (lw_at lw_m1 216 rfl) rfl
theorem q296 : (Jvm.Cond.lays "LeastSolutions$Model" "LeastSolutions$Model" "rows" "I") ∈ lw_all := lw_g (lw_at lw_m1 222 rfl) rfl
theorem q297 : (Jvm.Cond.soleField "LeastSolutions$Model" "rows") ∈ lw_all := lw_g (lw_at lw_m1 223 rfl) rfl
theorem q298 : (Jvm.Cond.lays "LeastSolutions$Model" "LeastSolutions$Model" "columns" "I") ∈ lw_all := lw_g (lw_at lw_m1 224 rfl) rfl
theorem q299 : (Jvm.Cond.soleField "LeastSolutions$Model" "columns") ∈ lw_all := lw_g (lw_at lw_m1 225 rfl) rfl
theorem q300 : (Jvm.Cond.lays "LeastSolutions$Model" "LeastSolutions$Model" "variables" "I") ∈ lw_all := lw_g (lw_at lw_m1 226 rfl) rfl
theorem q301 : (Jvm.Cond.soleField "LeastSolutions$Model" "variables") ∈ lw_all := lw_g (lw_at lw_m1 227 rfl) rfl
theorem q302 : (Jvm.Cond.laysFinal "LeastSolutions$Model" "LeastSolutions$Model" "letters" "[I") ∈ lw_all := lw_g (lw_at lw_m1 228 rfl) rfl
theorem q303 : (Jvm.Cond.soleField "LeastSolutions$Model" "letters") ∈ lw_all := lw_g (lw_at lw_m1 229 rfl) rfl
theorem q304 : (Jvm.Cond.laysFinal "LeastSolutions$Model" "LeastSolutions$Model" "a" "[[I") ∈ lw_all := lw_g (lw_at lw_m1 230 rfl) rfl
theorem q305 : (Jvm.Cond.soleField "LeastSolutions$Model" "a") ∈ lw_all := lw_g (lw_at lw_m1 231 rfl) rfl
theorem q306 : (Jvm.Cond.laysFinal "LeastSolutions$Model" "LeastSolutions$Model" "b" "[I") ∈ lw_all := lw_g (lw_at lw_m1 232 rfl) rfl
theorem q307 : (Jvm.Cond.soleField "LeastSolutions$Model" "b") ∈ lw_all := lw_g (lw_at lw_m1 233 rfl) rfl
theorem q308 : (Jvm.Cond.superclass "LeastSolutions$Model" "java/lang/Object") ∈ lw_all := lw_g (lw_at lw_m1 234 rfl) rfl
theorem q528 : (Jvm.Cond.instanceMethod ({ cls := "LeastSolutions$Model", name := "clear", desc := "()V" } : Jvm.MethodName)) ∈ lw_all := lw_g (lw_at lw_m2 214 rfl) rfl
theorem q529 : (Jvm.Cond.selects "LeastSolutions$Model" ({ cls := "LeastSolutions$Model", name := "clear", desc := "()V" } : Jvm.MethodName) ({ cls := "LeastSolutions$Model", name := "clear", desc := "()V" } : Jvm.MethodName)) ∈ lw_all := lw_g (lw_at lw_m2 215 rfl) rfl
theorem q530 : (Jvm.Cond.code ({ cls := "LeastSolutions$Model", name := "clear", desc := "()V" } : Jvm.MethodName) prog_5_method_2_code (3 : Nat) (Option.none : Option Jvm.ClassFile.FieldType)) ∈ lw_all := lw_g (lw_at lw_m2 216 rfl) rfl
theorem q730 : (Jvm.Cond.selects "LeastSolutions$Model" ({ cls := "java/lang/Object", name := "getClass", desc := "()Ljava/lang/Class;" } : Jvm.MethodName) ({ cls := "java/lang/Object", name := "getClass", desc := "()Ljava/lang/Class;" } : Jvm.MethodName)) ∈ lw_all := lw_g (lw_at lw_m3 176 rfl) rfl
theorem q1713 : (Jvm.Cond.castable "LeastSolutions$Model" "java/lang/Object") ∈ lw_tbl := lw_at lw_m7 199 rfl
theorem in_X4 : ∀ w ∈ wsX40, w ∈ lw_all := lw_in wsX40 [296, 298, 300, 302, 304, 306] (by decide +kernel) (by decide +kernel)
/-! LeastSolutions$Lattice -/
set_option maxRecDepth 100000
def RX5 : String := "LeastSolutions$Lattice"
def TX5 : u_T := fun k => match k with
  | 0 => ("LeastSolutions$Lattice", "cells", "[[J", true)
  | 1 => ("LeastSolutions$Lattice", "rest", "[J", true)
  | 2 => ("LeastSolutions$Lattice", "columns", "I", false)
  | 3 => ("LeastSolutions$Lattice", "steps", "I", false)
  | _ => ("LeastSolutions$Lattice", "solvable", "Z", false)
def tyX5 : Nat → FieldType := fun k => match k with
  | 0 => .array (.array .long)
  | 1 => .array .long
  | 2 => .int
  | 3 => .int
  | _ => .boolean
abbrev wsX50 : List Cond := u_ws RX5 TX5 5
theorem nmX5 : ∀ a, a < 5 → ∀ b, b < 5 → a ≠ b → (TX5 a).2.1 ≠ (TX5 b).2.1 := by decide +kernel
theorem tyX5_ok : ∀ k, k < 5 → parseFieldDescriptor (TX5 k).2.2.1 = some (tyX5 k) := by decide +kernel
abbrev cX5_init : ByteArray := prog_4_method_1_code
def yX5_init : MethodName := ⟨RX5, "<init>", "()V"⟩
def dkwX5_init_0 : List UInt8 := [42, 183, 0, 3, 42, 16, 6, 16, 10, 197, 0, 9, 2, 181, 0, 11, 42, 7, 188, 11, 181, 0, 16, 177]
abbrev dktX5_init_0 : List UInt8 := dkwX5_init_0 ++ []
theorem dksX5_init_0 : cX5_init.data.toList.drop 0 = dktX5_init_0 := by decide +kernel
theorem dX5_init_0 : decode cX5_init 0 = .ok (.aload_n 0, 1) := dk_42 (dk_at dksX5_init_0 0 rfl rfl)
theorem dX5_init_1 : decode cX5_init 1 = .ok (.invokespecial 3, 3) := dk_183 0 3 (dk_at dksX5_init_0 1 rfl rfl)
theorem dX5_init_4 : decode cX5_init 4 = .ok (.aload_n 0, 1) := dk_42 (dk_at dksX5_init_0 4 rfl rfl)
theorem dX5_init_5 : decode cX5_init 5 = .ok (.bipush 6, 2) := dk_16 6 (dk_at dksX5_init_0 5 rfl rfl)
theorem dX5_init_7 : decode cX5_init 7 = .ok (.bipush 10, 2) := dk_16 10 (dk_at dksX5_init_0 7 rfl rfl)
theorem dX5_init_9 : decode cX5_init 9 = .ok (.multianewarray 9 2, 4) := by decide +kernel
theorem dX5_init_13 : decode cX5_init 13 = .ok (.putfield 11, 3) := dk_181 0 11 (dk_at dksX5_init_0 13 rfl rfl)
theorem dX5_init_16 : decode cX5_init 16 = .ok (.aload_n 0, 1) := dk_42 (dk_at dksX5_init_0 16 rfl rfl)
theorem dX5_init_17 : decode cX5_init 17 = .ok (.iconst 4, 1) := dk_7 (dk_at dksX5_init_0 17 rfl rfl)
theorem dX5_init_18 : decode cX5_init 18 = .ok (.newarray .long, 2) := dk_188_11 (dk_at dksX5_init_0 18 rfl rfl)
theorem dX5_init_20 : decode cX5_init 20 = .ok (.putfield 16, 3) := dk_181 0 16 (dk_at dksX5_init_0 20 rfl rfl)
theorem dX5_init_23 : decode cX5_init 23 = .ok (.return_, 1) := dk_177 (dk_at dksX5_init_0 23 rfl rfl)
abbrev cX5_work : ByteArray := prog_4_method_2_code
def yX5_work : MethodName := ⟨RX5, "work", "(LLeastSolutions$Model;)V"⟩
def dkwX5_work_8 : List UInt8 := [132, 2, 1, 167, 255, 219, 177]
abbrev dktX5_work_8 : List UInt8 := dkwX5_work_8 ++ []
def dkwX5_work_7 : List UInt8 := [182, 0, 45, 3, 62, 29, 42, 180, 0, 26, 162, 0, 14, 42, 29, 182, 0, 49, 132, 3, 1, 167, 255, 240]
abbrev dktX5_work_7 : List UInt8 := dkwX5_work_7 ++ dktX5_work_8
def dkwX5_work_6 : List UInt8 := [42, 3, 181, 0, 38, 42, 4, 181, 0, 41, 3, 61, 28, 43, 180, 0, 27, 162, 0, 35, 42, 28]
abbrev dktX5_work_6 : List UInt8 := dkwX5_work_6 ++ dktX5_work_7
def dkwX5_work_5 : List UInt8 := [180, 0, 27, 162, 0, 13, 43, 180, 0, 34, 28, 46, 133, 167, 0, 4, 9, 80, 132, 2, 1, 167, 255, 223]
abbrev dktX5_work_5 : List UInt8 := dkwX5_work_5 ++ dktX5_work_6
def dkwX5_work_4 : List UInt8 := [167, 255, 227, 132, 2, 1, 167, 255, 169, 3, 61, 28, 7, 162, 0, 34, 42, 180, 0, 16, 28, 28, 43]
abbrev dktX5_work_4 : List UInt8 := dkwX5_work_4 ++ dktX5_work_5
def dkwX5_work_3 : List UInt8 := [180, 0, 11, 28, 50, 7, 29, 96, 28, 29, 160, 0, 7, 10, 167, 0, 4, 9, 80, 132, 3, 1]
abbrev dktX5_work_3 : List UInt8 := dkwX5_work_3 ++ dktX5_work_4
def dkwX5_work_2 : List UInt8 := [28, 46, 133, 167, 0, 4, 9, 80, 132, 3, 1, 167, 255, 219, 3, 62, 29, 16, 6, 162, 0, 29, 42]
abbrev dktX5_work_2 : List UInt8 := dkwX5_work_2 ++ dktX5_work_3
def dkwX5_work_1 : List UInt8 := [162, 0, 38, 42, 180, 0, 11, 28, 50, 29, 29, 43, 180, 0, 27, 162, 0, 15, 43, 180, 0, 30, 29, 50]
abbrev dktX5_work_1 : List UInt8 := dkwX5_work_1 ++ dktX5_work_2
def dkwX5_work_0 : List UInt8 := [42, 43, 180, 0, 20, 181, 0, 26, 3, 61, 28, 42, 180, 0, 26, 162, 0, 85, 3, 62, 29, 7]
abbrev dktX5_work_0 : List UInt8 := dkwX5_work_0 ++ dktX5_work_1
theorem dksX5_work_0 : cX5_work.data.toList.drop 0 = dktX5_work_0 := by decide +kernel
theorem dksX5_work_1 : cX5_work.data.toList.drop 22 = dktX5_work_1 := dk_seg dksX5_work_0 22 rfl rfl
theorem dksX5_work_2 : cX5_work.data.toList.drop 46 = dktX5_work_2 := dk_seg dksX5_work_1 24 rfl rfl
theorem dksX5_work_3 : cX5_work.data.toList.drop 69 = dktX5_work_3 := dk_seg dksX5_work_2 23 rfl rfl
theorem dksX5_work_4 : cX5_work.data.toList.drop 91 = dktX5_work_4 := dk_seg dksX5_work_3 22 rfl rfl
theorem dksX5_work_5 : cX5_work.data.toList.drop 114 = dktX5_work_5 := dk_seg dksX5_work_4 23 rfl rfl
theorem dksX5_work_6 : cX5_work.data.toList.drop 138 = dktX5_work_6 := dk_seg dksX5_work_5 24 rfl rfl
theorem dksX5_work_7 : cX5_work.data.toList.drop 160 = dktX5_work_7 := dk_seg dksX5_work_6 22 rfl rfl
theorem dksX5_work_8 : cX5_work.data.toList.drop 184 = dktX5_work_8 := dk_seg dksX5_work_7 24 rfl rfl
theorem dX5_work_0 : decode cX5_work 0 = .ok (.aload_n 0, 1) := dk_42 (dk_at dksX5_work_0 0 rfl rfl)
theorem dX5_work_1 : decode cX5_work 1 = .ok (.aload_n 1, 1) := dk_43 (dk_at dksX5_work_0 1 rfl rfl)
theorem dX5_work_2 : decode cX5_work 2 = .ok (.getfield 20, 3) := dk_180 0 20 (dk_at dksX5_work_0 2 rfl rfl)
theorem dX5_work_5 : decode cX5_work 5 = .ok (.putfield 26, 3) := dk_181 0 26 (dk_at dksX5_work_0 5 rfl rfl)
theorem dX5_work_8 : decode cX5_work 8 = .ok (.iconst 0, 1) := dk_3 (dk_at dksX5_work_0 8 rfl rfl)
theorem dX5_work_9 : decode cX5_work 9 = .ok (.istore_n 2, 1) := dk_61 (dk_at dksX5_work_0 9 rfl rfl)
theorem dX5_work_10 : decode cX5_work 10 = .ok (.iload_n 2, 1) := dk_28 (dk_at dksX5_work_0 10 rfl rfl)
theorem dX5_work_11 : decode cX5_work 11 = .ok (.aload_n 0, 1) := dk_42 (dk_at dksX5_work_0 11 rfl rfl)
theorem dX5_work_12 : decode cX5_work 12 = .ok (.getfield 26, 3) := dk_180 0 26 (dk_at dksX5_work_0 12 rfl rfl)
theorem dX5_work_15 : decode cX5_work 15 = .ok (.if_icmp .ge 85, 3) := dk_162 0 85 (dk_at dksX5_work_0 15 rfl rfl)
theorem dX5_work_18 : decode cX5_work 18 = .ok (.iconst 0, 1) := dk_3 (dk_at dksX5_work_0 18 rfl rfl)
theorem dX5_work_19 : decode cX5_work 19 = .ok (.istore_n 3, 1) := dk_62 (dk_at dksX5_work_0 19 rfl rfl)
theorem dX5_work_20 : decode cX5_work 20 = .ok (.iload_n 3, 1) := dk_29 (dk_at dksX5_work_0 20 rfl rfl)
theorem dX5_work_21 : decode cX5_work 21 = .ok (.iconst 4, 1) := dk_7 (dk_at dksX5_work_0 21 rfl rfl)
theorem dX5_work_22 : decode cX5_work 22 = .ok (.if_icmp .ge 38, 3) := dk_162 0 38 (dk_at dksX5_work_1 0 rfl rfl)
theorem dX5_work_25 : decode cX5_work 25 = .ok (.aload_n 0, 1) := dk_42 (dk_at dksX5_work_1 3 rfl rfl)
theorem dX5_work_26 : decode cX5_work 26 = .ok (.getfield 11, 3) := dk_180 0 11 (dk_at dksX5_work_1 4 rfl rfl)
theorem dX5_work_29 : decode cX5_work 29 = .ok (.iload_n 2, 1) := dk_28 (dk_at dksX5_work_1 7 rfl rfl)
theorem dX5_work_30 : decode cX5_work 30 = .ok (.aaload, 1) := dk_50 (dk_at dksX5_work_1 8 rfl rfl)
theorem dX5_work_31 : decode cX5_work 31 = .ok (.iload_n 3, 1) := dk_29 (dk_at dksX5_work_1 9 rfl rfl)
theorem dX5_work_32 : decode cX5_work 32 = .ok (.iload_n 3, 1) := dk_29 (dk_at dksX5_work_1 10 rfl rfl)
theorem dX5_work_33 : decode cX5_work 33 = .ok (.aload_n 1, 1) := dk_43 (dk_at dksX5_work_1 11 rfl rfl)
theorem dX5_work_34 : decode cX5_work 34 = .ok (.getfield 27, 3) := dk_180 0 27 (dk_at dksX5_work_1 12 rfl rfl)
theorem dX5_work_37 : decode cX5_work 37 = .ok (.if_icmp .ge 15, 3) := dk_162 0 15 (dk_at dksX5_work_1 15 rfl rfl)
theorem dX5_work_40 : decode cX5_work 40 = .ok (.aload_n 1, 1) := dk_43 (dk_at dksX5_work_1 18 rfl rfl)
theorem dX5_work_41 : decode cX5_work 41 = .ok (.getfield 30, 3) := dk_180 0 30 (dk_at dksX5_work_1 19 rfl rfl)
theorem dX5_work_44 : decode cX5_work 44 = .ok (.iload_n 3, 1) := dk_29 (dk_at dksX5_work_1 22 rfl rfl)
theorem dX5_work_45 : decode cX5_work 45 = .ok (.aaload, 1) := dk_50 (dk_at dksX5_work_1 23 rfl rfl)
theorem dX5_work_46 : decode cX5_work 46 = .ok (.iload_n 2, 1) := dk_28 (dk_at dksX5_work_2 0 rfl rfl)
theorem dX5_work_47 : decode cX5_work 47 = .ok (.iaload, 1) := dk_46 (dk_at dksX5_work_2 1 rfl rfl)
theorem dX5_work_48 : decode cX5_work 48 = .ok (.i2l, 1) := dk_133 (dk_at dksX5_work_2 2 rfl rfl)
theorem dX5_work_49 : decode cX5_work 49 = .ok (.goto 4, 3) := dk_167 0 4 (dk_at dksX5_work_2 3 rfl rfl)
theorem dX5_work_52 : decode cX5_work 52 = .ok (.lconst 0, 1) := dk_9 (dk_at dksX5_work_2 6 rfl rfl)
theorem dX5_work_53 : decode cX5_work 53 = .ok (.lastore, 1) := dk_80 (dk_at dksX5_work_2 7 rfl rfl)
theorem dX5_work_54 : decode cX5_work 54 = .ok (.iinc 3 1, 3) := dk_132 3 1 (dk_at dksX5_work_2 8 rfl rfl)
theorem dX5_work_57 : decode cX5_work 57 = .ok (.goto (-37), 3) := dk_167 255 219 (dk_at dksX5_work_2 11 rfl rfl)
theorem dX5_work_60 : decode cX5_work 60 = .ok (.iconst 0, 1) := dk_3 (dk_at dksX5_work_2 14 rfl rfl)
theorem dX5_work_61 : decode cX5_work 61 = .ok (.istore_n 3, 1) := dk_62 (dk_at dksX5_work_2 15 rfl rfl)
theorem dX5_work_62 : decode cX5_work 62 = .ok (.iload_n 3, 1) := dk_29 (dk_at dksX5_work_2 16 rfl rfl)
theorem dX5_work_63 : decode cX5_work 63 = .ok (.bipush 6, 2) := dk_16 6 (dk_at dksX5_work_2 17 rfl rfl)
theorem dX5_work_65 : decode cX5_work 65 = .ok (.if_icmp .ge 29, 3) := dk_162 0 29 (dk_at dksX5_work_2 19 rfl rfl)
theorem dX5_work_68 : decode cX5_work 68 = .ok (.aload_n 0, 1) := dk_42 (dk_at dksX5_work_2 22 rfl rfl)
theorem dX5_work_69 : decode cX5_work 69 = .ok (.getfield 11, 3) := dk_180 0 11 (dk_at dksX5_work_3 0 rfl rfl)
theorem dX5_work_72 : decode cX5_work 72 = .ok (.iload_n 2, 1) := dk_28 (dk_at dksX5_work_3 3 rfl rfl)
theorem dX5_work_73 : decode cX5_work 73 = .ok (.aaload, 1) := dk_50 (dk_at dksX5_work_3 4 rfl rfl)
theorem dX5_work_74 : decode cX5_work 74 = .ok (.iconst 4, 1) := dk_7 (dk_at dksX5_work_3 5 rfl rfl)
theorem dX5_work_75 : decode cX5_work 75 = .ok (.iload_n 3, 1) := dk_29 (dk_at dksX5_work_3 6 rfl rfl)
theorem dX5_work_76 : decode cX5_work 76 = .ok (.iadd, 1) := dk_96 (dk_at dksX5_work_3 7 rfl rfl)
theorem dX5_work_77 : decode cX5_work 77 = .ok (.iload_n 2, 1) := dk_28 (dk_at dksX5_work_3 8 rfl rfl)
theorem dX5_work_78 : decode cX5_work 78 = .ok (.iload_n 3, 1) := dk_29 (dk_at dksX5_work_3 9 rfl rfl)
theorem dX5_work_79 : decode cX5_work 79 = .ok (.if_icmp .ne 7, 3) := dk_160 0 7 (dk_at dksX5_work_3 10 rfl rfl)
theorem dX5_work_82 : decode cX5_work 82 = .ok (.lconst 1, 1) := dk_10 (dk_at dksX5_work_3 13 rfl rfl)
theorem dX5_work_83 : decode cX5_work 83 = .ok (.goto 4, 3) := dk_167 0 4 (dk_at dksX5_work_3 14 rfl rfl)
theorem dX5_work_86 : decode cX5_work 86 = .ok (.lconst 0, 1) := dk_9 (dk_at dksX5_work_3 17 rfl rfl)
theorem dX5_work_87 : decode cX5_work 87 = .ok (.lastore, 1) := dk_80 (dk_at dksX5_work_3 18 rfl rfl)
theorem dX5_work_88 : decode cX5_work 88 = .ok (.iinc 3 1, 3) := dk_132 3 1 (dk_at dksX5_work_3 19 rfl rfl)
theorem dX5_work_91 : decode cX5_work 91 = .ok (.goto (-29), 3) := dk_167 255 227 (dk_at dksX5_work_4 0 rfl rfl)
theorem dX5_work_94 : decode cX5_work 94 = .ok (.iinc 2 1, 3) := dk_132 2 1 (dk_at dksX5_work_4 3 rfl rfl)
theorem dX5_work_97 : decode cX5_work 97 = .ok (.goto (-87), 3) := dk_167 255 169 (dk_at dksX5_work_4 6 rfl rfl)
theorem dX5_work_100 : decode cX5_work 100 = .ok (.iconst 0, 1) := dk_3 (dk_at dksX5_work_4 9 rfl rfl)
theorem dX5_work_101 : decode cX5_work 101 = .ok (.istore_n 2, 1) := dk_61 (dk_at dksX5_work_4 10 rfl rfl)
theorem dX5_work_102 : decode cX5_work 102 = .ok (.iload_n 2, 1) := dk_28 (dk_at dksX5_work_4 11 rfl rfl)
theorem dX5_work_103 : decode cX5_work 103 = .ok (.iconst 4, 1) := dk_7 (dk_at dksX5_work_4 12 rfl rfl)
theorem dX5_work_104 : decode cX5_work 104 = .ok (.if_icmp .ge 34, 3) := dk_162 0 34 (dk_at dksX5_work_4 13 rfl rfl)
theorem dX5_work_107 : decode cX5_work 107 = .ok (.aload_n 0, 1) := dk_42 (dk_at dksX5_work_4 16 rfl rfl)
theorem dX5_work_108 : decode cX5_work 108 = .ok (.getfield 16, 3) := dk_180 0 16 (dk_at dksX5_work_4 17 rfl rfl)
theorem dX5_work_111 : decode cX5_work 111 = .ok (.iload_n 2, 1) := dk_28 (dk_at dksX5_work_4 20 rfl rfl)
theorem dX5_work_112 : decode cX5_work 112 = .ok (.iload_n 2, 1) := dk_28 (dk_at dksX5_work_4 21 rfl rfl)
theorem dX5_work_113 : decode cX5_work 113 = .ok (.aload_n 1, 1) := dk_43 (dk_at dksX5_work_4 22 rfl rfl)
theorem dX5_work_114 : decode cX5_work 114 = .ok (.getfield 27, 3) := dk_180 0 27 (dk_at dksX5_work_5 0 rfl rfl)
theorem dX5_work_117 : decode cX5_work 117 = .ok (.if_icmp .ge 13, 3) := dk_162 0 13 (dk_at dksX5_work_5 3 rfl rfl)
theorem dX5_work_120 : decode cX5_work 120 = .ok (.aload_n 1, 1) := dk_43 (dk_at dksX5_work_5 6 rfl rfl)
theorem dX5_work_121 : decode cX5_work 121 = .ok (.getfield 34, 3) := dk_180 0 34 (dk_at dksX5_work_5 7 rfl rfl)
theorem dX5_work_124 : decode cX5_work 124 = .ok (.iload_n 2, 1) := dk_28 (dk_at dksX5_work_5 10 rfl rfl)
theorem dX5_work_125 : decode cX5_work 125 = .ok (.iaload, 1) := dk_46 (dk_at dksX5_work_5 11 rfl rfl)
theorem dX5_work_126 : decode cX5_work 126 = .ok (.i2l, 1) := dk_133 (dk_at dksX5_work_5 12 rfl rfl)
theorem dX5_work_127 : decode cX5_work 127 = .ok (.goto 4, 3) := dk_167 0 4 (dk_at dksX5_work_5 13 rfl rfl)
theorem dX5_work_130 : decode cX5_work 130 = .ok (.lconst 0, 1) := dk_9 (dk_at dksX5_work_5 16 rfl rfl)
theorem dX5_work_131 : decode cX5_work 131 = .ok (.lastore, 1) := dk_80 (dk_at dksX5_work_5 17 rfl rfl)
theorem dX5_work_132 : decode cX5_work 132 = .ok (.iinc 2 1, 3) := dk_132 2 1 (dk_at dksX5_work_5 18 rfl rfl)
theorem dX5_work_135 : decode cX5_work 135 = .ok (.goto (-33), 3) := dk_167 255 223 (dk_at dksX5_work_5 21 rfl rfl)
theorem dX5_work_138 : decode cX5_work 138 = .ok (.aload_n 0, 1) := dk_42 (dk_at dksX5_work_6 0 rfl rfl)
theorem dX5_work_139 : decode cX5_work 139 = .ok (.iconst 0, 1) := dk_3 (dk_at dksX5_work_6 1 rfl rfl)
theorem dX5_work_140 : decode cX5_work 140 = .ok (.putfield 38, 3) := dk_181 0 38 (dk_at dksX5_work_6 2 rfl rfl)
theorem dX5_work_143 : decode cX5_work 143 = .ok (.aload_n 0, 1) := dk_42 (dk_at dksX5_work_6 5 rfl rfl)
theorem dX5_work_144 : decode cX5_work 144 = .ok (.iconst 1, 1) := dk_4 (dk_at dksX5_work_6 6 rfl rfl)
theorem dX5_work_145 : decode cX5_work 145 = .ok (.putfield 41, 3) := dk_181 0 41 (dk_at dksX5_work_6 7 rfl rfl)
theorem dX5_work_148 : decode cX5_work 148 = .ok (.iconst 0, 1) := dk_3 (dk_at dksX5_work_6 10 rfl rfl)
theorem dX5_work_149 : decode cX5_work 149 = .ok (.istore_n 2, 1) := dk_61 (dk_at dksX5_work_6 11 rfl rfl)
theorem dX5_work_150 : decode cX5_work 150 = .ok (.iload_n 2, 1) := dk_28 (dk_at dksX5_work_6 12 rfl rfl)
theorem dX5_work_151 : decode cX5_work 151 = .ok (.aload_n 1, 1) := dk_43 (dk_at dksX5_work_6 13 rfl rfl)
theorem dX5_work_152 : decode cX5_work 152 = .ok (.getfield 27, 3) := dk_180 0 27 (dk_at dksX5_work_6 14 rfl rfl)
theorem dX5_work_155 : decode cX5_work 155 = .ok (.if_icmp .ge 35, 3) := dk_162 0 35 (dk_at dksX5_work_6 17 rfl rfl)
theorem dX5_work_158 : decode cX5_work 158 = .ok (.aload_n 0, 1) := dk_42 (dk_at dksX5_work_6 20 rfl rfl)
theorem dX5_work_159 : decode cX5_work 159 = .ok (.iload_n 2, 1) := dk_28 (dk_at dksX5_work_6 21 rfl rfl)
theorem dX5_work_160 : decode cX5_work 160 = .ok (.invokevirtual 45, 3) := dk_182 0 45 (dk_at dksX5_work_7 0 rfl rfl)
theorem dX5_work_163 : decode cX5_work 163 = .ok (.iconst 0, 1) := dk_3 (dk_at dksX5_work_7 3 rfl rfl)
theorem dX5_work_164 : decode cX5_work 164 = .ok (.istore_n 3, 1) := dk_62 (dk_at dksX5_work_7 4 rfl rfl)
theorem dX5_work_165 : decode cX5_work 165 = .ok (.iload_n 3, 1) := dk_29 (dk_at dksX5_work_7 5 rfl rfl)
theorem dX5_work_166 : decode cX5_work 166 = .ok (.aload_n 0, 1) := dk_42 (dk_at dksX5_work_7 6 rfl rfl)
theorem dX5_work_167 : decode cX5_work 167 = .ok (.getfield 26, 3) := dk_180 0 26 (dk_at dksX5_work_7 7 rfl rfl)
theorem dX5_work_170 : decode cX5_work 170 = .ok (.if_icmp .ge 14, 3) := dk_162 0 14 (dk_at dksX5_work_7 10 rfl rfl)
theorem dX5_work_173 : decode cX5_work 173 = .ok (.aload_n 0, 1) := dk_42 (dk_at dksX5_work_7 13 rfl rfl)
theorem dX5_work_174 : decode cX5_work 174 = .ok (.iload_n 3, 1) := dk_29 (dk_at dksX5_work_7 14 rfl rfl)
theorem dX5_work_175 : decode cX5_work 175 = .ok (.invokevirtual 49, 3) := dk_182 0 49 (dk_at dksX5_work_7 15 rfl rfl)
theorem dX5_work_178 : decode cX5_work 178 = .ok (.iinc 3 1, 3) := dk_132 3 1 (dk_at dksX5_work_7 18 rfl rfl)
theorem dX5_work_181 : decode cX5_work 181 = .ok (.goto (-16), 3) := dk_167 255 240 (dk_at dksX5_work_7 21 rfl rfl)
theorem dX5_work_184 : decode cX5_work 184 = .ok (.iinc 2 1, 3) := dk_132 2 1 (dk_at dksX5_work_8 0 rfl rfl)
theorem dX5_work_187 : decode cX5_work 187 = .ok (.goto (-37), 3) := dk_167 255 219 (dk_at dksX5_work_8 3 rfl rfl)
theorem dX5_work_190 : decode cX5_work 190 = .ok (.return_, 1) := dk_177 (dk_at dksX5_work_8 6 rfl rfl)
abbrev cX5_settle : ByteArray := prog_4_method_8_code
def yX5_settle : MethodName := ⟨RX5, "settle", "(I)V"⟩
def dkwX5_settle_5 : List UInt8 := [42, 180, 0, 16, 27, 47, 9, 148, 154, 0, 7, 4, 167, 0, 4, 3, 126, 181, 0, 41, 177]
abbrev dktX5_settle_5 : List UInt8 := dkwX5_settle_5 ++ []
def dkwX5_settle_4 : List UInt8 := [132, 6, 1, 167, 255, 222, 42, 89, 180, 0, 38, 4, 96, 181, 0, 38, 167, 0, 28, 42, 89, 180, 0, 41]
abbrev dktX5_settle_4 : List UInt8 := dkwX5_settle_4 ++ dktX5_settle_5
def dkwX5_settle_3 : List UInt8 := [180, 0, 16, 21, 6, 92, 47, 22, 4, 42, 180, 0, 11, 42, 180, 0, 38, 50, 21, 6, 47, 105, 101, 80]
abbrev dktX5_settle_3 : List UInt8 := dkwX5_settle_3 ++ dktX5_settle_4
def dkwX5_settle_2 : List UInt8 := [181, 0, 41, 42, 180, 0, 16, 27, 47, 32, 109, 55, 4, 3, 54, 6, 21, 6, 7, 162, 0, 34, 42]
abbrev dktX5_settle_2 : List UInt8 := dkwX5_settle_2 ++ dktX5_settle_3
def dkwX5_settle_1 : List UInt8 := [42, 89, 180, 0, 41, 42, 180, 0, 16, 27, 47, 32, 113, 9, 148, 154, 0, 7, 4, 167, 0, 4, 3, 126]
abbrev dktX5_settle_1 : List UInt8 := dkwX5_settle_1 ++ dktX5_settle_2
def dkwX5_settle_0 : List UInt8 := [42, 42, 180, 0, 38, 27, 182, 0, 77, 153, 0, 105, 42, 180, 0, 11, 42, 180, 0, 38, 50, 27, 47, 65]
abbrev dktX5_settle_0 : List UInt8 := dkwX5_settle_0 ++ dktX5_settle_1
theorem dksX5_settle_0 : cX5_settle.data.toList.drop 0 = dktX5_settle_0 := by decide +kernel
theorem dksX5_settle_1 : cX5_settle.data.toList.drop 24 = dktX5_settle_1 := dk_seg dksX5_settle_0 24 rfl rfl
theorem dksX5_settle_2 : cX5_settle.data.toList.drop 48 = dktX5_settle_2 := dk_seg dksX5_settle_1 24 rfl rfl
theorem dksX5_settle_3 : cX5_settle.data.toList.drop 71 = dktX5_settle_3 := dk_seg dksX5_settle_2 23 rfl rfl
theorem dksX5_settle_4 : cX5_settle.data.toList.drop 95 = dktX5_settle_4 := dk_seg dksX5_settle_3 24 rfl rfl
theorem dksX5_settle_5 : cX5_settle.data.toList.drop 119 = dktX5_settle_5 := dk_seg dksX5_settle_4 24 rfl rfl
theorem dX5_settle_0 : decode cX5_settle 0 = .ok (.aload_n 0, 1) := dk_42 (dk_at dksX5_settle_0 0 rfl rfl)
theorem dX5_settle_1 : decode cX5_settle 1 = .ok (.aload_n 0, 1) := dk_42 (dk_at dksX5_settle_0 1 rfl rfl)
theorem dX5_settle_2 : decode cX5_settle 2 = .ok (.getfield 38, 3) := dk_180 0 38 (dk_at dksX5_settle_0 2 rfl rfl)
theorem dX5_settle_5 : decode cX5_settle 5 = .ok (.iload_n 1, 1) := dk_27 (dk_at dksX5_settle_0 5 rfl rfl)
theorem dX5_settle_6 : decode cX5_settle 6 = .ok (.invokevirtual 77, 3) := dk_182 0 77 (dk_at dksX5_settle_0 6 rfl rfl)
theorem dX5_settle_9 : decode cX5_settle 9 = .ok (.ifCond .eq 105, 3) := dk_153 0 105 (dk_at dksX5_settle_0 9 rfl rfl)
theorem dX5_settle_12 : decode cX5_settle 12 = .ok (.aload_n 0, 1) := dk_42 (dk_at dksX5_settle_0 12 rfl rfl)
theorem dX5_settle_13 : decode cX5_settle 13 = .ok (.getfield 11, 3) := dk_180 0 11 (dk_at dksX5_settle_0 13 rfl rfl)
theorem dX5_settle_16 : decode cX5_settle 16 = .ok (.aload_n 0, 1) := dk_42 (dk_at dksX5_settle_0 16 rfl rfl)
theorem dX5_settle_17 : decode cX5_settle 17 = .ok (.getfield 38, 3) := dk_180 0 38 (dk_at dksX5_settle_0 17 rfl rfl)
theorem dX5_settle_20 : decode cX5_settle 20 = .ok (.aaload, 1) := dk_50 (dk_at dksX5_settle_0 20 rfl rfl)
theorem dX5_settle_21 : decode cX5_settle 21 = .ok (.iload_n 1, 1) := dk_27 (dk_at dksX5_settle_0 21 rfl rfl)
theorem dX5_settle_22 : decode cX5_settle 22 = .ok (.laload, 1) := dk_47 (dk_at dksX5_settle_0 22 rfl rfl)
theorem dX5_settle_23 : decode cX5_settle 23 = .ok (.lstore_n 2, 1) := dk_65 (dk_at dksX5_settle_0 23 rfl rfl)
theorem dX5_settle_24 : decode cX5_settle 24 = .ok (.aload_n 0, 1) := dk_42 (dk_at dksX5_settle_1 0 rfl rfl)
theorem dX5_settle_25 : decode cX5_settle 25 = .ok (.dup, 1) := dk_89 (dk_at dksX5_settle_1 1 rfl rfl)
theorem dX5_settle_26 : decode cX5_settle 26 = .ok (.getfield 41, 3) := dk_180 0 41 (dk_at dksX5_settle_1 2 rfl rfl)
theorem dX5_settle_29 : decode cX5_settle 29 = .ok (.aload_n 0, 1) := dk_42 (dk_at dksX5_settle_1 5 rfl rfl)
theorem dX5_settle_30 : decode cX5_settle 30 = .ok (.getfield 16, 3) := dk_180 0 16 (dk_at dksX5_settle_1 6 rfl rfl)
theorem dX5_settle_33 : decode cX5_settle 33 = .ok (.iload_n 1, 1) := dk_27 (dk_at dksX5_settle_1 9 rfl rfl)
theorem dX5_settle_34 : decode cX5_settle 34 = .ok (.laload, 1) := dk_47 (dk_at dksX5_settle_1 10 rfl rfl)
theorem dX5_settle_35 : decode cX5_settle 35 = .ok (.lload_n 2, 1) := dk_32 (dk_at dksX5_settle_1 11 rfl rfl)
theorem dX5_settle_36 : decode cX5_settle 36 = .ok (.lrem, 1) := dk_113 (dk_at dksX5_settle_1 12 rfl rfl)
theorem dX5_settle_37 : decode cX5_settle 37 = .ok (.lconst 0, 1) := dk_9 (dk_at dksX5_settle_1 13 rfl rfl)
theorem dX5_settle_38 : decode cX5_settle 38 = .ok (.lcmp, 1) := dk_148 (dk_at dksX5_settle_1 14 rfl rfl)
theorem dX5_settle_39 : decode cX5_settle 39 = .ok (.ifCond .ne 7, 3) := dk_154 0 7 (dk_at dksX5_settle_1 15 rfl rfl)
theorem dX5_settle_42 : decode cX5_settle 42 = .ok (.iconst 1, 1) := dk_4 (dk_at dksX5_settle_1 18 rfl rfl)
theorem dX5_settle_43 : decode cX5_settle 43 = .ok (.goto 4, 3) := dk_167 0 4 (dk_at dksX5_settle_1 19 rfl rfl)
theorem dX5_settle_46 : decode cX5_settle 46 = .ok (.iconst 0, 1) := dk_3 (dk_at dksX5_settle_1 22 rfl rfl)
theorem dX5_settle_47 : decode cX5_settle 47 = .ok (.iand, 1) := dk_126 (dk_at dksX5_settle_1 23 rfl rfl)
theorem dX5_settle_48 : decode cX5_settle 48 = .ok (.putfield 41, 3) := dk_181 0 41 (dk_at dksX5_settle_2 0 rfl rfl)
theorem dX5_settle_51 : decode cX5_settle 51 = .ok (.aload_n 0, 1) := dk_42 (dk_at dksX5_settle_2 3 rfl rfl)
theorem dX5_settle_52 : decode cX5_settle 52 = .ok (.getfield 16, 3) := dk_180 0 16 (dk_at dksX5_settle_2 4 rfl rfl)
theorem dX5_settle_55 : decode cX5_settle 55 = .ok (.iload_n 1, 1) := dk_27 (dk_at dksX5_settle_2 7 rfl rfl)
theorem dX5_settle_56 : decode cX5_settle 56 = .ok (.laload, 1) := dk_47 (dk_at dksX5_settle_2 8 rfl rfl)
theorem dX5_settle_57 : decode cX5_settle 57 = .ok (.lload_n 2, 1) := dk_32 (dk_at dksX5_settle_2 9 rfl rfl)
theorem dX5_settle_58 : decode cX5_settle 58 = .ok (.ldiv, 1) := dk_109 (dk_at dksX5_settle_2 10 rfl rfl)
theorem dX5_settle_59 : decode cX5_settle 59 = .ok (.lstore 4, 2) := dk_55 4 (dk_at dksX5_settle_2 11 rfl rfl)
theorem dX5_settle_61 : decode cX5_settle 61 = .ok (.iconst 0, 1) := dk_3 (dk_at dksX5_settle_2 13 rfl rfl)
theorem dX5_settle_62 : decode cX5_settle 62 = .ok (.istore 6, 2) := dk_54 6 (dk_at dksX5_settle_2 14 rfl rfl)
theorem dX5_settle_64 : decode cX5_settle 64 = .ok (.iload 6, 2) := dk_21 6 (dk_at dksX5_settle_2 16 rfl rfl)
theorem dX5_settle_66 : decode cX5_settle 66 = .ok (.iconst 4, 1) := dk_7 (dk_at dksX5_settle_2 18 rfl rfl)
theorem dX5_settle_67 : decode cX5_settle 67 = .ok (.if_icmp .ge 34, 3) := dk_162 0 34 (dk_at dksX5_settle_2 19 rfl rfl)
theorem dX5_settle_70 : decode cX5_settle 70 = .ok (.aload_n 0, 1) := dk_42 (dk_at dksX5_settle_2 22 rfl rfl)
theorem dX5_settle_71 : decode cX5_settle 71 = .ok (.getfield 16, 3) := dk_180 0 16 (dk_at dksX5_settle_3 0 rfl rfl)
theorem dX5_settle_74 : decode cX5_settle 74 = .ok (.iload 6, 2) := dk_21 6 (dk_at dksX5_settle_3 3 rfl rfl)
theorem dX5_settle_76 : decode cX5_settle 76 = .ok (.dup2, 1) := dk_92 (dk_at dksX5_settle_3 5 rfl rfl)
theorem dX5_settle_77 : decode cX5_settle 77 = .ok (.laload, 1) := dk_47 (dk_at dksX5_settle_3 6 rfl rfl)
theorem dX5_settle_78 : decode cX5_settle 78 = .ok (.lload 4, 2) := dk_22 4 (dk_at dksX5_settle_3 7 rfl rfl)
theorem dX5_settle_80 : decode cX5_settle 80 = .ok (.aload_n 0, 1) := dk_42 (dk_at dksX5_settle_3 9 rfl rfl)
theorem dX5_settle_81 : decode cX5_settle 81 = .ok (.getfield 11, 3) := dk_180 0 11 (dk_at dksX5_settle_3 10 rfl rfl)
theorem dX5_settle_84 : decode cX5_settle 84 = .ok (.aload_n 0, 1) := dk_42 (dk_at dksX5_settle_3 13 rfl rfl)
theorem dX5_settle_85 : decode cX5_settle 85 = .ok (.getfield 38, 3) := dk_180 0 38 (dk_at dksX5_settle_3 14 rfl rfl)
theorem dX5_settle_88 : decode cX5_settle 88 = .ok (.aaload, 1) := dk_50 (dk_at dksX5_settle_3 17 rfl rfl)
theorem dX5_settle_89 : decode cX5_settle 89 = .ok (.iload 6, 2) := dk_21 6 (dk_at dksX5_settle_3 18 rfl rfl)
theorem dX5_settle_91 : decode cX5_settle 91 = .ok (.laload, 1) := dk_47 (dk_at dksX5_settle_3 20 rfl rfl)
theorem dX5_settle_92 : decode cX5_settle 92 = .ok (.lmul, 1) := dk_105 (dk_at dksX5_settle_3 21 rfl rfl)
theorem dX5_settle_93 : decode cX5_settle 93 = .ok (.lsub, 1) := dk_101 (dk_at dksX5_settle_3 22 rfl rfl)
theorem dX5_settle_94 : decode cX5_settle 94 = .ok (.lastore, 1) := dk_80 (dk_at dksX5_settle_3 23 rfl rfl)
theorem dX5_settle_95 : decode cX5_settle 95 = .ok (.iinc 6 1, 3) := dk_132 6 1 (dk_at dksX5_settle_4 0 rfl rfl)
theorem dX5_settle_98 : decode cX5_settle 98 = .ok (.goto (-34), 3) := dk_167 255 222 (dk_at dksX5_settle_4 3 rfl rfl)
theorem dX5_settle_101 : decode cX5_settle 101 = .ok (.aload_n 0, 1) := dk_42 (dk_at dksX5_settle_4 6 rfl rfl)
theorem dX5_settle_102 : decode cX5_settle 102 = .ok (.dup, 1) := dk_89 (dk_at dksX5_settle_4 7 rfl rfl)
theorem dX5_settle_103 : decode cX5_settle 103 = .ok (.getfield 38, 3) := dk_180 0 38 (dk_at dksX5_settle_4 8 rfl rfl)
theorem dX5_settle_106 : decode cX5_settle 106 = .ok (.iconst 1, 1) := dk_4 (dk_at dksX5_settle_4 11 rfl rfl)
theorem dX5_settle_107 : decode cX5_settle 107 = .ok (.iadd, 1) := dk_96 (dk_at dksX5_settle_4 12 rfl rfl)
theorem dX5_settle_108 : decode cX5_settle 108 = .ok (.putfield 38, 3) := dk_181 0 38 (dk_at dksX5_settle_4 13 rfl rfl)
theorem dX5_settle_111 : decode cX5_settle 111 = .ok (.goto 28, 3) := dk_167 0 28 (dk_at dksX5_settle_4 16 rfl rfl)
theorem dX5_settle_114 : decode cX5_settle 114 = .ok (.aload_n 0, 1) := dk_42 (dk_at dksX5_settle_4 19 rfl rfl)
theorem dX5_settle_115 : decode cX5_settle 115 = .ok (.dup, 1) := dk_89 (dk_at dksX5_settle_4 20 rfl rfl)
theorem dX5_settle_116 : decode cX5_settle 116 = .ok (.getfield 41, 3) := dk_180 0 41 (dk_at dksX5_settle_4 21 rfl rfl)
theorem dX5_settle_119 : decode cX5_settle 119 = .ok (.aload_n 0, 1) := dk_42 (dk_at dksX5_settle_5 0 rfl rfl)
theorem dX5_settle_120 : decode cX5_settle 120 = .ok (.getfield 16, 3) := dk_180 0 16 (dk_at dksX5_settle_5 1 rfl rfl)
theorem dX5_settle_123 : decode cX5_settle 123 = .ok (.iload_n 1, 1) := dk_27 (dk_at dksX5_settle_5 4 rfl rfl)
theorem dX5_settle_124 : decode cX5_settle 124 = .ok (.laload, 1) := dk_47 (dk_at dksX5_settle_5 5 rfl rfl)
theorem dX5_settle_125 : decode cX5_settle 125 = .ok (.lconst 0, 1) := dk_9 (dk_at dksX5_settle_5 6 rfl rfl)
theorem dX5_settle_126 : decode cX5_settle 126 = .ok (.lcmp, 1) := dk_148 (dk_at dksX5_settle_5 7 rfl rfl)
theorem dX5_settle_127 : decode cX5_settle 127 = .ok (.ifCond .ne 7, 3) := dk_154 0 7 (dk_at dksX5_settle_5 8 rfl rfl)
theorem dX5_settle_130 : decode cX5_settle 130 = .ok (.iconst 1, 1) := dk_4 (dk_at dksX5_settle_5 11 rfl rfl)
theorem dX5_settle_131 : decode cX5_settle 131 = .ok (.goto 4, 3) := dk_167 0 4 (dk_at dksX5_settle_5 12 rfl rfl)
theorem dX5_settle_134 : decode cX5_settle 134 = .ok (.iconst 0, 1) := dk_3 (dk_at dksX5_settle_5 15 rfl rfl)
theorem dX5_settle_135 : decode cX5_settle 135 = .ok (.iand, 1) := dk_126 (dk_at dksX5_settle_5 16 rfl rfl)
theorem dX5_settle_136 : decode cX5_settle 136 = .ok (.putfield 41, 3) := dk_181 0 41 (dk_at dksX5_settle_5 17 rfl rfl)
theorem dX5_settle_139 : decode cX5_settle 139 = .ok (.return_, 1) := dk_177 (dk_at dksX5_settle_5 20 rfl rfl)
abbrev cX5_gather : ByteArray := prog_4_method_6_code
def yX5_gather : MethodName := ⟨RX5, "gather", "(II)Z"⟩
def dkwX5_gather_5 : List UInt8 := [167, 0, 4, 3, 172]
abbrev dktX5_gather_5 : List UInt8 := dkwX5_gather_5 ++ []
def dkwX5_gather_4 : List UInt8 := [16, 254, 167, 0, 11, 42, 27, 4, 96, 28, 182, 0, 52, 62, 167, 255, 155, 29, 16, 254, 160, 0, 7, 4]
abbrev dktX5_gather_4 : List UInt8 := dkwX5_gather_4 ++ dktX5_gather_5
def dkwX5_gather_3 : List UInt8 := [184, 0, 63, 117, 182, 0, 69, 132, 4, 1, 167, 255, 216, 42, 27, 4, 96, 28, 182, 0, 52, 156, 0, 8]
abbrev dktX5_gather_3 : List UInt8 := dkwX5_gather_3 ++ dktX5_gather_4
def dkwX5_gather_2 : List UInt8 := [162, 0, 37, 42, 21, 4, 27, 42, 180, 0, 11, 21, 4, 50, 28, 47, 42, 180, 0, 11, 27, 50, 28, 47]
abbrev dktX5_gather_2 : List UInt8 := dkwX5_gather_2 ++ dktX5_gather_3
def dkwX5_gather_1 : List UInt8 := [47, 9, 148, 156, 0, 8, 42, 27, 182, 0, 60, 27, 4, 96, 54, 4, 21, 4, 42, 180, 0, 26]
abbrev dktX5_gather_1 : List UInt8 := dkwX5_gather_1 ++ dktX5_gather_2
def dkwX5_gather_0 : List UInt8 := [42, 27, 28, 182, 0, 52, 62, 29, 155, 0, 103, 42, 27, 29, 182, 0, 56, 42, 180, 0, 11, 27, 50, 28]
abbrev dktX5_gather_0 : List UInt8 := dkwX5_gather_0 ++ dktX5_gather_1
theorem dksX5_gather_0 : cX5_gather.data.toList.drop 0 = dktX5_gather_0 := by decide +kernel
theorem dksX5_gather_1 : cX5_gather.data.toList.drop 24 = dktX5_gather_1 := dk_seg dksX5_gather_0 24 rfl rfl
theorem dksX5_gather_2 : cX5_gather.data.toList.drop 46 = dktX5_gather_2 := dk_seg dksX5_gather_1 22 rfl rfl
theorem dksX5_gather_3 : cX5_gather.data.toList.drop 70 = dktX5_gather_3 := dk_seg dksX5_gather_2 24 rfl rfl
theorem dksX5_gather_4 : cX5_gather.data.toList.drop 94 = dktX5_gather_4 := dk_seg dksX5_gather_3 24 rfl rfl
theorem dksX5_gather_5 : cX5_gather.data.toList.drop 118 = dktX5_gather_5 := dk_seg dksX5_gather_4 24 rfl rfl
theorem dX5_gather_0 : decode cX5_gather 0 = .ok (.aload_n 0, 1) := dk_42 (dk_at dksX5_gather_0 0 rfl rfl)
theorem dX5_gather_1 : decode cX5_gather 1 = .ok (.iload_n 1, 1) := dk_27 (dk_at dksX5_gather_0 1 rfl rfl)
theorem dX5_gather_2 : decode cX5_gather 2 = .ok (.iload_n 2, 1) := dk_28 (dk_at dksX5_gather_0 2 rfl rfl)
theorem dX5_gather_3 : decode cX5_gather 3 = .ok (.invokevirtual 52, 3) := dk_182 0 52 (dk_at dksX5_gather_0 3 rfl rfl)
theorem dX5_gather_6 : decode cX5_gather 6 = .ok (.istore_n 3, 1) := dk_62 (dk_at dksX5_gather_0 6 rfl rfl)
theorem dX5_gather_7 : decode cX5_gather 7 = .ok (.iload_n 3, 1) := dk_29 (dk_at dksX5_gather_0 7 rfl rfl)
theorem dX5_gather_8 : decode cX5_gather 8 = .ok (.ifCond .lt 103, 3) := dk_155 0 103 (dk_at dksX5_gather_0 8 rfl rfl)
theorem dX5_gather_11 : decode cX5_gather 11 = .ok (.aload_n 0, 1) := dk_42 (dk_at dksX5_gather_0 11 rfl rfl)
theorem dX5_gather_12 : decode cX5_gather 12 = .ok (.iload_n 1, 1) := dk_27 (dk_at dksX5_gather_0 12 rfl rfl)
theorem dX5_gather_13 : decode cX5_gather 13 = .ok (.iload_n 3, 1) := dk_29 (dk_at dksX5_gather_0 13 rfl rfl)
theorem dX5_gather_14 : decode cX5_gather 14 = .ok (.invokevirtual 56, 3) := dk_182 0 56 (dk_at dksX5_gather_0 14 rfl rfl)
theorem dX5_gather_17 : decode cX5_gather 17 = .ok (.aload_n 0, 1) := dk_42 (dk_at dksX5_gather_0 17 rfl rfl)
theorem dX5_gather_18 : decode cX5_gather 18 = .ok (.getfield 11, 3) := dk_180 0 11 (dk_at dksX5_gather_0 18 rfl rfl)
theorem dX5_gather_21 : decode cX5_gather 21 = .ok (.iload_n 1, 1) := dk_27 (dk_at dksX5_gather_0 21 rfl rfl)
theorem dX5_gather_22 : decode cX5_gather 22 = .ok (.aaload, 1) := dk_50 (dk_at dksX5_gather_0 22 rfl rfl)
theorem dX5_gather_23 : decode cX5_gather 23 = .ok (.iload_n 2, 1) := dk_28 (dk_at dksX5_gather_0 23 rfl rfl)
theorem dX5_gather_24 : decode cX5_gather 24 = .ok (.laload, 1) := dk_47 (dk_at dksX5_gather_1 0 rfl rfl)
theorem dX5_gather_25 : decode cX5_gather 25 = .ok (.lconst 0, 1) := dk_9 (dk_at dksX5_gather_1 1 rfl rfl)
theorem dX5_gather_26 : decode cX5_gather 26 = .ok (.lcmp, 1) := dk_148 (dk_at dksX5_gather_1 2 rfl rfl)
theorem dX5_gather_27 : decode cX5_gather 27 = .ok (.ifCond .ge 8, 3) := dk_156 0 8 (dk_at dksX5_gather_1 3 rfl rfl)
theorem dX5_gather_30 : decode cX5_gather 30 = .ok (.aload_n 0, 1) := dk_42 (dk_at dksX5_gather_1 6 rfl rfl)
theorem dX5_gather_31 : decode cX5_gather 31 = .ok (.iload_n 1, 1) := dk_27 (dk_at dksX5_gather_1 7 rfl rfl)
theorem dX5_gather_32 : decode cX5_gather 32 = .ok (.invokevirtual 60, 3) := dk_182 0 60 (dk_at dksX5_gather_1 8 rfl rfl)
theorem dX5_gather_35 : decode cX5_gather 35 = .ok (.iload_n 1, 1) := dk_27 (dk_at dksX5_gather_1 11 rfl rfl)
theorem dX5_gather_36 : decode cX5_gather 36 = .ok (.iconst 1, 1) := dk_4 (dk_at dksX5_gather_1 12 rfl rfl)
theorem dX5_gather_37 : decode cX5_gather 37 = .ok (.iadd, 1) := dk_96 (dk_at dksX5_gather_1 13 rfl rfl)
theorem dX5_gather_38 : decode cX5_gather 38 = .ok (.istore 4, 2) := dk_54 4 (dk_at dksX5_gather_1 14 rfl rfl)
theorem dX5_gather_40 : decode cX5_gather 40 = .ok (.iload 4, 2) := dk_21 4 (dk_at dksX5_gather_1 16 rfl rfl)
theorem dX5_gather_42 : decode cX5_gather 42 = .ok (.aload_n 0, 1) := dk_42 (dk_at dksX5_gather_1 18 rfl rfl)
theorem dX5_gather_43 : decode cX5_gather 43 = .ok (.getfield 26, 3) := dk_180 0 26 (dk_at dksX5_gather_1 19 rfl rfl)
theorem dX5_gather_46 : decode cX5_gather 46 = .ok (.if_icmp .ge 37, 3) := dk_162 0 37 (dk_at dksX5_gather_2 0 rfl rfl)
theorem dX5_gather_49 : decode cX5_gather 49 = .ok (.aload_n 0, 1) := dk_42 (dk_at dksX5_gather_2 3 rfl rfl)
theorem dX5_gather_50 : decode cX5_gather 50 = .ok (.iload 4, 2) := dk_21 4 (dk_at dksX5_gather_2 4 rfl rfl)
theorem dX5_gather_52 : decode cX5_gather 52 = .ok (.iload_n 1, 1) := dk_27 (dk_at dksX5_gather_2 6 rfl rfl)
theorem dX5_gather_53 : decode cX5_gather 53 = .ok (.aload_n 0, 1) := dk_42 (dk_at dksX5_gather_2 7 rfl rfl)
theorem dX5_gather_54 : decode cX5_gather 54 = .ok (.getfield 11, 3) := dk_180 0 11 (dk_at dksX5_gather_2 8 rfl rfl)
theorem dX5_gather_57 : decode cX5_gather 57 = .ok (.iload 4, 2) := dk_21 4 (dk_at dksX5_gather_2 11 rfl rfl)
theorem dX5_gather_59 : decode cX5_gather 59 = .ok (.aaload, 1) := dk_50 (dk_at dksX5_gather_2 13 rfl rfl)
theorem dX5_gather_60 : decode cX5_gather 60 = .ok (.iload_n 2, 1) := dk_28 (dk_at dksX5_gather_2 14 rfl rfl)
theorem dX5_gather_61 : decode cX5_gather 61 = .ok (.laload, 1) := dk_47 (dk_at dksX5_gather_2 15 rfl rfl)
theorem dX5_gather_62 : decode cX5_gather 62 = .ok (.aload_n 0, 1) := dk_42 (dk_at dksX5_gather_2 16 rfl rfl)
theorem dX5_gather_63 : decode cX5_gather 63 = .ok (.getfield 11, 3) := dk_180 0 11 (dk_at dksX5_gather_2 17 rfl rfl)
theorem dX5_gather_66 : decode cX5_gather 66 = .ok (.iload_n 1, 1) := dk_27 (dk_at dksX5_gather_2 20 rfl rfl)
theorem dX5_gather_67 : decode cX5_gather 67 = .ok (.aaload, 1) := dk_50 (dk_at dksX5_gather_2 21 rfl rfl)
theorem dX5_gather_68 : decode cX5_gather 68 = .ok (.iload_n 2, 1) := dk_28 (dk_at dksX5_gather_2 22 rfl rfl)
theorem dX5_gather_69 : decode cX5_gather 69 = .ok (.laload, 1) := dk_47 (dk_at dksX5_gather_2 23 rfl rfl)
theorem dX5_gather_70 : decode cX5_gather 70 = .ok (.invokestatic 63, 3) := dk_184 0 63 (dk_at dksX5_gather_3 0 rfl rfl)
theorem dX5_gather_73 : decode cX5_gather 73 = .ok (.lneg, 1) := dk_117 (dk_at dksX5_gather_3 3 rfl rfl)
theorem dX5_gather_74 : decode cX5_gather 74 = .ok (.invokevirtual 69, 3) := dk_182 0 69 (dk_at dksX5_gather_3 4 rfl rfl)
theorem dX5_gather_77 : decode cX5_gather 77 = .ok (.iinc 4 1, 3) := dk_132 4 1 (dk_at dksX5_gather_3 7 rfl rfl)
theorem dX5_gather_80 : decode cX5_gather 80 = .ok (.goto (-40), 3) := dk_167 255 216 (dk_at dksX5_gather_3 10 rfl rfl)
theorem dX5_gather_83 : decode cX5_gather 83 = .ok (.aload_n 0, 1) := dk_42 (dk_at dksX5_gather_3 13 rfl rfl)
theorem dX5_gather_84 : decode cX5_gather 84 = .ok (.iload_n 1, 1) := dk_27 (dk_at dksX5_gather_3 14 rfl rfl)
theorem dX5_gather_85 : decode cX5_gather 85 = .ok (.iconst 1, 1) := dk_4 (dk_at dksX5_gather_3 15 rfl rfl)
theorem dX5_gather_86 : decode cX5_gather 86 = .ok (.iadd, 1) := dk_96 (dk_at dksX5_gather_3 16 rfl rfl)
theorem dX5_gather_87 : decode cX5_gather 87 = .ok (.iload_n 2, 1) := dk_28 (dk_at dksX5_gather_3 17 rfl rfl)
theorem dX5_gather_88 : decode cX5_gather 88 = .ok (.invokevirtual 52, 3) := dk_182 0 52 (dk_at dksX5_gather_3 18 rfl rfl)
theorem dX5_gather_91 : decode cX5_gather 91 = .ok (.ifCond .ge 8, 3) := dk_156 0 8 (dk_at dksX5_gather_3 21 rfl rfl)
theorem dX5_gather_94 : decode cX5_gather 94 = .ok (.bipush (-2), 2) := dk_16 254 (dk_at dksX5_gather_4 0 rfl rfl)
theorem dX5_gather_96 : decode cX5_gather 96 = .ok (.goto 11, 3) := dk_167 0 11 (dk_at dksX5_gather_4 2 rfl rfl)
theorem dX5_gather_99 : decode cX5_gather 99 = .ok (.aload_n 0, 1) := dk_42 (dk_at dksX5_gather_4 5 rfl rfl)
theorem dX5_gather_100 : decode cX5_gather 100 = .ok (.iload_n 1, 1) := dk_27 (dk_at dksX5_gather_4 6 rfl rfl)
theorem dX5_gather_101 : decode cX5_gather 101 = .ok (.iconst 1, 1) := dk_4 (dk_at dksX5_gather_4 7 rfl rfl)
theorem dX5_gather_102 : decode cX5_gather 102 = .ok (.iadd, 1) := dk_96 (dk_at dksX5_gather_4 8 rfl rfl)
theorem dX5_gather_103 : decode cX5_gather 103 = .ok (.iload_n 2, 1) := dk_28 (dk_at dksX5_gather_4 9 rfl rfl)
theorem dX5_gather_104 : decode cX5_gather 104 = .ok (.invokevirtual 52, 3) := dk_182 0 52 (dk_at dksX5_gather_4 10 rfl rfl)
theorem dX5_gather_107 : decode cX5_gather 107 = .ok (.istore_n 3, 1) := dk_62 (dk_at dksX5_gather_4 13 rfl rfl)
theorem dX5_gather_108 : decode cX5_gather 108 = .ok (.goto (-101), 3) := dk_167 255 155 (dk_at dksX5_gather_4 14 rfl rfl)
theorem dX5_gather_111 : decode cX5_gather 111 = .ok (.iload_n 3, 1) := dk_29 (dk_at dksX5_gather_4 17 rfl rfl)
theorem dX5_gather_112 : decode cX5_gather 112 = .ok (.bipush (-2), 2) := dk_16 254 (dk_at dksX5_gather_4 18 rfl rfl)
theorem dX5_gather_114 : decode cX5_gather 114 = .ok (.if_icmp .ne 7, 3) := dk_160 0 7 (dk_at dksX5_gather_4 20 rfl rfl)
theorem dX5_gather_117 : decode cX5_gather 117 = .ok (.iconst 1, 1) := dk_4 (dk_at dksX5_gather_4 23 rfl rfl)
theorem dX5_gather_118 : decode cX5_gather 118 = .ok (.goto 4, 3) := dk_167 0 4 (dk_at dksX5_gather_5 0 rfl rfl)
theorem dX5_gather_121 : decode cX5_gather 121 = .ok (.iconst 0, 1) := dk_3 (dk_at dksX5_gather_5 3 rfl rfl)
theorem dX5_gather_122 : decode cX5_gather 122 = .ok (.ireturn, 1) := dk_172 (dk_at dksX5_gather_5 4 rfl rfl)
abbrev cX5_least : ByteArray := prog_4_method_7_code
def yX5_least : MethodName := ⟨RX5, "least", "(II)I"⟩
def dkwX5_least_3 : List UInt8 := [153, 0, 8, 21, 4, 167, 0, 4, 29, 62, 132, 4, 1, 167, 255, 180, 29, 172]
abbrev dktX5_least_3 : List UInt8 := dkwX5_least_3 ++ []
def dkwX5_least_2 : List UInt8 := [167, 0, 4, 3, 54, 5, 42, 180, 0, 11, 21, 4, 50, 28, 47, 9, 148, 153, 0, 13, 21, 5]
abbrev dktX5_least_2 : List UInt8 := dkwX5_least_2 ++ dktX5_least_3
def dkwX5_least_1 : List UInt8 := [50, 28, 47, 184, 0, 73, 42, 180, 0, 11, 29, 50, 28, 47, 184, 0, 73, 148, 156, 0, 7, 4]
abbrev dktX5_least_1 : List UInt8 := dkwX5_least_1 ++ dktX5_least_2
def dkwX5_least_0 : List UInt8 := [2, 62, 27, 54, 4, 21, 4, 42, 180, 0, 26, 162, 0, 73, 29, 155, 0, 30, 42, 180, 0, 11, 21, 4]
abbrev dktX5_least_0 : List UInt8 := dkwX5_least_0 ++ dktX5_least_1
theorem dksX5_least_0 : cX5_least.data.toList.drop 0 = dktX5_least_0 := by decide +kernel
theorem dksX5_least_1 : cX5_least.data.toList.drop 24 = dktX5_least_1 := dk_seg dksX5_least_0 24 rfl rfl
theorem dksX5_least_2 : cX5_least.data.toList.drop 46 = dktX5_least_2 := dk_seg dksX5_least_1 22 rfl rfl
theorem dksX5_least_3 : cX5_least.data.toList.drop 68 = dktX5_least_3 := dk_seg dksX5_least_2 22 rfl rfl
theorem dX5_least_0 : decode cX5_least 0 = .ok (.iconst (-1), 1) := dk_2 (dk_at dksX5_least_0 0 rfl rfl)
theorem dX5_least_1 : decode cX5_least 1 = .ok (.istore_n 3, 1) := dk_62 (dk_at dksX5_least_0 1 rfl rfl)
theorem dX5_least_2 : decode cX5_least 2 = .ok (.iload_n 1, 1) := dk_27 (dk_at dksX5_least_0 2 rfl rfl)
theorem dX5_least_3 : decode cX5_least 3 = .ok (.istore 4, 2) := dk_54 4 (dk_at dksX5_least_0 3 rfl rfl)
theorem dX5_least_5 : decode cX5_least 5 = .ok (.iload 4, 2) := dk_21 4 (dk_at dksX5_least_0 5 rfl rfl)
theorem dX5_least_7 : decode cX5_least 7 = .ok (.aload_n 0, 1) := dk_42 (dk_at dksX5_least_0 7 rfl rfl)
theorem dX5_least_8 : decode cX5_least 8 = .ok (.getfield 26, 3) := dk_180 0 26 (dk_at dksX5_least_0 8 rfl rfl)
theorem dX5_least_11 : decode cX5_least 11 = .ok (.if_icmp .ge 73, 3) := dk_162 0 73 (dk_at dksX5_least_0 11 rfl rfl)
theorem dX5_least_14 : decode cX5_least 14 = .ok (.iload_n 3, 1) := dk_29 (dk_at dksX5_least_0 14 rfl rfl)
theorem dX5_least_15 : decode cX5_least 15 = .ok (.ifCond .lt 30, 3) := dk_155 0 30 (dk_at dksX5_least_0 15 rfl rfl)
theorem dX5_least_18 : decode cX5_least 18 = .ok (.aload_n 0, 1) := dk_42 (dk_at dksX5_least_0 18 rfl rfl)
theorem dX5_least_19 : decode cX5_least 19 = .ok (.getfield 11, 3) := dk_180 0 11 (dk_at dksX5_least_0 19 rfl rfl)
theorem dX5_least_22 : decode cX5_least 22 = .ok (.iload 4, 2) := dk_21 4 (dk_at dksX5_least_0 22 rfl rfl)
theorem dX5_least_24 : decode cX5_least 24 = .ok (.aaload, 1) := dk_50 (dk_at dksX5_least_1 0 rfl rfl)
theorem dX5_least_25 : decode cX5_least 25 = .ok (.iload_n 2, 1) := dk_28 (dk_at dksX5_least_1 1 rfl rfl)
theorem dX5_least_26 : decode cX5_least 26 = .ok (.laload, 1) := dk_47 (dk_at dksX5_least_1 2 rfl rfl)
theorem dX5_least_27 : decode cX5_least 27 = .ok (.invokestatic 73, 3) := dk_184 0 73 (dk_at dksX5_least_1 3 rfl rfl)
theorem dX5_least_30 : decode cX5_least 30 = .ok (.aload_n 0, 1) := dk_42 (dk_at dksX5_least_1 6 rfl rfl)
theorem dX5_least_31 : decode cX5_least 31 = .ok (.getfield 11, 3) := dk_180 0 11 (dk_at dksX5_least_1 7 rfl rfl)
theorem dX5_least_34 : decode cX5_least 34 = .ok (.iload_n 3, 1) := dk_29 (dk_at dksX5_least_1 10 rfl rfl)
theorem dX5_least_35 : decode cX5_least 35 = .ok (.aaload, 1) := dk_50 (dk_at dksX5_least_1 11 rfl rfl)
theorem dX5_least_36 : decode cX5_least 36 = .ok (.iload_n 2, 1) := dk_28 (dk_at dksX5_least_1 12 rfl rfl)
theorem dX5_least_37 : decode cX5_least 37 = .ok (.laload, 1) := dk_47 (dk_at dksX5_least_1 13 rfl rfl)
theorem dX5_least_38 : decode cX5_least 38 = .ok (.invokestatic 73, 3) := dk_184 0 73 (dk_at dksX5_least_1 14 rfl rfl)
theorem dX5_least_41 : decode cX5_least 41 = .ok (.lcmp, 1) := dk_148 (dk_at dksX5_least_1 17 rfl rfl)
theorem dX5_least_42 : decode cX5_least 42 = .ok (.ifCond .ge 7, 3) := dk_156 0 7 (dk_at dksX5_least_1 18 rfl rfl)
theorem dX5_least_45 : decode cX5_least 45 = .ok (.iconst 1, 1) := dk_4 (dk_at dksX5_least_1 21 rfl rfl)
theorem dX5_least_46 : decode cX5_least 46 = .ok (.goto 4, 3) := dk_167 0 4 (dk_at dksX5_least_2 0 rfl rfl)
theorem dX5_least_49 : decode cX5_least 49 = .ok (.iconst 0, 1) := dk_3 (dk_at dksX5_least_2 3 rfl rfl)
theorem dX5_least_50 : decode cX5_least 50 = .ok (.istore 5, 2) := dk_54 5 (dk_at dksX5_least_2 4 rfl rfl)
theorem dX5_least_52 : decode cX5_least 52 = .ok (.aload_n 0, 1) := dk_42 (dk_at dksX5_least_2 6 rfl rfl)
theorem dX5_least_53 : decode cX5_least 53 = .ok (.getfield 11, 3) := dk_180 0 11 (dk_at dksX5_least_2 7 rfl rfl)
theorem dX5_least_56 : decode cX5_least 56 = .ok (.iload 4, 2) := dk_21 4 (dk_at dksX5_least_2 10 rfl rfl)
theorem dX5_least_58 : decode cX5_least 58 = .ok (.aaload, 1) := dk_50 (dk_at dksX5_least_2 12 rfl rfl)
theorem dX5_least_59 : decode cX5_least 59 = .ok (.iload_n 2, 1) := dk_28 (dk_at dksX5_least_2 13 rfl rfl)
theorem dX5_least_60 : decode cX5_least 60 = .ok (.laload, 1) := dk_47 (dk_at dksX5_least_2 14 rfl rfl)
theorem dX5_least_61 : decode cX5_least 61 = .ok (.lconst 0, 1) := dk_9 (dk_at dksX5_least_2 15 rfl rfl)
theorem dX5_least_62 : decode cX5_least 62 = .ok (.lcmp, 1) := dk_148 (dk_at dksX5_least_2 16 rfl rfl)
theorem dX5_least_63 : decode cX5_least 63 = .ok (.ifCond .eq 13, 3) := dk_153 0 13 (dk_at dksX5_least_2 17 rfl rfl)
theorem dX5_least_66 : decode cX5_least 66 = .ok (.iload 5, 2) := dk_21 5 (dk_at dksX5_least_2 20 rfl rfl)
theorem dX5_least_68 : decode cX5_least 68 = .ok (.ifCond .eq 8, 3) := dk_153 0 8 (dk_at dksX5_least_3 0 rfl rfl)
theorem dX5_least_71 : decode cX5_least 71 = .ok (.iload 4, 2) := dk_21 4 (dk_at dksX5_least_3 3 rfl rfl)
theorem dX5_least_73 : decode cX5_least 73 = .ok (.goto 4, 3) := dk_167 0 4 (dk_at dksX5_least_3 5 rfl rfl)
theorem dX5_least_76 : decode cX5_least 76 = .ok (.iload_n 3, 1) := dk_29 (dk_at dksX5_least_3 8 rfl rfl)
theorem dX5_least_77 : decode cX5_least 77 = .ok (.istore_n 3, 1) := dk_62 (dk_at dksX5_least_3 9 rfl rfl)
theorem dX5_least_78 : decode cX5_least 78 = .ok (.iinc 4 1, 3) := dk_132 4 1 (dk_at dksX5_least_3 10 rfl rfl)
theorem dX5_least_81 : decode cX5_least 81 = .ok (.goto (-76), 3) := dk_167 255 180 (dk_at dksX5_least_3 13 rfl rfl)
theorem dX5_least_84 : decode cX5_least 84 = .ok (.iload_n 3, 1) := dk_29 (dk_at dksX5_least_3 16 rfl rfl)
theorem dX5_least_85 : decode cX5_least 85 = .ok (.ireturn, 1) := dk_172 (dk_at dksX5_least_3 17 rfl rfl)
abbrev cX5_exchange : ByteArray := prog_4_method_4_code
def yX5_exchange : MethodName := ⟨RX5, "exchange", "(II)V"⟩
def dkwX5_exchange_1 : List UInt8 := [45, 83, 177]
abbrev dktX5_exchange_1 : List UInt8 := dkwX5_exchange_1 ++ []
def dkwX5_exchange_0 : List UInt8 := [42, 180, 0, 11, 27, 50, 78, 42, 180, 0, 11, 27, 42, 180, 0, 11, 28, 50, 83, 42, 180, 0, 11, 28]
abbrev dktX5_exchange_0 : List UInt8 := dkwX5_exchange_0 ++ dktX5_exchange_1
theorem dksX5_exchange_0 : cX5_exchange.data.toList.drop 0 = dktX5_exchange_0 := by decide +kernel
theorem dksX5_exchange_1 : cX5_exchange.data.toList.drop 24 = dktX5_exchange_1 := dk_seg dksX5_exchange_0 24 rfl rfl
theorem dX5_exchange_0 : decode cX5_exchange 0 = .ok (.aload_n 0, 1) := dk_42 (dk_at dksX5_exchange_0 0 rfl rfl)
theorem dX5_exchange_1 : decode cX5_exchange 1 = .ok (.getfield 11, 3) := dk_180 0 11 (dk_at dksX5_exchange_0 1 rfl rfl)
theorem dX5_exchange_4 : decode cX5_exchange 4 = .ok (.iload_n 1, 1) := dk_27 (dk_at dksX5_exchange_0 4 rfl rfl)
theorem dX5_exchange_5 : decode cX5_exchange 5 = .ok (.aaload, 1) := dk_50 (dk_at dksX5_exchange_0 5 rfl rfl)
theorem dX5_exchange_6 : decode cX5_exchange 6 = .ok (.astore_n 3, 1) := dk_78 (dk_at dksX5_exchange_0 6 rfl rfl)
theorem dX5_exchange_7 : decode cX5_exchange 7 = .ok (.aload_n 0, 1) := dk_42 (dk_at dksX5_exchange_0 7 rfl rfl)
theorem dX5_exchange_8 : decode cX5_exchange 8 = .ok (.getfield 11, 3) := dk_180 0 11 (dk_at dksX5_exchange_0 8 rfl rfl)
theorem dX5_exchange_11 : decode cX5_exchange 11 = .ok (.iload_n 1, 1) := dk_27 (dk_at dksX5_exchange_0 11 rfl rfl)
theorem dX5_exchange_12 : decode cX5_exchange 12 = .ok (.aload_n 0, 1) := dk_42 (dk_at dksX5_exchange_0 12 rfl rfl)
theorem dX5_exchange_13 : decode cX5_exchange 13 = .ok (.getfield 11, 3) := dk_180 0 11 (dk_at dksX5_exchange_0 13 rfl rfl)
theorem dX5_exchange_16 : decode cX5_exchange 16 = .ok (.iload_n 2, 1) := dk_28 (dk_at dksX5_exchange_0 16 rfl rfl)
theorem dX5_exchange_17 : decode cX5_exchange 17 = .ok (.aaload, 1) := dk_50 (dk_at dksX5_exchange_0 17 rfl rfl)
theorem dX5_exchange_18 : decode cX5_exchange 18 = .ok (.aastore, 1) := dk_83 (dk_at dksX5_exchange_0 18 rfl rfl)
theorem dX5_exchange_19 : decode cX5_exchange 19 = .ok (.aload_n 0, 1) := dk_42 (dk_at dksX5_exchange_0 19 rfl rfl)
theorem dX5_exchange_20 : decode cX5_exchange 20 = .ok (.getfield 11, 3) := dk_180 0 11 (dk_at dksX5_exchange_0 20 rfl rfl)
theorem dX5_exchange_23 : decode cX5_exchange 23 = .ok (.iload_n 2, 1) := dk_28 (dk_at dksX5_exchange_0 23 rfl rfl)
theorem dX5_exchange_24 : decode cX5_exchange 24 = .ok (.aload_n 3, 1) := dk_45 (dk_at dksX5_exchange_1 0 rfl rfl)
theorem dX5_exchange_25 : decode cX5_exchange 25 = .ok (.aastore, 1) := dk_83 (dk_at dksX5_exchange_1 1 rfl rfl)
theorem dX5_exchange_26 : decode cX5_exchange 26 = .ok (.return_, 1) := dk_177 (dk_at dksX5_exchange_1 2 rfl rfl)
abbrev cX5_turn : ByteArray := prog_4_method_5_code
def yX5_turn : MethodName := ⟨RX5, "turn", "(I)V"⟩
def dkwX5_turn_1 : List UInt8 := [80, 132, 2, 1, 167, 255, 230, 177]
abbrev dktX5_turn_1 : List UInt8 := dkwX5_turn_1 ++ []
def dkwX5_turn_0 : List UInt8 := [3, 61, 28, 16, 10, 162, 0, 26, 42, 180, 0, 11, 27, 50, 28, 42, 180, 0, 11, 27, 50, 28, 47, 117]
abbrev dktX5_turn_0 : List UInt8 := dkwX5_turn_0 ++ dktX5_turn_1
theorem dksX5_turn_0 : cX5_turn.data.toList.drop 0 = dktX5_turn_0 := by decide +kernel
theorem dksX5_turn_1 : cX5_turn.data.toList.drop 24 = dktX5_turn_1 := dk_seg dksX5_turn_0 24 rfl rfl
theorem dX5_turn_0 : decode cX5_turn 0 = .ok (.iconst 0, 1) := dk_3 (dk_at dksX5_turn_0 0 rfl rfl)
theorem dX5_turn_1 : decode cX5_turn 1 = .ok (.istore_n 2, 1) := dk_61 (dk_at dksX5_turn_0 1 rfl rfl)
theorem dX5_turn_2 : decode cX5_turn 2 = .ok (.iload_n 2, 1) := dk_28 (dk_at dksX5_turn_0 2 rfl rfl)
theorem dX5_turn_3 : decode cX5_turn 3 = .ok (.bipush 10, 2) := dk_16 10 (dk_at dksX5_turn_0 3 rfl rfl)
theorem dX5_turn_5 : decode cX5_turn 5 = .ok (.if_icmp .ge 26, 3) := dk_162 0 26 (dk_at dksX5_turn_0 5 rfl rfl)
theorem dX5_turn_8 : decode cX5_turn 8 = .ok (.aload_n 0, 1) := dk_42 (dk_at dksX5_turn_0 8 rfl rfl)
theorem dX5_turn_9 : decode cX5_turn 9 = .ok (.getfield 11, 3) := dk_180 0 11 (dk_at dksX5_turn_0 9 rfl rfl)
theorem dX5_turn_12 : decode cX5_turn 12 = .ok (.iload_n 1, 1) := dk_27 (dk_at dksX5_turn_0 12 rfl rfl)
theorem dX5_turn_13 : decode cX5_turn 13 = .ok (.aaload, 1) := dk_50 (dk_at dksX5_turn_0 13 rfl rfl)
theorem dX5_turn_14 : decode cX5_turn 14 = .ok (.iload_n 2, 1) := dk_28 (dk_at dksX5_turn_0 14 rfl rfl)
theorem dX5_turn_15 : decode cX5_turn 15 = .ok (.aload_n 0, 1) := dk_42 (dk_at dksX5_turn_0 15 rfl rfl)
theorem dX5_turn_16 : decode cX5_turn 16 = .ok (.getfield 11, 3) := dk_180 0 11 (dk_at dksX5_turn_0 16 rfl rfl)
theorem dX5_turn_19 : decode cX5_turn 19 = .ok (.iload_n 1, 1) := dk_27 (dk_at dksX5_turn_0 19 rfl rfl)
theorem dX5_turn_20 : decode cX5_turn 20 = .ok (.aaload, 1) := dk_50 (dk_at dksX5_turn_0 20 rfl rfl)
theorem dX5_turn_21 : decode cX5_turn 21 = .ok (.iload_n 2, 1) := dk_28 (dk_at dksX5_turn_0 21 rfl rfl)
theorem dX5_turn_22 : decode cX5_turn 22 = .ok (.laload, 1) := dk_47 (dk_at dksX5_turn_0 22 rfl rfl)
theorem dX5_turn_23 : decode cX5_turn 23 = .ok (.lneg, 1) := dk_117 (dk_at dksX5_turn_0 23 rfl rfl)
theorem dX5_turn_24 : decode cX5_turn 24 = .ok (.lastore, 1) := dk_80 (dk_at dksX5_turn_1 0 rfl rfl)
theorem dX5_turn_25 : decode cX5_turn 25 = .ok (.iinc 2 1, 3) := dk_132 2 1 (dk_at dksX5_turn_1 1 rfl rfl)
theorem dX5_turn_28 : decode cX5_turn 28 = .ok (.goto (-26), 3) := dk_167 255 230 (dk_at dksX5_turn_1 4 rfl rfl)
theorem dX5_turn_31 : decode cX5_turn 31 = .ok (.return_, 1) := dk_177 (dk_at dksX5_turn_1 7 rfl rfl)
abbrev cX5_add : ByteArray := prog_4_method_3_code
def yX5_add : MethodName := ⟨RX5, "add", "(IIJ)V"⟩
def dkwX5_add_1 : List UInt8 := [180, 0, 11, 28, 50, 21, 5, 47, 105, 97, 80, 132, 5, 1, 167, 255, 223, 177]
abbrev dktX5_add_1 : List UInt8 := dkwX5_add_1 ++ []
def dkwX5_add_0 : List UInt8 := [3, 54, 5, 21, 5, 16, 10, 162, 0, 32, 42, 180, 0, 11, 27, 50, 21, 5, 92, 47, 33, 42]
abbrev dktX5_add_0 : List UInt8 := dkwX5_add_0 ++ dktX5_add_1
theorem dksX5_add_0 : cX5_add.data.toList.drop 0 = dktX5_add_0 := by decide +kernel
theorem dksX5_add_1 : cX5_add.data.toList.drop 22 = dktX5_add_1 := dk_seg dksX5_add_0 22 rfl rfl
theorem dX5_add_0 : decode cX5_add 0 = .ok (.iconst 0, 1) := dk_3 (dk_at dksX5_add_0 0 rfl rfl)
theorem dX5_add_1 : decode cX5_add 1 = .ok (.istore 5, 2) := dk_54 5 (dk_at dksX5_add_0 1 rfl rfl)
theorem dX5_add_3 : decode cX5_add 3 = .ok (.iload 5, 2) := dk_21 5 (dk_at dksX5_add_0 3 rfl rfl)
theorem dX5_add_5 : decode cX5_add 5 = .ok (.bipush 10, 2) := dk_16 10 (dk_at dksX5_add_0 5 rfl rfl)
theorem dX5_add_7 : decode cX5_add 7 = .ok (.if_icmp .ge 32, 3) := dk_162 0 32 (dk_at dksX5_add_0 7 rfl rfl)
theorem dX5_add_10 : decode cX5_add 10 = .ok (.aload_n 0, 1) := dk_42 (dk_at dksX5_add_0 10 rfl rfl)
theorem dX5_add_11 : decode cX5_add 11 = .ok (.getfield 11, 3) := dk_180 0 11 (dk_at dksX5_add_0 11 rfl rfl)
theorem dX5_add_14 : decode cX5_add 14 = .ok (.iload_n 1, 1) := dk_27 (dk_at dksX5_add_0 14 rfl rfl)
theorem dX5_add_15 : decode cX5_add 15 = .ok (.aaload, 1) := dk_50 (dk_at dksX5_add_0 15 rfl rfl)
theorem dX5_add_16 : decode cX5_add 16 = .ok (.iload 5, 2) := dk_21 5 (dk_at dksX5_add_0 16 rfl rfl)
theorem dX5_add_18 : decode cX5_add 18 = .ok (.dup2, 1) := dk_92 (dk_at dksX5_add_0 18 rfl rfl)
theorem dX5_add_19 : decode cX5_add 19 = .ok (.laload, 1) := dk_47 (dk_at dksX5_add_0 19 rfl rfl)
theorem dX5_add_20 : decode cX5_add 20 = .ok (.lload_n 3, 1) := dk_33 (dk_at dksX5_add_0 20 rfl rfl)
theorem dX5_add_21 : decode cX5_add 21 = .ok (.aload_n 0, 1) := dk_42 (dk_at dksX5_add_0 21 rfl rfl)
theorem dX5_add_22 : decode cX5_add 22 = .ok (.getfield 11, 3) := dk_180 0 11 (dk_at dksX5_add_1 0 rfl rfl)
theorem dX5_add_25 : decode cX5_add 25 = .ok (.iload_n 2, 1) := dk_28 (dk_at dksX5_add_1 3 rfl rfl)
theorem dX5_add_26 : decode cX5_add 26 = .ok (.aaload, 1) := dk_50 (dk_at dksX5_add_1 4 rfl rfl)
theorem dX5_add_27 : decode cX5_add 27 = .ok (.iload 5, 2) := dk_21 5 (dk_at dksX5_add_1 5 rfl rfl)
theorem dX5_add_29 : decode cX5_add 29 = .ok (.laload, 1) := dk_47 (dk_at dksX5_add_1 7 rfl rfl)
theorem dX5_add_30 : decode cX5_add 30 = .ok (.lmul, 1) := dk_105 (dk_at dksX5_add_1 8 rfl rfl)
theorem dX5_add_31 : decode cX5_add 31 = .ok (.ladd, 1) := dk_97 (dk_at dksX5_add_1 9 rfl rfl)
theorem dX5_add_32 : decode cX5_add 32 = .ok (.lastore, 1) := dk_80 (dk_at dksX5_add_1 10 rfl rfl)
theorem dX5_add_33 : decode cX5_add 33 = .ok (.iinc 5 1, 3) := dk_132 5 1 (dk_at dksX5_add_1 11 rfl rfl)
theorem dX5_add_36 : decode cX5_add 36 = .ok (.goto (-33), 3) := dk_167 255 223 (dk_at dksX5_add_1 14 rfl rfl)
theorem dX5_add_39 : decode cX5_add 39 = .ok (.return_, 1) := dk_177 (dk_at dksX5_add_1 17 rfl rfl)
abbrev cX5_lead : ByteArray := prog_4_method_9_code
def yX5_lead : MethodName := ⟨RX5, "lead", "(I)V"⟩
def dkwX5_lead_4 : List UInt8 := [167, 255, 218, 177]
abbrev dktX5_lead_4 : List UInt8 := dkwX5_lead_4 ++ []
def dkwX5_lead_3 : List UInt8 := [27, 96, 47, 42, 180, 0, 11, 28, 50, 7, 27, 96, 47, 184, 0, 63, 117, 182, 0, 69, 132, 3, 1]
abbrev dktX5_lead_3 : List UInt8 := dkwX5_lead_3 ++ dktX5_lead_4
def dkwX5_lead_2 : List UInt8 := [154, 0, 4, 177, 42, 180, 0, 38, 62, 29, 28, 162, 0, 39, 42, 29, 28, 42, 180, 0, 11, 29, 50, 7]
abbrev dktX5_lead_2 : List UInt8 := dkwX5_lead_2 ++ dktX5_lead_3
def dkwX5_lead_1 : List UInt8 := [132, 2, 1, 167, 255, 236, 28, 42, 180, 0, 26, 159, 0, 14, 42, 28, 7, 27, 96, 182, 0, 77]
abbrev dktX5_lead_1 : List UInt8 := dkwX5_lead_1 ++ dktX5_lead_2
def dkwX5_lead_0 : List UInt8 := [42, 180, 0, 38, 61, 28, 42, 180, 0, 26, 162, 0, 18, 42, 28, 182, 0, 81, 27, 162, 0, 9]
abbrev dktX5_lead_0 : List UInt8 := dkwX5_lead_0 ++ dktX5_lead_1
theorem dksX5_lead_0 : cX5_lead.data.toList.drop 0 = dktX5_lead_0 := by decide +kernel
theorem dksX5_lead_1 : cX5_lead.data.toList.drop 22 = dktX5_lead_1 := dk_seg dksX5_lead_0 22 rfl rfl
theorem dksX5_lead_2 : cX5_lead.data.toList.drop 44 = dktX5_lead_2 := dk_seg dksX5_lead_1 22 rfl rfl
theorem dksX5_lead_3 : cX5_lead.data.toList.drop 68 = dktX5_lead_3 := dk_seg dksX5_lead_2 24 rfl rfl
theorem dksX5_lead_4 : cX5_lead.data.toList.drop 91 = dktX5_lead_4 := dk_seg dksX5_lead_3 23 rfl rfl
theorem dX5_lead_0 : decode cX5_lead 0 = .ok (.aload_n 0, 1) := dk_42 (dk_at dksX5_lead_0 0 rfl rfl)
theorem dX5_lead_1 : decode cX5_lead 1 = .ok (.getfield 38, 3) := dk_180 0 38 (dk_at dksX5_lead_0 1 rfl rfl)
theorem dX5_lead_4 : decode cX5_lead 4 = .ok (.istore_n 2, 1) := dk_61 (dk_at dksX5_lead_0 4 rfl rfl)
theorem dX5_lead_5 : decode cX5_lead 5 = .ok (.iload_n 2, 1) := dk_28 (dk_at dksX5_lead_0 5 rfl rfl)
theorem dX5_lead_6 : decode cX5_lead 6 = .ok (.aload_n 0, 1) := dk_42 (dk_at dksX5_lead_0 6 rfl rfl)
theorem dX5_lead_7 : decode cX5_lead 7 = .ok (.getfield 26, 3) := dk_180 0 26 (dk_at dksX5_lead_0 7 rfl rfl)
theorem dX5_lead_10 : decode cX5_lead 10 = .ok (.if_icmp .ge 18, 3) := dk_162 0 18 (dk_at dksX5_lead_0 10 rfl rfl)
theorem dX5_lead_13 : decode cX5_lead 13 = .ok (.aload_n 0, 1) := dk_42 (dk_at dksX5_lead_0 13 rfl rfl)
theorem dX5_lead_14 : decode cX5_lead 14 = .ok (.iload_n 2, 1) := dk_28 (dk_at dksX5_lead_0 14 rfl rfl)
theorem dX5_lead_15 : decode cX5_lead 15 = .ok (.invokevirtual 81, 3) := dk_182 0 81 (dk_at dksX5_lead_0 15 rfl rfl)
theorem dX5_lead_18 : decode cX5_lead 18 = .ok (.iload_n 1, 1) := dk_27 (dk_at dksX5_lead_0 18 rfl rfl)
theorem dX5_lead_19 : decode cX5_lead 19 = .ok (.if_icmp .ge 9, 3) := dk_162 0 9 (dk_at dksX5_lead_0 19 rfl rfl)
theorem dX5_lead_22 : decode cX5_lead 22 = .ok (.iinc 2 1, 3) := dk_132 2 1 (dk_at dksX5_lead_1 0 rfl rfl)
theorem dX5_lead_25 : decode cX5_lead 25 = .ok (.goto (-20), 3) := dk_167 255 236 (dk_at dksX5_lead_1 3 rfl rfl)
theorem dX5_lead_28 : decode cX5_lead 28 = .ok (.iload_n 2, 1) := dk_28 (dk_at dksX5_lead_1 6 rfl rfl)
theorem dX5_lead_29 : decode cX5_lead 29 = .ok (.aload_n 0, 1) := dk_42 (dk_at dksX5_lead_1 7 rfl rfl)
theorem dX5_lead_30 : decode cX5_lead 30 = .ok (.getfield 26, 3) := dk_180 0 26 (dk_at dksX5_lead_1 8 rfl rfl)
theorem dX5_lead_33 : decode cX5_lead 33 = .ok (.if_icmp .eq 14, 3) := dk_159 0 14 (dk_at dksX5_lead_1 11 rfl rfl)
theorem dX5_lead_36 : decode cX5_lead 36 = .ok (.aload_n 0, 1) := dk_42 (dk_at dksX5_lead_1 14 rfl rfl)
theorem dX5_lead_37 : decode cX5_lead 37 = .ok (.iload_n 2, 1) := dk_28 (dk_at dksX5_lead_1 15 rfl rfl)
theorem dX5_lead_38 : decode cX5_lead 38 = .ok (.iconst 4, 1) := dk_7 (dk_at dksX5_lead_1 16 rfl rfl)
theorem dX5_lead_39 : decode cX5_lead 39 = .ok (.iload_n 1, 1) := dk_27 (dk_at dksX5_lead_1 17 rfl rfl)
theorem dX5_lead_40 : decode cX5_lead 40 = .ok (.iadd, 1) := dk_96 (dk_at dksX5_lead_1 18 rfl rfl)
theorem dX5_lead_41 : decode cX5_lead 41 = .ok (.invokevirtual 77, 3) := dk_182 0 77 (dk_at dksX5_lead_1 19 rfl rfl)
theorem dX5_lead_44 : decode cX5_lead 44 = .ok (.ifCond .ne 4, 3) := dk_154 0 4 (dk_at dksX5_lead_2 0 rfl rfl)
theorem dX5_lead_47 : decode cX5_lead 47 = .ok (.return_, 1) := dk_177 (dk_at dksX5_lead_2 3 rfl rfl)
theorem dX5_lead_48 : decode cX5_lead 48 = .ok (.aload_n 0, 1) := dk_42 (dk_at dksX5_lead_2 4 rfl rfl)
theorem dX5_lead_49 : decode cX5_lead 49 = .ok (.getfield 38, 3) := dk_180 0 38 (dk_at dksX5_lead_2 5 rfl rfl)
theorem dX5_lead_52 : decode cX5_lead 52 = .ok (.istore_n 3, 1) := dk_62 (dk_at dksX5_lead_2 8 rfl rfl)
theorem dX5_lead_53 : decode cX5_lead 53 = .ok (.iload_n 3, 1) := dk_29 (dk_at dksX5_lead_2 9 rfl rfl)
theorem dX5_lead_54 : decode cX5_lead 54 = .ok (.iload_n 2, 1) := dk_28 (dk_at dksX5_lead_2 10 rfl rfl)
theorem dX5_lead_55 : decode cX5_lead 55 = .ok (.if_icmp .ge 39, 3) := dk_162 0 39 (dk_at dksX5_lead_2 11 rfl rfl)
theorem dX5_lead_58 : decode cX5_lead 58 = .ok (.aload_n 0, 1) := dk_42 (dk_at dksX5_lead_2 14 rfl rfl)
theorem dX5_lead_59 : decode cX5_lead 59 = .ok (.iload_n 3, 1) := dk_29 (dk_at dksX5_lead_2 15 rfl rfl)
theorem dX5_lead_60 : decode cX5_lead 60 = .ok (.iload_n 2, 1) := dk_28 (dk_at dksX5_lead_2 16 rfl rfl)
theorem dX5_lead_61 : decode cX5_lead 61 = .ok (.aload_n 0, 1) := dk_42 (dk_at dksX5_lead_2 17 rfl rfl)
theorem dX5_lead_62 : decode cX5_lead 62 = .ok (.getfield 11, 3) := dk_180 0 11 (dk_at dksX5_lead_2 18 rfl rfl)
theorem dX5_lead_65 : decode cX5_lead 65 = .ok (.iload_n 3, 1) := dk_29 (dk_at dksX5_lead_2 21 rfl rfl)
theorem dX5_lead_66 : decode cX5_lead 66 = .ok (.aaload, 1) := dk_50 (dk_at dksX5_lead_2 22 rfl rfl)
theorem dX5_lead_67 : decode cX5_lead 67 = .ok (.iconst 4, 1) := dk_7 (dk_at dksX5_lead_2 23 rfl rfl)
theorem dX5_lead_68 : decode cX5_lead 68 = .ok (.iload_n 1, 1) := dk_27 (dk_at dksX5_lead_3 0 rfl rfl)
theorem dX5_lead_69 : decode cX5_lead 69 = .ok (.iadd, 1) := dk_96 (dk_at dksX5_lead_3 1 rfl rfl)
theorem dX5_lead_70 : decode cX5_lead 70 = .ok (.laload, 1) := dk_47 (dk_at dksX5_lead_3 2 rfl rfl)
theorem dX5_lead_71 : decode cX5_lead 71 = .ok (.aload_n 0, 1) := dk_42 (dk_at dksX5_lead_3 3 rfl rfl)
theorem dX5_lead_72 : decode cX5_lead 72 = .ok (.getfield 11, 3) := dk_180 0 11 (dk_at dksX5_lead_3 4 rfl rfl)
theorem dX5_lead_75 : decode cX5_lead 75 = .ok (.iload_n 2, 1) := dk_28 (dk_at dksX5_lead_3 7 rfl rfl)
theorem dX5_lead_76 : decode cX5_lead 76 = .ok (.aaload, 1) := dk_50 (dk_at dksX5_lead_3 8 rfl rfl)
theorem dX5_lead_77 : decode cX5_lead 77 = .ok (.iconst 4, 1) := dk_7 (dk_at dksX5_lead_3 9 rfl rfl)
theorem dX5_lead_78 : decode cX5_lead 78 = .ok (.iload_n 1, 1) := dk_27 (dk_at dksX5_lead_3 10 rfl rfl)
theorem dX5_lead_79 : decode cX5_lead 79 = .ok (.iadd, 1) := dk_96 (dk_at dksX5_lead_3 11 rfl rfl)
theorem dX5_lead_80 : decode cX5_lead 80 = .ok (.laload, 1) := dk_47 (dk_at dksX5_lead_3 12 rfl rfl)
theorem dX5_lead_81 : decode cX5_lead 81 = .ok (.invokestatic 63, 3) := dk_184 0 63 (dk_at dksX5_lead_3 13 rfl rfl)
theorem dX5_lead_84 : decode cX5_lead 84 = .ok (.lneg, 1) := dk_117 (dk_at dksX5_lead_3 16 rfl rfl)
theorem dX5_lead_85 : decode cX5_lead 85 = .ok (.invokevirtual 69, 3) := dk_182 0 69 (dk_at dksX5_lead_3 17 rfl rfl)
theorem dX5_lead_88 : decode cX5_lead 88 = .ok (.iinc 3 1, 3) := dk_132 3 1 (dk_at dksX5_lead_3 20 rfl rfl)
theorem dX5_lead_91 : decode cX5_lead 91 = .ok (.goto (-38), 3) := dk_167 255 218 (dk_at dksX5_lead_4 0 rfl rfl)
theorem dX5_lead_94 : decode cX5_lead 94 = .ok (.return_, 1) := dk_177 (dk_at dksX5_lead_4 3 rfl rfl)
abbrev cX5_first : ByteArray := prog_4_method_10_code
def yX5_first : MethodName := ⟨RX5, "first", "(I)I"⟩
def dkwX5_first_1 : List UInt8 := [132, 2, 1, 167, 255, 232, 28, 172]
abbrev dktX5_first_1 : List UInt8 := dkwX5_first_1 ++ []
def dkwX5_first_0 : List UInt8 := [3, 61, 28, 16, 6, 162, 0, 24, 42, 180, 0, 11, 27, 50, 7, 28, 96, 47, 9, 148, 154, 0, 9]
abbrev dktX5_first_0 : List UInt8 := dkwX5_first_0 ++ dktX5_first_1
theorem dksX5_first_0 : cX5_first.data.toList.drop 0 = dktX5_first_0 := by decide +kernel
theorem dksX5_first_1 : cX5_first.data.toList.drop 23 = dktX5_first_1 := dk_seg dksX5_first_0 23 rfl rfl
theorem dX5_first_0 : decode cX5_first 0 = .ok (.iconst 0, 1) := dk_3 (dk_at dksX5_first_0 0 rfl rfl)
theorem dX5_first_1 : decode cX5_first 1 = .ok (.istore_n 2, 1) := dk_61 (dk_at dksX5_first_0 1 rfl rfl)
theorem dX5_first_2 : decode cX5_first 2 = .ok (.iload_n 2, 1) := dk_28 (dk_at dksX5_first_0 2 rfl rfl)
theorem dX5_first_3 : decode cX5_first 3 = .ok (.bipush 6, 2) := dk_16 6 (dk_at dksX5_first_0 3 rfl rfl)
theorem dX5_first_5 : decode cX5_first 5 = .ok (.if_icmp .ge 24, 3) := dk_162 0 24 (dk_at dksX5_first_0 5 rfl rfl)
theorem dX5_first_8 : decode cX5_first 8 = .ok (.aload_n 0, 1) := dk_42 (dk_at dksX5_first_0 8 rfl rfl)
theorem dX5_first_9 : decode cX5_first 9 = .ok (.getfield 11, 3) := dk_180 0 11 (dk_at dksX5_first_0 9 rfl rfl)
theorem dX5_first_12 : decode cX5_first 12 = .ok (.iload_n 1, 1) := dk_27 (dk_at dksX5_first_0 12 rfl rfl)
theorem dX5_first_13 : decode cX5_first 13 = .ok (.aaload, 1) := dk_50 (dk_at dksX5_first_0 13 rfl rfl)
theorem dX5_first_14 : decode cX5_first 14 = .ok (.iconst 4, 1) := dk_7 (dk_at dksX5_first_0 14 rfl rfl)
theorem dX5_first_15 : decode cX5_first 15 = .ok (.iload_n 2, 1) := dk_28 (dk_at dksX5_first_0 15 rfl rfl)
theorem dX5_first_16 : decode cX5_first 16 = .ok (.iadd, 1) := dk_96 (dk_at dksX5_first_0 16 rfl rfl)
theorem dX5_first_17 : decode cX5_first 17 = .ok (.laload, 1) := dk_47 (dk_at dksX5_first_0 17 rfl rfl)
theorem dX5_first_18 : decode cX5_first 18 = .ok (.lconst 0, 1) := dk_9 (dk_at dksX5_first_0 18 rfl rfl)
theorem dX5_first_19 : decode cX5_first 19 = .ok (.lcmp, 1) := dk_148 (dk_at dksX5_first_0 19 rfl rfl)
theorem dX5_first_20 : decode cX5_first 20 = .ok (.ifCond .ne 9, 3) := dk_154 0 9 (dk_at dksX5_first_0 20 rfl rfl)
theorem dX5_first_23 : decode cX5_first 23 = .ok (.iinc 2 1, 3) := dk_132 2 1 (dk_at dksX5_first_1 0 rfl rfl)
theorem dX5_first_26 : decode cX5_first 26 = .ok (.goto (-24), 3) := dk_167 255 232 (dk_at dksX5_first_1 3 rfl rfl)
theorem dX5_first_29 : decode cX5_first 29 = .ok (.iload_n 2, 1) := dk_28 (dk_at dksX5_first_1 6 rfl rfl)
theorem dX5_first_30 : decode cX5_first 30 = .ok (.ireturn, 1) := dk_172 (dk_at dksX5_first_1 7 rfl rfl)
abbrev cX5_dimension : ByteArray := prog_4_method_11_code
def yX5_dimension : MethodName := ⟨RX5, "dimension", "()I"⟩
def dkwX5_dimension_0 : List UInt8 := [42, 180, 0, 26, 42, 180, 0, 38, 100, 172]
abbrev dktX5_dimension_0 : List UInt8 := dkwX5_dimension_0 ++ []
theorem dksX5_dimension_0 : cX5_dimension.data.toList.drop 0 = dktX5_dimension_0 := by decide +kernel
theorem dX5_dimension_0 : decode cX5_dimension 0 = .ok (.aload_n 0, 1) := dk_42 (dk_at dksX5_dimension_0 0 rfl rfl)
theorem dX5_dimension_1 : decode cX5_dimension 1 = .ok (.getfield 26, 3) := dk_180 0 26 (dk_at dksX5_dimension_0 1 rfl rfl)
theorem dX5_dimension_4 : decode cX5_dimension 4 = .ok (.aload_n 0, 1) := dk_42 (dk_at dksX5_dimension_0 4 rfl rfl)
theorem dX5_dimension_5 : decode cX5_dimension 5 = .ok (.getfield 38, 3) := dk_180 0 38 (dk_at dksX5_dimension_0 5 rfl rfl)
theorem dX5_dimension_8 : decode cX5_dimension 8 = .ok (.isub, 1) := dk_100 (dk_at dksX5_dimension_0 8 rfl rfl)
theorem dX5_dimension_9 : decode cX5_dimension 9 = .ok (.ireturn, 1) := dk_172 (dk_at dksX5_dimension_0 9 rfl rfl)
abbrev cX5_kernelAt : ByteArray := prog_4_method_12_code
def yX5_kernelAt : MethodName := ⟨RX5, "kernelAt", "(II)J"⟩
def dkwX5_kernelAt_0 : List UInt8 := [42, 180, 0, 11, 42, 180, 0, 38, 27, 96, 50, 7, 28, 96, 47, 173]
abbrev dktX5_kernelAt_0 : List UInt8 := dkwX5_kernelAt_0 ++ []
theorem dksX5_kernelAt_0 : cX5_kernelAt.data.toList.drop 0 = dktX5_kernelAt_0 := by decide +kernel
theorem dX5_kernelAt_0 : decode cX5_kernelAt 0 = .ok (.aload_n 0, 1) := dk_42 (dk_at dksX5_kernelAt_0 0 rfl rfl)
theorem dX5_kernelAt_1 : decode cX5_kernelAt 1 = .ok (.getfield 11, 3) := dk_180 0 11 (dk_at dksX5_kernelAt_0 1 rfl rfl)
theorem dX5_kernelAt_4 : decode cX5_kernelAt 4 = .ok (.aload_n 0, 1) := dk_42 (dk_at dksX5_kernelAt_0 4 rfl rfl)
theorem dX5_kernelAt_5 : decode cX5_kernelAt 5 = .ok (.getfield 38, 3) := dk_180 0 38 (dk_at dksX5_kernelAt_0 5 rfl rfl)
theorem dX5_kernelAt_8 : decode cX5_kernelAt 8 = .ok (.iload_n 1, 1) := dk_27 (dk_at dksX5_kernelAt_0 8 rfl rfl)
theorem dX5_kernelAt_9 : decode cX5_kernelAt 9 = .ok (.iadd, 1) := dk_96 (dk_at dksX5_kernelAt_0 9 rfl rfl)
theorem dX5_kernelAt_10 : decode cX5_kernelAt 10 = .ok (.aaload, 1) := dk_50 (dk_at dksX5_kernelAt_0 10 rfl rfl)
theorem dX5_kernelAt_11 : decode cX5_kernelAt 11 = .ok (.iconst 4, 1) := dk_7 (dk_at dksX5_kernelAt_0 11 rfl rfl)
theorem dX5_kernelAt_12 : decode cX5_kernelAt 12 = .ok (.iload_n 2, 1) := dk_28 (dk_at dksX5_kernelAt_0 12 rfl rfl)
theorem dX5_kernelAt_13 : decode cX5_kernelAt 13 = .ok (.iadd, 1) := dk_96 (dk_at dksX5_kernelAt_0 13 rfl rfl)
theorem dX5_kernelAt_14 : decode cX5_kernelAt 14 = .ok (.laload, 1) := dk_47 (dk_at dksX5_kernelAt_0 14 rfl rfl)
theorem dX5_kernelAt_15 : decode cX5_kernelAt 15 = .ok (.lreturn, 1) := dk_173 (dk_at dksX5_kernelAt_0 15 rfl rfl)
theorem q85 : (Jvm.Cond.initialized "LeastSolutions$Lattice") ∈ lw_all := lw_g (lw_at lw_m1 11 rfl) rfl
theorem q267 : (Jvm.Cond.fieldLinkNest "LeastSolutions$Lattice" (27 : Nat) "LeastSolutions$Model" "rows" "I" "LeastSolutions") ∈ lw_tbl := lw_at lw_m1 193 rfl
theorem q272 : (Jvm.Cond.fieldLinkNest "LeastSolutions$Lattice" (20 : Nat) "LeastSolutions$Model" "columns" "I" "LeastSolutions") ∈ lw_tbl := lw_at lw_m1 198 rfl
theorem q285 : (Jvm.Cond.fieldLinkNest "LeastSolutions$Lattice" (30 : Nat) "LeastSolutions$Model" "a" "[[I" "LeastSolutions") ∈ lw_tbl := lw_at lw_m1 211 rfl
theorem q291 : (Jvm.Cond.fieldLinkNest "LeastSolutions$Lattice" (34 : Nat) "LeastSolutions$Model" "b" "[I" "LeastSolutions") ∈ lw_tbl := lw_at lw_m1 217 rfl
theorem q310 : (Jvm.Cond.instantiable "LeastSolutions$Lattice" (5 : Nat)) ∈ lw_all := lw_g (lw_at lw_m1 236 rfl) rfl
theorem q312 : (Jvm.Cond.instanceMethod ({ cls := "LeastSolutions$Lattice", name := "<init>", desc := "()V" } : Jvm.MethodName)) ∈ lw_all := lw_g (lw_at lw_m1 238 rfl) rfl
theorem q313 : (Jvm.Cond.code ({ cls := "LeastSolutions$Lattice", name := "<init>", desc := "()V" } : Jvm.MethodName) prog_4_method_1_code (1 : Nat) (Option.none : Option Jvm.ClassFile.FieldType)) ∈ lw_all := lw_g (lw_at lw_m1 239 rfl) rfl
theorem q314 : (Jvm.Cond.methodLink "LeastSolutions$Lattice" (3 : Nat) ({ cls := "java/lang/Object", name := "<init>", desc := "()V" } : Jvm.MethodName)) ∈ lw_all := lw_g (lw_at lw_m2 0 rfl) rfl
theorem q315 : (Jvm.Cond.classLink "LeastSolutions$Lattice" (9 : Nat) "[[J") ∈ lw_all := lw_g (lw_at lw_m2 1 rfl) rfl
theorem q317 : (Jvm.Cond.fieldLink "LeastSolutions$Lattice" (11 : Nat) "LeastSolutions$Lattice" "cells" "[[J") ∈ lw_all := lw_g (lw_at lw_m2 3 rfl) rfl
theorem q318 : (Jvm.Cond.fieldLink "LeastSolutions$Lattice" (16 : Nat) "LeastSolutions$Lattice" "rest" "[J") ∈ lw_all := lw_g (lw_at lw_m2 4 rfl) rfl
theorem q319 : (Jvm.Cond.fieldLink "LeastSolutions$Lattice" (26 : Nat) "LeastSolutions$Lattice" "columns" "I") ∈ lw_all := lw_g (lw_at lw_m2 5 rfl) rfl
theorem q320 : (Jvm.Cond.fieldLink "LeastSolutions$Lattice" (38 : Nat) "LeastSolutions$Lattice" "steps" "I") ∈ lw_all := lw_g (lw_at lw_m2 6 rfl) rfl
theorem q321 : (Jvm.Cond.fieldLink "LeastSolutions$Lattice" (41 : Nat) "LeastSolutions$Lattice" "solvable" "Z") ∈ lw_all := lw_g (lw_at lw_m2 7 rfl) rfl
theorem q323 : (Jvm.Cond.laysFinal "LeastSolutions$Lattice" "LeastSolutions$Lattice" "cells" "[[J") ∈ lw_all := lw_g (lw_at lw_m2 9 rfl) rfl
theorem q324 : (Jvm.Cond.soleField "LeastSolutions$Lattice" "cells") ∈ lw_all := lw_g (lw_at lw_m2 10 rfl) rfl
theorem q325 : (Jvm.Cond.laysFinal "LeastSolutions$Lattice" "LeastSolutions$Lattice" "rest" "[J") ∈ lw_all := lw_g (lw_at lw_m2 11 rfl) rfl
theorem q326 : (Jvm.Cond.soleField "LeastSolutions$Lattice" "rest") ∈ lw_all := lw_g (lw_at lw_m2 12 rfl) rfl
theorem q327 : (Jvm.Cond.lays "LeastSolutions$Lattice" "LeastSolutions$Lattice" "columns" "I") ∈ lw_all := lw_g (lw_at lw_m2 13 rfl) rfl
theorem q328 : (Jvm.Cond.soleField "LeastSolutions$Lattice" "columns") ∈ lw_all := lw_g (lw_at lw_m2 14 rfl) rfl
theorem q329 : (Jvm.Cond.lays "LeastSolutions$Lattice" "LeastSolutions$Lattice" "steps" "I") ∈ lw_all := lw_g (lw_at lw_m2 15 rfl) rfl
theorem q330 : (Jvm.Cond.soleField "LeastSolutions$Lattice" "steps") ∈ lw_all := lw_g (lw_at lw_m2 16 rfl) rfl
theorem q331 : (Jvm.Cond.lays "LeastSolutions$Lattice" "LeastSolutions$Lattice" "solvable" "Z") ∈ lw_all := lw_g (lw_at lw_m2 17 rfl) rfl
theorem q332 : (Jvm.Cond.soleField "LeastSolutions$Lattice" "solvable") ∈ lw_all := lw_g (lw_at lw_m2 18 rfl) rfl
theorem q333 : (Jvm.Cond.superclass "LeastSolutions$Lattice" "java/lang/Object") ∈ lw_all := lw_g (lw_at lw_m2 19 rfl) rfl
theorem q626 : (Jvm.Cond.instanceMethod ({ cls := "LeastSolutions$Lattice", name := "work", desc := "(LLeastSolutions$Model;)V" } : Jvm.MethodName)) ∈ lw_all := lw_g (lw_at lw_m3 72 rfl) rfl
theorem q627 : (Jvm.Cond.selects "LeastSolutions$Lattice" ({ cls := "LeastSolutions$Lattice", name := "work", desc := "(LLeastSolutions$Model;)V" } : Jvm.MethodName) ({ cls := "LeastSolutions$Lattice", name := "work", desc := "(LLeastSolutions$Model;)V" } : Jvm.MethodName)) ∈ lw_all := lw_g (lw_at lw_m3 73 rfl) rfl
theorem q628 : (Jvm.Cond.code ({ cls := "LeastSolutions$Lattice", name := "work", desc := "(LLeastSolutions$Model;)V" } : Jvm.MethodName) prog_4_method_2_code (4 : Nat) (Option.none : Option Jvm.ClassFile.FieldType)) ∈ lw_all := lw_g (lw_at lw_m3 74 rfl) rfl
theorem q629 : (Jvm.Cond.methodLink "LeastSolutions$Lattice" (45 : Nat) ({ cls := "LeastSolutions$Lattice", name := "settle", desc := "(I)V" } : Jvm.MethodName)) ∈ lw_all := lw_g (lw_at lw_m3 75 rfl) rfl
theorem q630 : (Jvm.Cond.privateMethod ({ cls := "LeastSolutions$Lattice", name := "settle", desc := "(I)V" } : Jvm.MethodName)) ∈ lw_tbl := lw_at lw_m3 76 rfl
theorem q631 : (Jvm.Cond.instanceMethod ({ cls := "LeastSolutions$Lattice", name := "settle", desc := "(I)V" } : Jvm.MethodName)) ∈ lw_all := lw_g (lw_at lw_m3 77 rfl) rfl
theorem q632 : (Jvm.Cond.code ({ cls := "LeastSolutions$Lattice", name := "settle", desc := "(I)V" } : Jvm.MethodName) prog_4_method_8_code (7 : Nat) (Option.none : Option Jvm.ClassFile.FieldType)) ∈ lw_all := lw_g (lw_at lw_m3 78 rfl) rfl
theorem q633 : (Jvm.Cond.methodLink "LeastSolutions$Lattice" (77 : Nat) ({ cls := "LeastSolutions$Lattice", name := "gather", desc := "(II)Z" } : Jvm.MethodName)) ∈ lw_all := lw_g (lw_at lw_m3 79 rfl) rfl
theorem q634 : (Jvm.Cond.privateMethod ({ cls := "LeastSolutions$Lattice", name := "gather", desc := "(II)Z" } : Jvm.MethodName)) ∈ lw_tbl := lw_at lw_m3 80 rfl
theorem q635 : (Jvm.Cond.instanceMethod ({ cls := "LeastSolutions$Lattice", name := "gather", desc := "(II)Z" } : Jvm.MethodName)) ∈ lw_all := lw_g (lw_at lw_m3 81 rfl) rfl
theorem q636 : (Jvm.Cond.code ({ cls := "LeastSolutions$Lattice", name := "gather", desc := "(II)Z" } : Jvm.MethodName) prog_4_method_6_code (5 : Nat) (Option.some Jvm.ClassFile.FieldType.boolean)) ∈ lw_all := lw_g (lw_at lw_m3 82 rfl) rfl
theorem q637 : (Jvm.Cond.methodLink "LeastSolutions$Lattice" (52 : Nat) ({ cls := "LeastSolutions$Lattice", name := "least", desc := "(II)I" } : Jvm.MethodName)) ∈ lw_all := lw_g (lw_at lw_m3 83 rfl) rfl
theorem q638 : (Jvm.Cond.privateMethod ({ cls := "LeastSolutions$Lattice", name := "least", desc := "(II)I" } : Jvm.MethodName)) ∈ lw_tbl := lw_at lw_m3 84 rfl
theorem q639 : (Jvm.Cond.instanceMethod ({ cls := "LeastSolutions$Lattice", name := "least", desc := "(II)I" } : Jvm.MethodName)) ∈ lw_all := lw_g (lw_at lw_m3 85 rfl) rfl
theorem q640 : (Jvm.Cond.code ({ cls := "LeastSolutions$Lattice", name := "least", desc := "(II)I" } : Jvm.MethodName) prog_4_method_7_code (6 : Nat) (Option.some Jvm.ClassFile.FieldType.int)) ∈ lw_all := lw_g (lw_at lw_m3 86 rfl) rfl
theorem q641 : (Jvm.Cond.methodLink "LeastSolutions$Lattice" (73 : Nat) ({ cls := "java/lang/Math", name := "abs", desc := "(J)J" } : Jvm.MethodName)) ∈ lw_all := lw_g (lw_at lw_m3 87 rfl) rfl
theorem q644 : (Jvm.Cond.methodLink "LeastSolutions$Lattice" (56 : Nat) ({ cls := "LeastSolutions$Lattice", name := "exchange", desc := "(II)V" } : Jvm.MethodName)) ∈ lw_all := lw_g (lw_at lw_m3 90 rfl) rfl
theorem q645 : (Jvm.Cond.privateMethod ({ cls := "LeastSolutions$Lattice", name := "exchange", desc := "(II)V" } : Jvm.MethodName)) ∈ lw_tbl := lw_at lw_m3 91 rfl
theorem q646 : (Jvm.Cond.instanceMethod ({ cls := "LeastSolutions$Lattice", name := "exchange", desc := "(II)V" } : Jvm.MethodName)) ∈ lw_all := lw_g (lw_at lw_m3 92 rfl) rfl
theorem q647 : (Jvm.Cond.code ({ cls := "LeastSolutions$Lattice", name := "exchange", desc := "(II)V" } : Jvm.MethodName) prog_4_method_4_code (4 : Nat) (Option.none : Option Jvm.ClassFile.FieldType)) ∈ lw_all := lw_g (lw_at lw_m3 93 rfl) rfl
theorem q648 : (Jvm.Cond.methodLink "LeastSolutions$Lattice" (60 : Nat) ({ cls := "LeastSolutions$Lattice", name := "turn", desc := "(I)V" } : Jvm.MethodName)) ∈ lw_all := lw_g (lw_at lw_m3 94 rfl) rfl
theorem q649 : (Jvm.Cond.privateMethod ({ cls := "LeastSolutions$Lattice", name := "turn", desc := "(I)V" } : Jvm.MethodName)) ∈ lw_tbl := lw_at lw_m3 95 rfl
theorem q650 : (Jvm.Cond.instanceMethod ({ cls := "LeastSolutions$Lattice", name := "turn", desc := "(I)V" } : Jvm.MethodName)) ∈ lw_all := lw_g (lw_at lw_m3 96 rfl) rfl
theorem q651 : (Jvm.Cond.code ({ cls := "LeastSolutions$Lattice", name := "turn", desc := "(I)V" } : Jvm.MethodName) prog_4_method_5_code (3 : Nat) (Option.none : Option Jvm.ClassFile.FieldType)) ∈ lw_all := lw_g (lw_at lw_m3 97 rfl) rfl
theorem q652 : (Jvm.Cond.methodLink "LeastSolutions$Lattice" (63 : Nat) ({ cls := "java/lang/Math", name := "floorDiv", desc := "(JJ)J" } : Jvm.MethodName)) ∈ lw_all := lw_g (lw_at lw_m3 98 rfl) rfl
theorem q655 : (Jvm.Cond.methodLink "LeastSolutions$Lattice" (69 : Nat) ({ cls := "LeastSolutions$Lattice", name := "add", desc := "(IIJ)V" } : Jvm.MethodName)) ∈ lw_all := lw_g (lw_at lw_m3 101 rfl) rfl
theorem q656 : (Jvm.Cond.privateMethod ({ cls := "LeastSolutions$Lattice", name := "add", desc := "(IIJ)V" } : Jvm.MethodName)) ∈ lw_tbl := lw_at lw_m3 102 rfl
theorem q657 : (Jvm.Cond.instanceMethod ({ cls := "LeastSolutions$Lattice", name := "add", desc := "(IIJ)V" } : Jvm.MethodName)) ∈ lw_all := lw_g (lw_at lw_m3 103 rfl) rfl
theorem q658 : (Jvm.Cond.code ({ cls := "LeastSolutions$Lattice", name := "add", desc := "(IIJ)V" } : Jvm.MethodName) prog_4_method_3_code (6 : Nat) (Option.none : Option Jvm.ClassFile.FieldType)) ∈ lw_all := lw_g (lw_at lw_m3 104 rfl) rfl
theorem q659 : (Jvm.Cond.methodLink "LeastSolutions$Lattice" (49 : Nat) ({ cls := "LeastSolutions$Lattice", name := "lead", desc := "(I)V" } : Jvm.MethodName)) ∈ lw_all := lw_g (lw_at lw_m3 105 rfl) rfl
theorem q660 : (Jvm.Cond.privateMethod ({ cls := "LeastSolutions$Lattice", name := "lead", desc := "(I)V" } : Jvm.MethodName)) ∈ lw_tbl := lw_at lw_m3 106 rfl
theorem q661 : (Jvm.Cond.instanceMethod ({ cls := "LeastSolutions$Lattice", name := "lead", desc := "(I)V" } : Jvm.MethodName)) ∈ lw_all := lw_g (lw_at lw_m3 107 rfl) rfl
theorem q662 : (Jvm.Cond.code ({ cls := "LeastSolutions$Lattice", name := "lead", desc := "(I)V" } : Jvm.MethodName) prog_4_method_9_code (4 : Nat) (Option.none : Option Jvm.ClassFile.FieldType)) ∈ lw_all := lw_g (lw_at lw_m3 108 rfl) rfl
theorem q663 : (Jvm.Cond.methodLink "LeastSolutions$Lattice" (81 : Nat) ({ cls := "LeastSolutions$Lattice", name := "first", desc := "(I)I" } : Jvm.MethodName)) ∈ lw_all := lw_g (lw_at lw_m3 109 rfl) rfl
theorem q664 : (Jvm.Cond.privateMethod ({ cls := "LeastSolutions$Lattice", name := "first", desc := "(I)I" } : Jvm.MethodName)) ∈ lw_tbl := lw_at lw_m3 110 rfl
theorem q665 : (Jvm.Cond.instanceMethod ({ cls := "LeastSolutions$Lattice", name := "first", desc := "(I)I" } : Jvm.MethodName)) ∈ lw_all := lw_g (lw_at lw_m3 111 rfl) rfl
theorem q666 : (Jvm.Cond.code ({ cls := "LeastSolutions$Lattice", name := "first", desc := "(I)I" } : Jvm.MethodName) prog_4_method_10_code (3 : Nat) (Option.some Jvm.ClassFile.FieldType.int)) ∈ lw_all := lw_g (lw_at lw_m3 112 rfl) rfl
theorem q729 : (Jvm.Cond.selects "LeastSolutions$Lattice" ({ cls := "java/lang/Object", name := "getClass", desc := "()Ljava/lang/Class;" } : Jvm.MethodName) ({ cls := "java/lang/Object", name := "getClass", desc := "()Ljava/lang/Class;" } : Jvm.MethodName)) ∈ lw_all := lw_g (lw_at lw_m3 175 rfl) rfl
theorem q907 : (Jvm.Cond.instanceMethod ({ cls := "LeastSolutions$Lattice", name := "dimension", desc := "()I" } : Jvm.MethodName)) ∈ lw_all := lw_g (lw_at lw_m4 113 rfl) rfl
theorem q908 : (Jvm.Cond.selects "LeastSolutions$Lattice" ({ cls := "LeastSolutions$Lattice", name := "dimension", desc := "()I" } : Jvm.MethodName) ({ cls := "LeastSolutions$Lattice", name := "dimension", desc := "()I" } : Jvm.MethodName)) ∈ lw_all := lw_g (lw_at lw_m4 114 rfl) rfl
theorem q909 : (Jvm.Cond.code ({ cls := "LeastSolutions$Lattice", name := "dimension", desc := "()I" } : Jvm.MethodName) prog_4_method_11_code (1 : Nat) (Option.some Jvm.ClassFile.FieldType.int)) ∈ lw_all := lw_g (lw_at lw_m4 115 rfl) rfl
theorem q918 : (Jvm.Cond.instanceMethod ({ cls := "LeastSolutions$Lattice", name := "kernelAt", desc := "(II)J" } : Jvm.MethodName)) ∈ lw_all := lw_g (lw_at lw_m4 124 rfl) rfl
theorem q919 : (Jvm.Cond.selects "LeastSolutions$Lattice" ({ cls := "LeastSolutions$Lattice", name := "kernelAt", desc := "(II)J" } : Jvm.MethodName) ({ cls := "LeastSolutions$Lattice", name := "kernelAt", desc := "(II)J" } : Jvm.MethodName)) ∈ lw_all := lw_g (lw_at lw_m4 125 rfl) rfl
theorem q920 : (Jvm.Cond.code ({ cls := "LeastSolutions$Lattice", name := "kernelAt", desc := "(II)J" } : Jvm.MethodName) prog_4_method_12_code (3 : Nat) (Option.some Jvm.ClassFile.FieldType.long)) ∈ lw_all := lw_g (lw_at lw_m4 126 rfl) rfl
theorem q1714 : (Jvm.Cond.castable "LeastSolutions$Lattice" "java/lang/Object") ∈ lw_tbl := lw_at lw_m7 200 rfl
theorem in_X5 : ∀ w ∈ wsX50, w ∈ lw_all := lw_in wsX50 [323, 325, 327, 329, 331] (by decide +kernel) (by decide +kernel)
