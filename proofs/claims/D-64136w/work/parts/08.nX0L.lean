/-! LeastSolutionsLaw -/
set_option maxRecDepth 100000
def RX0 : String := "LeastSolutionsLaw"
abbrev cX0_number : ByteArray := method_3_code
def yX0_number : MethodName := ⟨RX0, "number", "(LLeastSolutions;II[J)I"⟩
def dkwX0_number_0 : List UInt8 := [45, 3, 42, 27, 28, 182, 0, 7, 133, 80, 167, 0, 7, 58, 4, 4, 172, 3, 172]
abbrev dktX0_number_0 : List UInt8 := dkwX0_number_0 ++ []
theorem dksX0_number_0 : cX0_number.data.toList.drop 0 = dktX0_number_0 := by decide +kernel
theorem dX0_number_0 : decode cX0_number 0 = .ok (.aload_n 3, 1) := dk_45 (dk_at dksX0_number_0 0 rfl rfl)
theorem dX0_number_1 : decode cX0_number 1 = .ok (.iconst 0, 1) := dk_3 (dk_at dksX0_number_0 1 rfl rfl)
theorem dX0_number_2 : decode cX0_number 2 = .ok (.aload_n 0, 1) := dk_42 (dk_at dksX0_number_0 2 rfl rfl)
theorem dX0_number_3 : decode cX0_number 3 = .ok (.iload_n 1, 1) := dk_27 (dk_at dksX0_number_0 3 rfl rfl)
theorem dX0_number_4 : decode cX0_number 4 = .ok (.iload_n 2, 1) := dk_28 (dk_at dksX0_number_0 4 rfl rfl)
theorem dX0_number_5 : decode cX0_number 5 = .ok (.invokevirtual 7, 3) := dk_182 0 7 (dk_at dksX0_number_0 5 rfl rfl)
theorem dX0_number_8 : decode cX0_number 8 = .ok (.i2l, 1) := dk_133 (dk_at dksX0_number_0 8 rfl rfl)
theorem dX0_number_9 : decode cX0_number 9 = .ok (.lastore, 1) := dk_80 (dk_at dksX0_number_0 9 rfl rfl)
theorem dX0_number_10 : decode cX0_number 10 = .ok (.goto 7, 3) := dk_167 0 7 (dk_at dksX0_number_0 10 rfl rfl)
theorem dX0_number_13 : decode cX0_number 13 = .ok (.astore 4, 2) := dk_58 4 (dk_at dksX0_number_0 13 rfl rfl)
theorem dX0_number_15 : decode cX0_number 15 = .ok (.iconst 1, 1) := dk_4 (dk_at dksX0_number_0 15 rfl rfl)
theorem dX0_number_16 : decode cX0_number 16 = .ok (.ireturn, 1) := dk_172 (dk_at dksX0_number_0 16 rfl rfl)
theorem dX0_number_17 : decode cX0_number 17 = .ok (.iconst 0, 1) := dk_3 (dk_at dksX0_number_0 17 rfl rfl)
theorem dX0_number_18 : decode cX0_number 18 = .ok (.ireturn, 1) := dk_172 (dk_at dksX0_number_0 18 rfl rfl)
abbrev cX0_solvable : ByteArray := method_4_code
def yX0_solvable : MethodName := ⟨RX0, "solvable", "(LLeastSolutions;[J)I"⟩
def dkwX0_solvable_0 : List UInt8 := [43, 3, 42, 182, 0, 15, 133, 80, 167, 0, 6, 77, 4, 172, 3, 172]
abbrev dktX0_solvable_0 : List UInt8 := dkwX0_solvable_0 ++ []
theorem dksX0_solvable_0 : cX0_solvable.data.toList.drop 0 = dktX0_solvable_0 := by decide +kernel
theorem dX0_solvable_0 : decode cX0_solvable 0 = .ok (.aload_n 1, 1) := dk_43 (dk_at dksX0_solvable_0 0 rfl rfl)
theorem dX0_solvable_1 : decode cX0_solvable 1 = .ok (.iconst 0, 1) := dk_3 (dk_at dksX0_solvable_0 1 rfl rfl)
theorem dX0_solvable_2 : decode cX0_solvable 2 = .ok (.aload_n 0, 1) := dk_42 (dk_at dksX0_solvable_0 2 rfl rfl)
theorem dX0_solvable_3 : decode cX0_solvable 3 = .ok (.invokevirtual 15, 3) := dk_182 0 15 (dk_at dksX0_solvable_0 3 rfl rfl)
theorem dX0_solvable_6 : decode cX0_solvable 6 = .ok (.i2l, 1) := dk_133 (dk_at dksX0_solvable_0 6 rfl rfl)
theorem dX0_solvable_7 : decode cX0_solvable 7 = .ok (.lastore, 1) := dk_80 (dk_at dksX0_solvable_0 7 rfl rfl)
theorem dX0_solvable_8 : decode cX0_solvable 8 = .ok (.goto 6, 3) := dk_167 0 6 (dk_at dksX0_solvable_0 8 rfl rfl)
theorem dX0_solvable_11 : decode cX0_solvable 11 = .ok (.astore_n 2, 1) := dk_77 (dk_at dksX0_solvable_0 11 rfl rfl)
theorem dX0_solvable_12 : decode cX0_solvable 12 = .ok (.iconst 1, 1) := dk_4 (dk_at dksX0_solvable_0 12 rfl rfl)
theorem dX0_solvable_13 : decode cX0_solvable 13 = .ok (.ireturn, 1) := dk_172 (dk_at dksX0_solvable_0 13 rfl rfl)
theorem dX0_solvable_14 : decode cX0_solvable 14 = .ok (.iconst 0, 1) := dk_3 (dk_at dksX0_solvable_0 14 rfl rfl)
theorem dX0_solvable_15 : decode cX0_solvable 15 = .ok (.ireturn, 1) := dk_172 (dk_at dksX0_solvable_0 15 rfl rfl)
abbrev cX0_kernel : ByteArray := method_5_code
def yX0_kernel : MethodName := ⟨RX0, "kernel", "(LLeastSolutions;[J)I"⟩
def dkwX0_kernel_0 : List UInt8 := [43, 3, 42, 182, 0, 21, 133, 80, 167, 0, 6, 77, 4, 172, 3, 172]
abbrev dktX0_kernel_0 : List UInt8 := dkwX0_kernel_0 ++ []
theorem dksX0_kernel_0 : cX0_kernel.data.toList.drop 0 = dktX0_kernel_0 := by decide +kernel
theorem dX0_kernel_0 : decode cX0_kernel 0 = .ok (.aload_n 1, 1) := dk_43 (dk_at dksX0_kernel_0 0 rfl rfl)
theorem dX0_kernel_1 : decode cX0_kernel 1 = .ok (.iconst 0, 1) := dk_3 (dk_at dksX0_kernel_0 1 rfl rfl)
theorem dX0_kernel_2 : decode cX0_kernel 2 = .ok (.aload_n 0, 1) := dk_42 (dk_at dksX0_kernel_0 2 rfl rfl)
theorem dX0_kernel_3 : decode cX0_kernel 3 = .ok (.invokevirtual 21, 3) := dk_182 0 21 (dk_at dksX0_kernel_0 3 rfl rfl)
theorem dX0_kernel_6 : decode cX0_kernel 6 = .ok (.i2l, 1) := dk_133 (dk_at dksX0_kernel_0 6 rfl rfl)
theorem dX0_kernel_7 : decode cX0_kernel 7 = .ok (.lastore, 1) := dk_80 (dk_at dksX0_kernel_0 7 rfl rfl)
theorem dX0_kernel_8 : decode cX0_kernel 8 = .ok (.goto 6, 3) := dk_167 0 6 (dk_at dksX0_kernel_0 8 rfl rfl)
theorem dX0_kernel_11 : decode cX0_kernel 11 = .ok (.astore_n 2, 1) := dk_77 (dk_at dksX0_kernel_0 11 rfl rfl)
theorem dX0_kernel_12 : decode cX0_kernel 12 = .ok (.iconst 1, 1) := dk_4 (dk_at dksX0_kernel_0 12 rfl rfl)
theorem dX0_kernel_13 : decode cX0_kernel 13 = .ok (.ireturn, 1) := dk_172 (dk_at dksX0_kernel_0 13 rfl rfl)
theorem dX0_kernel_14 : decode cX0_kernel 14 = .ok (.iconst 0, 1) := dk_3 (dk_at dksX0_kernel_0 14 rfl rfl)
theorem dX0_kernel_15 : decode cX0_kernel 15 = .ok (.ireturn, 1) := dk_172 (dk_at dksX0_kernel_0 15 rfl rfl)
abbrev cX0_kernelAt : ByteArray := method_6_code
def yX0_kernelAt : MethodName := ⟨RX0, "kernelAt", "(LLeastSolutions;II[J)I"⟩
def dkwX0_kernelAt_0 : List UInt8 := [45, 3, 42, 27, 28, 182, 0, 24, 80, 167, 0, 7, 58, 4, 4, 172, 3, 172]
abbrev dktX0_kernelAt_0 : List UInt8 := dkwX0_kernelAt_0 ++ []
theorem dksX0_kernelAt_0 : cX0_kernelAt.data.toList.drop 0 = dktX0_kernelAt_0 := by decide +kernel
theorem dX0_kernelAt_0 : decode cX0_kernelAt 0 = .ok (.aload_n 3, 1) := dk_45 (dk_at dksX0_kernelAt_0 0 rfl rfl)
theorem dX0_kernelAt_1 : decode cX0_kernelAt 1 = .ok (.iconst 0, 1) := dk_3 (dk_at dksX0_kernelAt_0 1 rfl rfl)
theorem dX0_kernelAt_2 : decode cX0_kernelAt 2 = .ok (.aload_n 0, 1) := dk_42 (dk_at dksX0_kernelAt_0 2 rfl rfl)
theorem dX0_kernelAt_3 : decode cX0_kernelAt 3 = .ok (.iload_n 1, 1) := dk_27 (dk_at dksX0_kernelAt_0 3 rfl rfl)
theorem dX0_kernelAt_4 : decode cX0_kernelAt 4 = .ok (.iload_n 2, 1) := dk_28 (dk_at dksX0_kernelAt_0 4 rfl rfl)
theorem dX0_kernelAt_5 : decode cX0_kernelAt 5 = .ok (.invokevirtual 24, 3) := dk_182 0 24 (dk_at dksX0_kernelAt_0 5 rfl rfl)
theorem dX0_kernelAt_8 : decode cX0_kernelAt 8 = .ok (.lastore, 1) := dk_80 (dk_at dksX0_kernelAt_0 8 rfl rfl)
theorem dX0_kernelAt_9 : decode cX0_kernelAt 9 = .ok (.goto 7, 3) := dk_167 0 7 (dk_at dksX0_kernelAt_0 9 rfl rfl)
theorem dX0_kernelAt_12 : decode cX0_kernelAt 12 = .ok (.astore 4, 2) := dk_58 4 (dk_at dksX0_kernelAt_0 12 rfl rfl)
theorem dX0_kernelAt_14 : decode cX0_kernelAt 14 = .ok (.iconst 1, 1) := dk_4 (dk_at dksX0_kernelAt_0 14 rfl rfl)
theorem dX0_kernelAt_15 : decode cX0_kernelAt 15 = .ok (.ireturn, 1) := dk_172 (dk_at dksX0_kernelAt_0 15 rfl rfl)
theorem dX0_kernelAt_16 : decode cX0_kernelAt 16 = .ok (.iconst 0, 1) := dk_3 (dk_at dksX0_kernelAt_0 16 rfl rfl)
theorem dX0_kernelAt_17 : decode cX0_kernelAt 17 = .ok (.ireturn, 1) := dk_172 (dk_at dksX0_kernelAt_0 17 rfl rfl)
abbrev cX0_work : ByteArray := method_7_code
def yX0_work : MethodName := ⟨RX0, "work", "(LLeastSolutions;II[J)I"⟩
def dkwX0_work_0 : List UInt8 := [45, 3, 42, 27, 28, 182, 0, 28, 133, 80, 167, 0, 11, 58, 4, 4, 172, 58, 4, 5, 172, 3, 172]
abbrev dktX0_work_0 : List UInt8 := dkwX0_work_0 ++ []
theorem dksX0_work_0 : cX0_work.data.toList.drop 0 = dktX0_work_0 := by decide +kernel
theorem dX0_work_0 : decode cX0_work 0 = .ok (.aload_n 3, 1) := dk_45 (dk_at dksX0_work_0 0 rfl rfl)
theorem dX0_work_1 : decode cX0_work 1 = .ok (.iconst 0, 1) := dk_3 (dk_at dksX0_work_0 1 rfl rfl)
theorem dX0_work_2 : decode cX0_work 2 = .ok (.aload_n 0, 1) := dk_42 (dk_at dksX0_work_0 2 rfl rfl)
theorem dX0_work_3 : decode cX0_work 3 = .ok (.iload_n 1, 1) := dk_27 (dk_at dksX0_work_0 3 rfl rfl)
theorem dX0_work_4 : decode cX0_work 4 = .ok (.iload_n 2, 1) := dk_28 (dk_at dksX0_work_0 4 rfl rfl)
theorem dX0_work_5 : decode cX0_work 5 = .ok (.invokevirtual 28, 3) := dk_182 0 28 (dk_at dksX0_work_0 5 rfl rfl)
theorem dX0_work_8 : decode cX0_work 8 = .ok (.i2l, 1) := dk_133 (dk_at dksX0_work_0 8 rfl rfl)
theorem dX0_work_9 : decode cX0_work 9 = .ok (.lastore, 1) := dk_80 (dk_at dksX0_work_0 9 rfl rfl)
theorem dX0_work_10 : decode cX0_work 10 = .ok (.goto 11, 3) := dk_167 0 11 (dk_at dksX0_work_0 10 rfl rfl)
theorem dX0_work_13 : decode cX0_work 13 = .ok (.astore 4, 2) := dk_58 4 (dk_at dksX0_work_0 13 rfl rfl)
theorem dX0_work_15 : decode cX0_work 15 = .ok (.iconst 1, 1) := dk_4 (dk_at dksX0_work_0 15 rfl rfl)
theorem dX0_work_16 : decode cX0_work 16 = .ok (.ireturn, 1) := dk_172 (dk_at dksX0_work_0 16 rfl rfl)
theorem dX0_work_17 : decode cX0_work 17 = .ok (.astore 4, 2) := dk_58 4 (dk_at dksX0_work_0 17 rfl rfl)
theorem dX0_work_19 : decode cX0_work 19 = .ok (.iconst 2, 1) := dk_5 (dk_at dksX0_work_0 19 rfl rfl)
theorem dX0_work_20 : decode cX0_work 20 = .ok (.ireturn, 1) := dk_172 (dk_at dksX0_work_0 20 rfl rfl)
theorem dX0_work_21 : decode cX0_work 21 = .ok (.iconst 0, 1) := dk_3 (dk_at dksX0_work_0 21 rfl rfl)
theorem dX0_work_22 : decode cX0_work 22 = .ok (.ireturn, 1) := dk_172 (dk_at dksX0_work_0 22 rfl rfl)
abbrev cX0_at : ByteArray := method_8_code
def yX0_at : MethodName := ⟨RX0, "at", "(LLeastSolutions;III[J)I"⟩
def dkwX0_at_0 : List UInt8 := [25, 4, 3, 42, 27, 28, 29, 182, 0, 33, 133, 80, 167, 0, 7, 58, 5, 4, 172, 3, 172]
abbrev dktX0_at_0 : List UInt8 := dkwX0_at_0 ++ []
theorem dksX0_at_0 : cX0_at.data.toList.drop 0 = dktX0_at_0 := by decide +kernel
theorem dX0_at_0 : decode cX0_at 0 = .ok (.aload 4, 2) := dk_25 4 (dk_at dksX0_at_0 0 rfl rfl)
theorem dX0_at_2 : decode cX0_at 2 = .ok (.iconst 0, 1) := dk_3 (dk_at dksX0_at_0 2 rfl rfl)
theorem dX0_at_3 : decode cX0_at 3 = .ok (.aload_n 0, 1) := dk_42 (dk_at dksX0_at_0 3 rfl rfl)
theorem dX0_at_4 : decode cX0_at 4 = .ok (.iload_n 1, 1) := dk_27 (dk_at dksX0_at_0 4 rfl rfl)
theorem dX0_at_5 : decode cX0_at 5 = .ok (.iload_n 2, 1) := dk_28 (dk_at dksX0_at_0 5 rfl rfl)
theorem dX0_at_6 : decode cX0_at 6 = .ok (.iload_n 3, 1) := dk_29 (dk_at dksX0_at_0 6 rfl rfl)
theorem dX0_at_7 : decode cX0_at 7 = .ok (.invokevirtual 33, 3) := dk_182 0 33 (dk_at dksX0_at_0 7 rfl rfl)
theorem dX0_at_10 : decode cX0_at 10 = .ok (.i2l, 1) := dk_133 (dk_at dksX0_at_0 10 rfl rfl)
theorem dX0_at_11 : decode cX0_at 11 = .ok (.lastore, 1) := dk_80 (dk_at dksX0_at_0 11 rfl rfl)
theorem dX0_at_12 : decode cX0_at 12 = .ok (.goto 7, 3) := dk_167 0 7 (dk_at dksX0_at_0 12 rfl rfl)
theorem dX0_at_15 : decode cX0_at 15 = .ok (.astore 5, 2) := dk_58 5 (dk_at dksX0_at_0 15 rfl rfl)
theorem dX0_at_17 : decode cX0_at 17 = .ok (.iconst 1, 1) := dk_4 (dk_at dksX0_at_0 17 rfl rfl)
theorem dX0_at_18 : decode cX0_at 18 = .ok (.ireturn, 1) := dk_172 (dk_at dksX0_at_0 18 rfl rfl)
theorem dX0_at_19 : decode cX0_at 19 = .ok (.iconst 0, 1) := dk_3 (dk_at dksX0_at_0 19 rfl rfl)
theorem dX0_at_20 : decode cX0_at 20 = .ok (.ireturn, 1) := dk_172 (dk_at dksX0_at_0 20 rfl rfl)
abbrev cX0_tell : ByteArray := method_9_code
def yX0_tell : MethodName := ⟨RX0, "tell", "(LLeastSolutions;II)I"⟩
def dkwX0_tell_0 : List UInt8 := [42, 27, 28, 182, 0, 37, 167, 0, 9, 78, 4, 172, 78, 5, 172, 3, 172]
abbrev dktX0_tell_0 : List UInt8 := dkwX0_tell_0 ++ []
theorem dksX0_tell_0 : cX0_tell.data.toList.drop 0 = dktX0_tell_0 := by decide +kernel
theorem dX0_tell_0 : decode cX0_tell 0 = .ok (.aload_n 0, 1) := dk_42 (dk_at dksX0_tell_0 0 rfl rfl)
theorem dX0_tell_1 : decode cX0_tell 1 = .ok (.iload_n 1, 1) := dk_27 (dk_at dksX0_tell_0 1 rfl rfl)
theorem dX0_tell_2 : decode cX0_tell 2 = .ok (.iload_n 2, 1) := dk_28 (dk_at dksX0_tell_0 2 rfl rfl)
theorem dX0_tell_3 : decode cX0_tell 3 = .ok (.invokevirtual 37, 3) := dk_182 0 37 (dk_at dksX0_tell_0 3 rfl rfl)
theorem dX0_tell_6 : decode cX0_tell 6 = .ok (.goto 9, 3) := dk_167 0 9 (dk_at dksX0_tell_0 6 rfl rfl)
theorem dX0_tell_9 : decode cX0_tell 9 = .ok (.astore_n 3, 1) := dk_78 (dk_at dksX0_tell_0 9 rfl rfl)
theorem dX0_tell_10 : decode cX0_tell 10 = .ok (.iconst 1, 1) := dk_4 (dk_at dksX0_tell_0 10 rfl rfl)
theorem dX0_tell_11 : decode cX0_tell 11 = .ok (.ireturn, 1) := dk_172 (dk_at dksX0_tell_0 11 rfl rfl)
theorem dX0_tell_12 : decode cX0_tell 12 = .ok (.astore_n 3, 1) := dk_78 (dk_at dksX0_tell_0 12 rfl rfl)
theorem dX0_tell_13 : decode cX0_tell 13 = .ok (.iconst 2, 1) := dk_5 (dk_at dksX0_tell_0 13 rfl rfl)
theorem dX0_tell_14 : decode cX0_tell 14 = .ok (.ireturn, 1) := dk_172 (dk_at dksX0_tell_0 14 rfl rfl)
theorem dX0_tell_15 : decode cX0_tell 15 = .ok (.iconst 0, 1) := dk_3 (dk_at dksX0_tell_0 15 rfl rfl)
theorem dX0_tell_16 : decode cX0_tell 16 = .ok (.ireturn, 1) := dk_172 (dk_at dksX0_tell_0 16 rfl rfl)
abbrev cX0_holds : ByteArray := method_10_code
def yX0_holds : MethodName := ⟨RX0, "holds", "(LLeastSolutions;[J)I"⟩
def dkwX0_holds_0 : List UInt8 := [43, 3, 42, 182, 0, 41, 133, 80, 167, 0, 6, 77, 4, 172, 3, 172]
abbrev dktX0_holds_0 : List UInt8 := dkwX0_holds_0 ++ []
theorem dksX0_holds_0 : cX0_holds.data.toList.drop 0 = dktX0_holds_0 := by decide +kernel
theorem dX0_holds_0 : decode cX0_holds 0 = .ok (.aload_n 1, 1) := dk_43 (dk_at dksX0_holds_0 0 rfl rfl)
theorem dX0_holds_1 : decode cX0_holds 1 = .ok (.iconst 0, 1) := dk_3 (dk_at dksX0_holds_0 1 rfl rfl)
theorem dX0_holds_2 : decode cX0_holds 2 = .ok (.aload_n 0, 1) := dk_42 (dk_at dksX0_holds_0 2 rfl rfl)
theorem dX0_holds_3 : decode cX0_holds 3 = .ok (.invokevirtual 41, 3) := dk_182 0 41 (dk_at dksX0_holds_0 3 rfl rfl)
theorem dX0_holds_6 : decode cX0_holds 6 = .ok (.i2l, 1) := dk_133 (dk_at dksX0_holds_0 6 rfl rfl)
theorem dX0_holds_7 : decode cX0_holds 7 = .ok (.lastore, 1) := dk_80 (dk_at dksX0_holds_0 7 rfl rfl)
theorem dX0_holds_8 : decode cX0_holds 8 = .ok (.goto 6, 3) := dk_167 0 6 (dk_at dksX0_holds_0 8 rfl rfl)
theorem dX0_holds_11 : decode cX0_holds 11 = .ok (.astore_n 2, 1) := dk_77 (dk_at dksX0_holds_0 11 rfl rfl)
theorem dX0_holds_12 : decode cX0_holds 12 = .ok (.iconst 1, 1) := dk_4 (dk_at dksX0_holds_0 12 rfl rfl)
theorem dX0_holds_13 : decode cX0_holds 13 = .ok (.ireturn, 1) := dk_172 (dk_at dksX0_holds_0 13 rfl rfl)
theorem dX0_holds_14 : decode cX0_holds 14 = .ok (.iconst 0, 1) := dk_3 (dk_at dksX0_holds_0 14 rfl rfl)
theorem dX0_holds_15 : decode cX0_holds 15 = .ok (.ireturn, 1) := dk_172 (dk_at dksX0_holds_0 15 rfl rfl)
abbrev cX0_cost : ByteArray := method_11_code
def yX0_cost : MethodName := ⟨RX0, "cost", "(LLeastSolutions;II)I"⟩
def dkwX0_cost_0 : List UInt8 := [42, 27, 28, 182, 0, 44, 167, 0, 9, 78, 4, 172, 78, 5, 172, 3, 172]
abbrev dktX0_cost_0 : List UInt8 := dkwX0_cost_0 ++ []
theorem dksX0_cost_0 : cX0_cost.data.toList.drop 0 = dktX0_cost_0 := by decide +kernel
theorem dX0_cost_0 : decode cX0_cost 0 = .ok (.aload_n 0, 1) := dk_42 (dk_at dksX0_cost_0 0 rfl rfl)
theorem dX0_cost_1 : decode cX0_cost 1 = .ok (.iload_n 1, 1) := dk_27 (dk_at dksX0_cost_0 1 rfl rfl)
theorem dX0_cost_2 : decode cX0_cost 2 = .ok (.iload_n 2, 1) := dk_28 (dk_at dksX0_cost_0 2 rfl rfl)
theorem dX0_cost_3 : decode cX0_cost 3 = .ok (.invokevirtual 44, 3) := dk_182 0 44 (dk_at dksX0_cost_0 3 rfl rfl)
theorem dX0_cost_6 : decode cX0_cost 6 = .ok (.goto 9, 3) := dk_167 0 9 (dk_at dksX0_cost_0 6 rfl rfl)
theorem dX0_cost_9 : decode cX0_cost 9 = .ok (.astore_n 3, 1) := dk_78 (dk_at dksX0_cost_0 9 rfl rfl)
theorem dX0_cost_10 : decode cX0_cost 10 = .ok (.iconst 1, 1) := dk_4 (dk_at dksX0_cost_0 10 rfl rfl)
theorem dX0_cost_11 : decode cX0_cost 11 = .ok (.ireturn, 1) := dk_172 (dk_at dksX0_cost_0 11 rfl rfl)
theorem dX0_cost_12 : decode cX0_cost 12 = .ok (.astore_n 3, 1) := dk_78 (dk_at dksX0_cost_0 12 rfl rfl)
theorem dX0_cost_13 : decode cX0_cost 13 = .ok (.iconst 2, 1) := dk_5 (dk_at dksX0_cost_0 13 rfl rfl)
theorem dX0_cost_14 : decode cX0_cost 14 = .ok (.ireturn, 1) := dk_172 (dk_at dksX0_cost_0 14 rfl rfl)
theorem dX0_cost_15 : decode cX0_cost 15 = .ok (.iconst 0, 1) := dk_3 (dk_at dksX0_cost_0 15 rfl rfl)
theorem dX0_cost_16 : decode cX0_cost 16 = .ok (.ireturn, 1) := dk_172 (dk_at dksX0_cost_0 16 rfl rfl)
abbrev cX0_best : ByteArray := method_12_code
def yX0_best : MethodName := ⟨RX0, "best", "(LLeastSolutions;I[J)I"⟩
def dkwX0_best_0 : List UInt8 := [44, 3, 42, 27, 182, 0, 47, 133, 80, 167, 0, 12, 78, 4, 172, 78, 5, 172, 78, 6, 172, 3, 172]
abbrev dktX0_best_0 : List UInt8 := dkwX0_best_0 ++ []
theorem dksX0_best_0 : cX0_best.data.toList.drop 0 = dktX0_best_0 := by decide +kernel
theorem dX0_best_0 : decode cX0_best 0 = .ok (.aload_n 2, 1) := dk_44 (dk_at dksX0_best_0 0 rfl rfl)
theorem dX0_best_1 : decode cX0_best 1 = .ok (.iconst 0, 1) := dk_3 (dk_at dksX0_best_0 1 rfl rfl)
theorem dX0_best_2 : decode cX0_best 2 = .ok (.aload_n 0, 1) := dk_42 (dk_at dksX0_best_0 2 rfl rfl)
theorem dX0_best_3 : decode cX0_best 3 = .ok (.iload_n 1, 1) := dk_27 (dk_at dksX0_best_0 3 rfl rfl)
theorem dX0_best_4 : decode cX0_best 4 = .ok (.invokevirtual 47, 3) := dk_182 0 47 (dk_at dksX0_best_0 4 rfl rfl)
theorem dX0_best_7 : decode cX0_best 7 = .ok (.i2l, 1) := dk_133 (dk_at dksX0_best_0 7 rfl rfl)
theorem dX0_best_8 : decode cX0_best 8 = .ok (.lastore, 1) := dk_80 (dk_at dksX0_best_0 8 rfl rfl)
theorem dX0_best_9 : decode cX0_best 9 = .ok (.goto 12, 3) := dk_167 0 12 (dk_at dksX0_best_0 9 rfl rfl)
theorem dX0_best_12 : decode cX0_best 12 = .ok (.astore_n 3, 1) := dk_78 (dk_at dksX0_best_0 12 rfl rfl)
theorem dX0_best_13 : decode cX0_best 13 = .ok (.iconst 1, 1) := dk_4 (dk_at dksX0_best_0 13 rfl rfl)
theorem dX0_best_14 : decode cX0_best 14 = .ok (.ireturn, 1) := dk_172 (dk_at dksX0_best_0 14 rfl rfl)
theorem dX0_best_15 : decode cX0_best 15 = .ok (.astore_n 3, 1) := dk_78 (dk_at dksX0_best_0 15 rfl rfl)
theorem dX0_best_16 : decode cX0_best 16 = .ok (.iconst 2, 1) := dk_5 (dk_at dksX0_best_0 16 rfl rfl)
theorem dX0_best_17 : decode cX0_best 17 = .ok (.ireturn, 1) := dk_172 (dk_at dksX0_best_0 17 rfl rfl)
theorem dX0_best_18 : decode cX0_best 18 = .ok (.astore_n 3, 1) := dk_78 (dk_at dksX0_best_0 18 rfl rfl)
theorem dX0_best_19 : decode cX0_best 19 = .ok (.iconst 3, 1) := dk_6 (dk_at dksX0_best_0 19 rfl rfl)
theorem dX0_best_20 : decode cX0_best 20 = .ok (.ireturn, 1) := dk_172 (dk_at dksX0_best_0 20 rfl rfl)
theorem dX0_best_21 : decode cX0_best 21 = .ok (.iconst 0, 1) := dk_3 (dk_at dksX0_best_0 21 rfl rfl)
theorem dX0_best_22 : decode cX0_best 22 = .ok (.ireturn, 1) := dk_172 (dk_at dksX0_best_0 22 rfl rfl)
theorem q74 : (Jvm.Cond.initialized "LeastSolutionsLaw") ∈ lw_all := lw_g (lw_at lw_m1 0 rfl) rfl
theorem q112 : (Jvm.Cond.classLink "LeastSolutionsLaw" (8 : Nat) "LeastSolutions") ∈ lw_all := lw_g (lw_at lw_m1 38 rfl) rfl
theorem q114 : (Jvm.Cond.methodLink "LeastSolutionsLaw" (53 : Nat) ({ cls := "LeastSolutions", name := "<init>", desc := "()V" } : Jvm.MethodName)) ∈ lw_all := lw_g (lw_at lw_m1 40 rfl) rfl
theorem q512 : (Jvm.Cond.methodLink "LeastSolutionsLaw" (59 : Nat) ({ cls := "LeastSolutions", name := "type", desc := "(JI)I" } : Jvm.MethodName)) ∈ lw_all := lw_g (lw_at lw_m2 198 rfl) rfl
theorem q519 : (Jvm.Cond.methodLink "LeastSolutionsLaw" (64 : Nat) ({ cls := "LeastSolutions", name := "read", desc := "()I" } : Jvm.MethodName)) ∈ lw_all := lw_g (lw_at lw_m2 205 rfl) rfl
theorem q765 : (Jvm.Cond.methodLink "LeastSolutionsLaw" (68 : Nat) ({ cls := "LeastSolutions", name := "place", desc := "()I" } : Jvm.MethodName)) ∈ lw_all := lw_g (lw_at lw_m3 211 rfl) rfl
theorem q769 : (Jvm.Cond.methodLink "LeastSolutionsLaw" (72 : Nat) ({ cls := "LeastSolutions", name := "count", desc := "(I)I" } : Jvm.MethodName)) ∈ lw_all := lw_g (lw_at lw_m3 215 rfl) rfl
theorem q773 : (Jvm.Cond.methodLink "LeastSolutionsLaw" (76 : Nat) ({ cls := "LeastSolutions", name := "letter", desc := "(I)I" } : Jvm.MethodName)) ∈ lw_all := lw_g (lw_at lw_m3 219 rfl) rfl
theorem q777 : (Jvm.Cond.methodLink "LeastSolutionsLaw" (113 : Nat) ({ cls := "LeastSolutions", name := "split", desc := "()I" } : Jvm.MethodName)) ∈ lw_all := lw_g (lw_at lw_m3 223 rfl) rfl
theorem q825 : (Jvm.Cond.methodLink "LeastSolutionsLaw" (117 : Nat) ({ cls := "LeastSolutions", name := "times", desc := "(I)I" } : Jvm.MethodName)) ∈ lw_all := lw_g (lw_at lw_m4 31 rfl) rfl
theorem q829 : (Jvm.Cond.methodLink "LeastSolutionsLaw" (128 : Nat) ({ cls := "LeastSolutions", name := "bestAt", desc := "(I)I" } : Jvm.MethodName)) ∈ lw_all := lw_g (lw_at lw_m4 35 rfl) rfl
theorem q837 : (Jvm.Cond.methodLink "LeastSolutionsLaw" (80 : Nat) ({ cls := "LeastSolutionsLaw", name := "number", desc := "(LLeastSolutions;II[J)I" } : Jvm.MethodName)) ∈ lw_all := lw_g (lw_at lw_m4 43 rfl) rfl
theorem q838 : (Jvm.Cond.static ({ cls := "LeastSolutionsLaw", name := "number", desc := "(LLeastSolutions;II[J)I" } : Jvm.MethodName)) ∈ lw_all := lw_g (lw_at lw_m4 44 rfl) rfl
theorem q839 : (Jvm.Cond.codeWith ({ cls := "LeastSolutionsLaw", name := "number", desc := "(LLeastSolutions;II[J)I" } : Jvm.MethodName) method_3_code (5 : Nat) (Option.some Jvm.ClassFile.FieldType.int) [((0 : Nat), (10 : Nat), (13 : Nat), (13 : Nat))]) ∈ lw_all := lw_g (lw_at lw_m4 45 rfl) rfl
theorem q840 : (Jvm.Cond.classLink "LeastSolutionsLaw" (13 : Nat) "java/lang/IndexOutOfBoundsException") ∈ lw_all := lw_g (lw_at lw_m4 46 rfl) rfl
theorem q872 : (Jvm.Cond.methodLink "LeastSolutionsLaw" (7 : Nat) ({ cls := "LeastSolutions", name := "number", desc := "(II)I" } : Jvm.MethodName)) ∈ lw_all := lw_g (lw_at lw_m4 78 rfl) rfl
theorem q891 : (Jvm.Cond.methodLink "LeastSolutionsLaw" (89 : Nat) ({ cls := "LeastSolutionsLaw", name := "solvable", desc := "(LLeastSolutions;[J)I" } : Jvm.MethodName)) ∈ lw_all := lw_g (lw_at lw_m4 97 rfl) rfl
theorem q892 : (Jvm.Cond.static ({ cls := "LeastSolutionsLaw", name := "solvable", desc := "(LLeastSolutions;[J)I" } : Jvm.MethodName)) ∈ lw_all := lw_g (lw_at lw_m4 98 rfl) rfl
theorem q893 : (Jvm.Cond.codeWith ({ cls := "LeastSolutionsLaw", name := "solvable", desc := "(LLeastSolutions;[J)I" } : Jvm.MethodName) method_4_code (3 : Nat) (Option.some Jvm.ClassFile.FieldType.int) [((0 : Nat), (8 : Nat), (11 : Nat), (19 : Nat))]) ∈ lw_all := lw_g (lw_at lw_m4 99 rfl) rfl
theorem q894 : (Jvm.Cond.classLink "LeastSolutionsLaw" (19 : Nat) "java/lang/IllegalStateException") ∈ lw_all := lw_g (lw_at lw_m4 100 rfl) rfl
theorem q895 : (Jvm.Cond.methodLink "LeastSolutionsLaw" (15 : Nat) ({ cls := "LeastSolutions", name := "solvable", desc := "()I" } : Jvm.MethodName)) ∈ lw_all := lw_g (lw_at lw_m4 101 rfl) rfl
theorem q899 : (Jvm.Cond.methodLink "LeastSolutionsLaw" (93 : Nat) ({ cls := "LeastSolutionsLaw", name := "kernel", desc := "(LLeastSolutions;[J)I" } : Jvm.MethodName)) ∈ lw_all := lw_g (lw_at lw_m4 105 rfl) rfl
theorem q900 : (Jvm.Cond.static ({ cls := "LeastSolutionsLaw", name := "kernel", desc := "(LLeastSolutions;[J)I" } : Jvm.MethodName)) ∈ lw_all := lw_g (lw_at lw_m4 106 rfl) rfl
theorem q901 : (Jvm.Cond.codeWith ({ cls := "LeastSolutionsLaw", name := "kernel", desc := "(LLeastSolutions;[J)I" } : Jvm.MethodName) method_5_code (3 : Nat) (Option.some Jvm.ClassFile.FieldType.int) [((0 : Nat), (8 : Nat), (11 : Nat), (19 : Nat))]) ∈ lw_all := lw_g (lw_at lw_m4 107 rfl) rfl
theorem q902 : (Jvm.Cond.methodLink "LeastSolutionsLaw" (21 : Nat) ({ cls := "LeastSolutions", name := "kernel", desc := "()I" } : Jvm.MethodName)) ∈ lw_all := lw_g (lw_at lw_m4 108 rfl) rfl
theorem q910 : (Jvm.Cond.methodLink "LeastSolutionsLaw" (96 : Nat) ({ cls := "LeastSolutionsLaw", name := "kernelAt", desc := "(LLeastSolutions;II[J)I" } : Jvm.MethodName)) ∈ lw_all := lw_g (lw_at lw_m4 116 rfl) rfl
theorem q911 : (Jvm.Cond.static ({ cls := "LeastSolutionsLaw", name := "kernelAt", desc := "(LLeastSolutions;II[J)I" } : Jvm.MethodName)) ∈ lw_all := lw_g (lw_at lw_m4 117 rfl) rfl
theorem q912 : (Jvm.Cond.codeWith ({ cls := "LeastSolutionsLaw", name := "kernelAt", desc := "(LLeastSolutions;II[J)I" } : Jvm.MethodName) method_6_code (5 : Nat) (Option.some Jvm.ClassFile.FieldType.int) [((0 : Nat), (9 : Nat), (12 : Nat), (13 : Nat))]) ∈ lw_all := lw_g (lw_at lw_m4 118 rfl) rfl
theorem q913 : (Jvm.Cond.methodLink "LeastSolutionsLaw" (24 : Nat) ({ cls := "LeastSolutions", name := "kernelAt", desc := "(II)J" } : Jvm.MethodName)) ∈ lw_all := lw_g (lw_at lw_m4 119 rfl) rfl
theorem q921 : (Jvm.Cond.methodLink "LeastSolutionsLaw" (99 : Nat) ({ cls := "LeastSolutionsLaw", name := "work", desc := "(LLeastSolutions;II[J)I" } : Jvm.MethodName)) ∈ lw_all := lw_g (lw_at lw_m4 127 rfl) rfl
theorem q922 : (Jvm.Cond.static ({ cls := "LeastSolutionsLaw", name := "work", desc := "(LLeastSolutions;II[J)I" } : Jvm.MethodName)) ∈ lw_all := lw_g (lw_at lw_m4 128 rfl) rfl
theorem q923 : (Jvm.Cond.codeWith ({ cls := "LeastSolutionsLaw", name := "work", desc := "(LLeastSolutions;II[J)I" } : Jvm.MethodName) method_7_code (5 : Nat) (Option.some Jvm.ClassFile.FieldType.int) [((0 : Nat), (10 : Nat), (13 : Nat), (31 : Nat)), ((0 : Nat), (10 : Nat), (17 : Nat), (19 : Nat))]) ∈ lw_all := lw_g (lw_at lw_m4 129 rfl) rfl
theorem q924 : (Jvm.Cond.classLink "LeastSolutionsLaw" (31 : Nat) "java/lang/IllegalArgumentException") ∈ lw_all := lw_g (lw_at lw_m4 130 rfl) rfl
theorem q925 : (Jvm.Cond.methodLink "LeastSolutionsLaw" (28 : Nat) ({ cls := "LeastSolutions", name := "work", desc := "(II)I" } : Jvm.MethodName)) ∈ lw_all := lw_g (lw_at lw_m4 131 rfl) rfl
theorem q1313 : (Jvm.Cond.methodLink "LeastSolutionsLaw" (102 : Nat) ({ cls := "LeastSolutionsLaw", name := "at", desc := "(LLeastSolutions;III[J)I" } : Jvm.MethodName)) ∈ lw_all := lw_g (lw_at lw_m6 39 rfl) rfl
theorem q1314 : (Jvm.Cond.static ({ cls := "LeastSolutionsLaw", name := "at", desc := "(LLeastSolutions;III[J)I" } : Jvm.MethodName)) ∈ lw_all := lw_g (lw_at lw_m6 40 rfl) rfl
theorem q1315 : (Jvm.Cond.codeWith ({ cls := "LeastSolutionsLaw", name := "at", desc := "(LLeastSolutions;III[J)I" } : Jvm.MethodName) method_8_code (6 : Nat) (Option.some Jvm.ClassFile.FieldType.int) [((0 : Nat), (12 : Nat), (15 : Nat), (13 : Nat))]) ∈ lw_all := lw_g (lw_at lw_m6 41 rfl) rfl
theorem q1316 : (Jvm.Cond.methodLink "LeastSolutionsLaw" (33 : Nat) ({ cls := "LeastSolutions", name := "at", desc := "(III)I" } : Jvm.MethodName)) ∈ lw_all := lw_g (lw_at lw_m6 42 rfl) rfl
theorem q1320 : (Jvm.Cond.methodLink "LeastSolutionsLaw" (106 : Nat) ({ cls := "LeastSolutionsLaw", name := "tell", desc := "(LLeastSolutions;II)I" } : Jvm.MethodName)) ∈ lw_all := lw_g (lw_at lw_m6 46 rfl) rfl
theorem q1321 : (Jvm.Cond.static ({ cls := "LeastSolutionsLaw", name := "tell", desc := "(LLeastSolutions;II)I" } : Jvm.MethodName)) ∈ lw_all := lw_g (lw_at lw_m6 47 rfl) rfl
theorem q1322 : (Jvm.Cond.codeWith ({ cls := "LeastSolutionsLaw", name := "tell", desc := "(LLeastSolutions;II)I" } : Jvm.MethodName) method_9_code (4 : Nat) (Option.some Jvm.ClassFile.FieldType.int) [((0 : Nat), (6 : Nat), (9 : Nat), (13 : Nat)), ((0 : Nat), (6 : Nat), (12 : Nat), (31 : Nat))]) ∈ lw_all := lw_g (lw_at lw_m6 48 rfl) rfl
theorem q1323 : (Jvm.Cond.methodLink "LeastSolutionsLaw" (37 : Nat) ({ cls := "LeastSolutions", name := "tell", desc := "(II)V" } : Jvm.MethodName)) ∈ lw_all := lw_g (lw_at lw_m6 49 rfl) rfl
theorem q1330 : (Jvm.Cond.methodLink "LeastSolutionsLaw" (110 : Nat) ({ cls := "LeastSolutionsLaw", name := "holds", desc := "(LLeastSolutions;[J)I" } : Jvm.MethodName)) ∈ lw_all := lw_g (lw_at lw_m6 56 rfl) rfl
theorem q1331 : (Jvm.Cond.static ({ cls := "LeastSolutionsLaw", name := "holds", desc := "(LLeastSolutions;[J)I" } : Jvm.MethodName)) ∈ lw_all := lw_g (lw_at lw_m6 57 rfl) rfl
theorem q1332 : (Jvm.Cond.codeWith ({ cls := "LeastSolutionsLaw", name := "holds", desc := "(LLeastSolutions;[J)I" } : Jvm.MethodName) method_10_code (3 : Nat) (Option.some Jvm.ClassFile.FieldType.int) [((0 : Nat), (8 : Nat), (11 : Nat), (19 : Nat))]) ∈ lw_all := lw_g (lw_at lw_m6 58 rfl) rfl
theorem q1333 : (Jvm.Cond.methodLink "LeastSolutionsLaw" (41 : Nat) ({ cls := "LeastSolutions", name := "holds", desc := "()I" } : Jvm.MethodName)) ∈ lw_all := lw_g (lw_at lw_m6 59 rfl) rfl
theorem q1334 : (Jvm.Cond.methodLink "LeastSolutionsLaw" (121 : Nat) ({ cls := "LeastSolutionsLaw", name := "cost", desc := "(LLeastSolutions;II)I" } : Jvm.MethodName)) ∈ lw_all := lw_g (lw_at lw_m6 60 rfl) rfl
theorem q1335 : (Jvm.Cond.static ({ cls := "LeastSolutionsLaw", name := "cost", desc := "(LLeastSolutions;II)I" } : Jvm.MethodName)) ∈ lw_all := lw_g (lw_at lw_m6 61 rfl) rfl
theorem q1336 : (Jvm.Cond.codeWith ({ cls := "LeastSolutionsLaw", name := "cost", desc := "(LLeastSolutions;II)I" } : Jvm.MethodName) method_11_code (4 : Nat) (Option.some Jvm.ClassFile.FieldType.int) [((0 : Nat), (6 : Nat), (9 : Nat), (13 : Nat)), ((0 : Nat), (6 : Nat), (12 : Nat), (31 : Nat))]) ∈ lw_all := lw_g (lw_at lw_m6 62 rfl) rfl
theorem q1337 : (Jvm.Cond.methodLink "LeastSolutionsLaw" (44 : Nat) ({ cls := "LeastSolutions", name := "cost", desc := "(II)V" } : Jvm.MethodName)) ∈ lw_all := lw_g (lw_at lw_m6 63 rfl) rfl
theorem q1341 : (Jvm.Cond.methodLink "LeastSolutionsLaw" (124 : Nat) ({ cls := "LeastSolutionsLaw", name := "best", desc := "(LLeastSolutions;I[J)I" } : Jvm.MethodName)) ∈ lw_all := lw_g (lw_at lw_m6 67 rfl) rfl
theorem q1342 : (Jvm.Cond.static ({ cls := "LeastSolutionsLaw", name := "best", desc := "(LLeastSolutions;I[J)I" } : Jvm.MethodName)) ∈ lw_all := lw_g (lw_at lw_m6 68 rfl) rfl
theorem q1343 : (Jvm.Cond.codeWith ({ cls := "LeastSolutionsLaw", name := "best", desc := "(LLeastSolutions;I[J)I" } : Jvm.MethodName) method_12_code (4 : Nat) (Option.some Jvm.ClassFile.FieldType.int) [((0 : Nat), (9 : Nat), (12 : Nat), (31 : Nat)), ((0 : Nat), (9 : Nat), (15 : Nat), (19 : Nat)), ((0 : Nat), (9 : Nat), (18 : Nat), (51 : Nat))]) ∈ lw_all := lw_g (lw_at lw_m6 69 rfl) rfl
theorem q1344 : (Jvm.Cond.classLink "LeastSolutionsLaw" (51 : Nat) "java/util/NoSuchElementException") ∈ lw_all := lw_g (lw_at lw_m6 70 rfl) rfl
theorem q1345 : (Jvm.Cond.methodLink "LeastSolutionsLaw" (47 : Nat) ({ cls := "LeastSolutions", name := "best", desc := "(I)I" } : Jvm.MethodName)) ∈ lw_all := lw_g (lw_at lw_m6 71 rfl) rfl
theorem q1383 : (Jvm.Cond.classLink "LeastSolutionsLaw" (54 : Nat) "LeastSolutionsModel") ∈ lw_all := lw_g (lw_at lw_m6 109 rfl) rfl
theorem q1385 : (Jvm.Cond.methodLink "LeastSolutionsLaw" (56 : Nat) ({ cls := "LeastSolutionsModel", name := "<init>", desc := "()V" } : Jvm.MethodName)) ∈ lw_all := lw_g (lw_at lw_m6 111 rfl) rfl
theorem q1500 : (Jvm.Cond.methodLink "LeastSolutionsLaw" (86 : Nat) ({ cls := "LeastSolutionsModel", name := "thrown", desc := "()I" } : Jvm.MethodName)) ∈ lw_all := lw_g (lw_at lw_m6 226 rfl) rfl
theorem q1504 : (Jvm.Cond.methodLink "LeastSolutionsLaw" (63 : Nat) ({ cls := "LeastSolutionsModel", name := "type", desc := "(JI)I" } : Jvm.MethodName)) ∈ lw_all := lw_g (lw_at lw_m6 230 rfl) rfl
theorem q1511 : (Jvm.Cond.methodLink "LeastSolutionsLaw" (67 : Nat) ({ cls := "LeastSolutionsModel", name := "read", desc := "()I" } : Jvm.MethodName)) ∈ lw_all := lw_g (lw_at lw_m6 237 rfl) rfl
theorem q1547 : (Jvm.Cond.methodLink "LeastSolutionsLaw" (71 : Nat) ({ cls := "LeastSolutionsModel", name := "place", desc := "()I" } : Jvm.MethodName)) ∈ lw_all := lw_g (lw_at lw_m7 33 rfl) rfl
theorem q1551 : (Jvm.Cond.methodLink "LeastSolutionsLaw" (75 : Nat) ({ cls := "LeastSolutionsModel", name := "count", desc := "(I)I" } : Jvm.MethodName)) ∈ lw_all := lw_g (lw_at lw_m7 37 rfl) rfl
theorem q1555 : (Jvm.Cond.methodLink "LeastSolutionsLaw" (79 : Nat) ({ cls := "LeastSolutionsModel", name := "letter", desc := "(I)I" } : Jvm.MethodName)) ∈ lw_all := lw_g (lw_at lw_m7 41 rfl) rfl
theorem q1559 : (Jvm.Cond.methodLink "LeastSolutionsLaw" (85 : Nat) ({ cls := "LeastSolutionsModel", name := "number", desc := "(II)I" } : Jvm.MethodName)) ∈ lw_all := lw_g (lw_at lw_m7 45 rfl) rfl
theorem q1563 : (Jvm.Cond.methodLink "LeastSolutionsLaw" (92 : Nat) ({ cls := "LeastSolutionsModel", name := "solvable", desc := "()I" } : Jvm.MethodName)) ∈ lw_all := lw_g (lw_at lw_m7 49 rfl) rfl
theorem q1606 : (Jvm.Cond.methodLink "LeastSolutionsLaw" (95 : Nat) ({ cls := "LeastSolutionsModel", name := "kernel", desc := "()I" } : Jvm.MethodName)) ∈ lw_all := lw_g (lw_at lw_m7 92 rfl) rfl
theorem q1610 : (Jvm.Cond.methodLink "LeastSolutionsLaw" (98 : Nat) ({ cls := "LeastSolutionsModel", name := "kernelAt", desc := "(II)J" } : Jvm.MethodName)) ∈ lw_all := lw_g (lw_at lw_m7 96 rfl) rfl
theorem q1618 : (Jvm.Cond.methodLink "LeastSolutionsLaw" (101 : Nat) ({ cls := "LeastSolutionsModel", name := "work", desc := "(II)I" } : Jvm.MethodName)) ∈ lw_all := lw_g (lw_at lw_m7 104 rfl) rfl
theorem q1654 : (Jvm.Cond.methodLink "LeastSolutionsLaw" (105 : Nat) ({ cls := "LeastSolutionsModel", name := "at", desc := "(III)I" } : Jvm.MethodName)) ∈ lw_all := lw_g (lw_at lw_m7 140 rfl) rfl
theorem q1658 : (Jvm.Cond.methodLink "LeastSolutionsLaw" (109 : Nat) ({ cls := "LeastSolutionsModel", name := "tell", desc := "(II)V" } : Jvm.MethodName)) ∈ lw_all := lw_g (lw_at lw_m7 144 rfl) rfl
theorem q1662 : (Jvm.Cond.methodLink "LeastSolutionsLaw" (112 : Nat) ({ cls := "LeastSolutionsModel", name := "holds", desc := "()I" } : Jvm.MethodName)) ∈ lw_all := lw_g (lw_at lw_m7 148 rfl) rfl
theorem q1670 : (Jvm.Cond.methodLink "LeastSolutionsLaw" (116 : Nat) ({ cls := "LeastSolutionsModel", name := "split", desc := "()I" } : Jvm.MethodName)) ∈ lw_all := lw_g (lw_at lw_m7 156 rfl) rfl
theorem q1674 : (Jvm.Cond.methodLink "LeastSolutionsLaw" (120 : Nat) ({ cls := "LeastSolutionsModel", name := "times", desc := "(I)I" } : Jvm.MethodName)) ∈ lw_all := lw_g (lw_at lw_m7 160 rfl) rfl
theorem q1678 : (Jvm.Cond.methodLink "LeastSolutionsLaw" (123 : Nat) ({ cls := "LeastSolutionsModel", name := "cost", desc := "(II)V" } : Jvm.MethodName)) ∈ lw_all := lw_g (lw_at lw_m7 164 rfl) rfl
theorem q1682 : (Jvm.Cond.methodLink "LeastSolutionsLaw" (127 : Nat) ({ cls := "LeastSolutionsModel", name := "best", desc := "(I)I" } : Jvm.MethodName)) ∈ lw_all := lw_g (lw_at lw_m7 168 rfl) rfl
theorem q1690 : (Jvm.Cond.methodLink "LeastSolutionsLaw" (131 : Nat) ({ cls := "LeastSolutionsModel", name := "bestAt", desc := "(I)I" } : Jvm.MethodName)) ∈ lw_all := lw_g (lw_at lw_m7 176 rfl) rfl
theorem q1694 : (Jvm.Cond.constantLong "LeastSolutionsLaw" (57 : Nat) (4294967295 : Int64)) ∈ lw_all := lw_g (lw_at lw_m7 180 rfl) rfl
/-! the law's own entry -/
set_option maxRecDepth 100000
abbrev cL_law : ByteArray := code
def dkwL_law_36 : List UInt8 := [46, 182, 0, 131, 159, 0, 5, 3, 172, 132, 4, 4, 167, 252, 145, 4, 172]
abbrev dktL_law_36 : List UInt8 := dkwL_law_36 ++ []
def dkwL_law_35 : List UInt8 := [153, 0, 5, 3, 172, 167, 0, 28, 43, 42, 21, 4, 4, 96, 46, 182, 0, 128, 44, 42, 21, 4, 4, 96]
abbrev dktL_law_35 : List UInt8 := dkwL_law_35 ++ dktL_law_36
def dkwL_law_34 : List UInt8 := [44, 182, 0, 86, 21, 5, 159, 0, 5, 3, 172, 21, 5, 154, 0, 15, 45, 3, 47, 21, 6, 133, 148]
abbrev dktL_law_34 : List UInt8 := dkwL_law_34 ++ dktL_law_35
def dkwL_law_33 : List UInt8 := [42, 21, 4, 4, 96, 46, 45, 184, 0, 124, 54, 5, 44, 42, 21, 4, 4, 96, 46, 182, 0, 127, 54, 6]
abbrev dktL_law_33 : List UInt8 := dkwL_law_33 ++ dktL_law_34
def dkwL_law_32 : List UInt8 := [42, 21, 4, 5, 96, 46, 182, 0, 123, 44, 182, 0, 86, 21, 5, 159, 0, 5, 3, 172, 167, 0, 84, 43]
abbrev dktL_law_32 : List UInt8 := dkwL_law_32 ++ dktL_law_33
def dkwL_law_31 : List UInt8 := [42, 21, 4, 4, 96, 46, 42, 21, 4, 5, 96, 46, 184, 0, 121, 54, 5, 44, 42, 21, 4, 4, 96, 46]
abbrev dktL_law_31 : List UInt8 := dkwL_law_31 ++ dktL_law_32
def dkwL_law_30 : List UInt8 := [21, 4, 4, 96, 46, 182, 0, 117, 44, 42, 21, 4, 4, 96, 46, 182, 0, 120, 159, 0, 134, 3, 172, 43]
abbrev dktL_law_30 : List UInt8 := dkwL_law_30 ++ dktL_law_31
def dkwL_law_29 : List UInt8 := [153, 0, 5, 3, 172, 167, 0, 170, 43, 182, 0, 113, 44, 182, 0, 116, 159, 0, 159, 3, 172, 43, 42]
abbrev dktL_law_29 : List UInt8 := dkwL_law_29 ++ dktL_law_30
def dkwL_law_28 : List UInt8 := [182, 0, 86, 21, 5, 159, 0, 5, 3, 172, 21, 5, 154, 0, 15, 45, 3, 47, 21, 6, 133, 148]
abbrev dktL_law_28 : List UInt8 := dkwL_law_28 ++ dktL_law_29
def dkwL_law_27 : List UInt8 := [159, 0, 5, 3, 172, 167, 0, 214, 43, 45, 184, 0, 110, 54, 5, 44, 182, 0, 112, 54, 6, 44]
abbrev dktL_law_27 : List UInt8 := dkwL_law_27 ++ dktL_law_28
def dkwL_law_26 : List UInt8 := [54, 5, 44, 42, 21, 4, 4, 96, 46, 42, 21, 4, 5, 96, 46, 182, 0, 109, 44, 182, 0, 86, 21, 5]
abbrev dktL_law_26 : List UInt8 := dkwL_law_26 ++ dktL_law_27
def dkwL_law_25 : List UInt8 := [153, 0, 5, 3, 172, 167, 1, 6, 43, 42, 21, 4, 4, 96, 46, 42, 21, 4, 5, 96, 46, 184, 0, 106]
abbrev dktL_law_25 : List UInt8 := dkwL_law_25 ++ dktL_law_26
def dkwL_law_24 : List UInt8 := [182, 0, 86, 21, 5, 159, 0, 5, 3, 172, 21, 5, 154, 0, 15, 45, 3, 47, 21, 6, 133, 148]
abbrev dktL_law_24 : List UInt8 := dkwL_law_24 ++ dktL_law_25
def dkwL_law_23 : List UInt8 := [21, 4, 4, 96, 46, 42, 21, 4, 5, 96, 46, 42, 21, 4, 6, 96, 46, 182, 0, 105, 54, 6, 44]
abbrev dktL_law_23 : List UInt8 := dkwL_law_23 ++ dktL_law_24
def dkwL_law_22 : List UInt8 := [4, 96, 46, 42, 21, 4, 5, 96, 46, 42, 21, 4, 6, 96, 46, 45, 184, 0, 102, 54, 5, 44, 42]
abbrev dktL_law_22 : List UInt8 := dkwL_law_22 ++ dktL_law_23
def dkwL_law_21 : List UInt8 := [21, 5, 154, 0, 15, 45, 3, 47, 21, 6, 133, 148, 153, 0, 5, 3, 172, 167, 1, 86, 43, 42, 21, 4]
abbrev dktL_law_21 : List UInt8 := dkwL_law_21 ++ dktL_law_22
def dkwL_law_20 : List UInt8 := [96, 46, 42, 21, 4, 5, 96, 46, 182, 0, 101, 54, 6, 44, 182, 0, 86, 21, 5, 159, 0, 5, 3, 172]
abbrev dktL_law_20 : List UInt8 := dkwL_law_20 ++ dktL_law_21
def dkwL_law_19 : List UInt8 := [43, 42, 21, 4, 4, 96, 46, 42, 21, 4, 5, 96, 46, 45, 184, 0, 99, 54, 5, 44, 42, 21, 4, 4]
abbrev dktL_law_19 : List UInt8 := dkwL_law_19 ++ dktL_law_20
def dkwL_law_18 : List UInt8 := [159, 0, 5, 3, 172, 21, 5, 154, 0, 14, 45, 3, 47, 22, 6, 148, 153, 0, 5, 3, 172, 167, 1, 154]
abbrev dktL_law_18 : List UInt8 := dkwL_law_18 ++ dktL_law_19
def dkwL_law_17 : List UInt8 := [21, 4, 4, 96, 46, 42, 21, 4, 5, 96, 46, 182, 0, 98, 55, 6, 44, 182, 0, 86, 21, 5]
abbrev dktL_law_17 : List UInt8 := dkwL_law_17 ++ dktL_law_18
def dkwL_law_16 : List UInt8 := [167, 1, 221, 43, 42, 21, 4, 4, 96, 46, 42, 21, 4, 5, 96, 46, 45, 184, 0, 96, 54, 5, 44, 42]
abbrev dktL_law_16 : List UInt8 := dkwL_law_16 ++ dktL_law_17
def dkwL_law_15 : List UInt8 := [159, 0, 5, 3, 172, 21, 5, 154, 0, 15, 45, 3, 47, 21, 6, 133, 148, 153, 0, 5, 3, 172]
abbrev dktL_law_15 : List UInt8 := dkwL_law_15 ++ dktL_law_16
def dkwL_law_14 : List UInt8 := [167, 2, 9, 43, 45, 184, 0, 93, 54, 5, 44, 182, 0, 95, 54, 6, 44, 182, 0, 86, 21, 5]
abbrev dktL_law_14 : List UInt8 := dkwL_law_14 ++ dktL_law_15
def dkwL_law_13 : List UInt8 := [159, 0, 5, 3, 172, 21, 5, 154, 0, 15, 45, 3, 47, 21, 6, 133, 148, 153, 0, 5, 3, 172]
abbrev dktL_law_13 : List UInt8 := dkwL_law_13 ++ dktL_law_14
def dkwL_law_12 : List UInt8 := [167, 2, 53, 43, 45, 184, 0, 89, 54, 5, 44, 182, 0, 92, 54, 6, 44, 182, 0, 86, 21, 5]
abbrev dktL_law_12 : List UInt8 := dkwL_law_12 ++ dktL_law_13
def dkwL_law_11 : List UInt8 := [159, 0, 5, 3, 172, 21, 5, 154, 0, 15, 45, 3, 47, 21, 6, 133, 148, 153, 0, 5, 3, 172]
abbrev dktL_law_11 : List UInt8 := dkwL_law_11 ++ dktL_law_12
def dkwL_law_10 : List UInt8 := [44, 42, 21, 4, 4, 96, 46, 42, 21, 4, 5, 96, 46, 182, 0, 85, 54, 6, 44, 182, 0, 86, 21, 5]
abbrev dktL_law_10 : List UInt8 := dkwL_law_10 ++ dktL_law_11
def dkwL_law_9 : List UInt8 := [159, 2, 123, 3, 172, 43, 42, 21, 4, 4, 96, 46, 42, 21, 4, 5, 96, 46, 45, 184, 0, 80, 54, 5]
abbrev dktL_law_9 : List UInt8 := dkwL_law_9 ++ dktL_law_10
def dkwL_law_8 : List UInt8 := [3, 172, 43, 42, 21, 4, 4, 96, 46, 182, 0, 76, 44, 42, 21, 4, 4, 96, 46, 182, 0, 79]
abbrev dktL_law_8 : List UInt8 := dkwL_law_8 ++ dktL_law_9
def dkwL_law_7 : List UInt8 := [172, 43, 42, 21, 4, 4, 96, 46, 182, 0, 72, 44, 42, 21, 4, 4, 96, 46, 182, 0, 75, 159, 2, 148]
abbrev dktL_law_7 : List UInt8 := dkwL_law_7 ++ dktL_law_8
def dkwL_law_6 : List UInt8 := [182, 0, 64, 44, 182, 0, 67, 159, 2, 186, 3, 172, 43, 182, 0, 68, 44, 182, 0, 71, 159, 2, 173, 3]
abbrev dktL_law_6 : List UInt8 := dkwL_law_6 ++ dktL_law_7
def dkwL_law_5 : List UInt8 := [46, 133, 20, 0, 57, 127, 129, 42, 21, 4, 6, 96, 46, 182, 0, 63, 159, 2, 199, 3, 172, 43]
abbrev dktL_law_5 : List UInt8 := dkwL_law_5 ++ dktL_law_6
def dkwL_law_4 : List UInt8 := [21, 4, 6, 96, 46, 182, 0, 59, 44, 42, 21, 4, 4, 96, 46, 133, 16, 32, 121, 42, 21, 4, 5, 96]
abbrev dktL_law_4 : List UInt8 := dkwL_law_4 ++ dktL_law_5
def dkwL_law_3 : List UInt8 := [43, 42, 21, 4, 4, 96, 46, 133, 16, 32, 121, 42, 21, 4, 5, 96, 46, 133, 20, 0, 57, 127, 129, 42]
abbrev dktL_law_3 : List UInt8 := dkwL_law_3 ++ dktL_law_4
def dkwL_law_2 : List UInt8 := [170, 0, 0, 3, 92, 0, 0, 0, 0, 0, 0, 0, 17, 0, 0, 0, 85, 0, 0, 0, 154, 0, 0, 0, 167, 0, 0, 0, 180, 0, 0, 0, 205, 0, 0, 0, 230, 0, 0, 1, 42, 0, 0, 1, 86, 0, 0, 1, 130, 0, 0, 1, 197, 0, 0, 2, 9, 0, 0, 2, 89, 0, 0, 2, 137, 0, 0, 2, 181, 0, 0, 2, 194, 0, 0, 2, 219, 0, 0, 3, 11, 0, 0, 3, 67]
abbrev dktL_law_2 : List UInt8 := dkwL_law_2 ++ dktL_law_3
def dkwL_law_1 : List UInt8 := [21, 4, 42, 190, 7, 100, 163, 3, 108, 42, 21, 4, 46, 16, 31, 126]
abbrev dktL_law_1 : List UInt8 := dkwL_law_1 ++ dktL_law_2
def dkwL_law_0 : List UInt8 := [187, 0, 8, 89, 183, 0, 53, 76, 187, 0, 54, 89, 183, 0, 56, 77, 4, 188, 11, 78, 3, 54, 4]
abbrev dktL_law_0 : List UInt8 := dkwL_law_0 ++ dktL_law_1
theorem dksL_law_0 : cL_law.data.toList.drop 0 = dktL_law_0 := by decide +kernel
theorem dksL_law_1 : cL_law.data.toList.drop 23 = dktL_law_1 := dk_seg dksL_law_0 23 rfl rfl
theorem dksL_law_2 : cL_law.data.toList.drop 39 = dktL_law_2 := dk_seg dksL_law_1 16 rfl rfl
theorem dksL_law_3 : cL_law.data.toList.drop 124 = dktL_law_3 := dk_seg dksL_law_2 85 rfl rfl
theorem dksL_law_4 : cL_law.data.toList.drop 148 = dktL_law_4 := dk_seg dksL_law_3 24 rfl rfl
theorem dksL_law_5 : cL_law.data.toList.drop 172 = dktL_law_5 := dk_seg dksL_law_4 24 rfl rfl
theorem dksL_law_6 : cL_law.data.toList.drop 194 = dktL_law_6 := dk_seg dksL_law_5 22 rfl rfl
theorem dksL_law_7 : cL_law.data.toList.drop 218 = dktL_law_7 := dk_seg dksL_law_6 24 rfl rfl
theorem dksL_law_8 : cL_law.data.toList.drop 242 = dktL_law_8 := dk_seg dksL_law_7 24 rfl rfl
theorem dksL_law_9 : cL_law.data.toList.drop 264 = dktL_law_9 := dk_seg dksL_law_8 22 rfl rfl
theorem dksL_law_10 : cL_law.data.toList.drop 288 = dktL_law_10 := dk_seg dksL_law_9 24 rfl rfl
theorem dksL_law_11 : cL_law.data.toList.drop 312 = dktL_law_11 := dk_seg dksL_law_10 24 rfl rfl
theorem dksL_law_12 : cL_law.data.toList.drop 334 = dktL_law_12 := dk_seg dksL_law_11 22 rfl rfl
theorem dksL_law_13 : cL_law.data.toList.drop 356 = dktL_law_13 := dk_seg dksL_law_12 22 rfl rfl
theorem dksL_law_14 : cL_law.data.toList.drop 378 = dktL_law_14 := dk_seg dksL_law_13 22 rfl rfl
theorem dksL_law_15 : cL_law.data.toList.drop 400 = dktL_law_15 := dk_seg dksL_law_14 22 rfl rfl
theorem dksL_law_16 : cL_law.data.toList.drop 422 = dktL_law_16 := dk_seg dksL_law_15 22 rfl rfl
theorem dksL_law_17 : cL_law.data.toList.drop 446 = dktL_law_17 := dk_seg dksL_law_16 24 rfl rfl
theorem dksL_law_18 : cL_law.data.toList.drop 468 = dktL_law_18 := dk_seg dksL_law_17 22 rfl rfl
theorem dksL_law_19 : cL_law.data.toList.drop 492 = dktL_law_19 := dk_seg dksL_law_18 24 rfl rfl
theorem dksL_law_20 : cL_law.data.toList.drop 516 = dktL_law_20 := dk_seg dksL_law_19 24 rfl rfl
theorem dksL_law_21 : cL_law.data.toList.drop 540 = dktL_law_21 := dk_seg dksL_law_20 24 rfl rfl
theorem dksL_law_22 : cL_law.data.toList.drop 564 = dktL_law_22 := dk_seg dksL_law_21 24 rfl rfl
theorem dksL_law_23 : cL_law.data.toList.drop 587 = dktL_law_23 := dk_seg dksL_law_22 23 rfl rfl
theorem dksL_law_24 : cL_law.data.toList.drop 610 = dktL_law_24 := dk_seg dksL_law_23 23 rfl rfl
theorem dksL_law_25 : cL_law.data.toList.drop 632 = dktL_law_25 := dk_seg dksL_law_24 22 rfl rfl
theorem dksL_law_26 : cL_law.data.toList.drop 656 = dktL_law_26 := dk_seg dksL_law_25 24 rfl rfl
theorem dksL_law_27 : cL_law.data.toList.drop 680 = dktL_law_27 := dk_seg dksL_law_26 24 rfl rfl
theorem dksL_law_28 : cL_law.data.toList.drop 702 = dktL_law_28 := dk_seg dksL_law_27 22 rfl rfl
theorem dksL_law_29 : cL_law.data.toList.drop 724 = dktL_law_29 := dk_seg dksL_law_28 22 rfl rfl
theorem dksL_law_30 : cL_law.data.toList.drop 747 = dktL_law_30 := dk_seg dksL_law_29 23 rfl rfl
theorem dksL_law_31 : cL_law.data.toList.drop 771 = dktL_law_31 := dk_seg dksL_law_30 24 rfl rfl
theorem dksL_law_32 : cL_law.data.toList.drop 795 = dktL_law_32 := dk_seg dksL_law_31 24 rfl rfl
theorem dksL_law_33 : cL_law.data.toList.drop 819 = dktL_law_33 := dk_seg dksL_law_32 24 rfl rfl
theorem dksL_law_34 : cL_law.data.toList.drop 843 = dktL_law_34 := dk_seg dksL_law_33 24 rfl rfl
theorem dksL_law_35 : cL_law.data.toList.drop 866 = dktL_law_35 := dk_seg dksL_law_34 23 rfl rfl
theorem dksL_law_36 : cL_law.data.toList.drop 890 = dktL_law_36 := dk_seg dksL_law_35 24 rfl rfl
theorem dL_law_0 : decode cL_law 0 = .ok (.new 8, 3) := dk_187 0 8 (dk_at dksL_law_0 0 rfl rfl)
theorem dL_law_3 : decode cL_law 3 = .ok (.dup, 1) := dk_89 (dk_at dksL_law_0 3 rfl rfl)
theorem dL_law_4 : decode cL_law 4 = .ok (.invokespecial 53, 3) := dk_183 0 53 (dk_at dksL_law_0 4 rfl rfl)
theorem dL_law_7 : decode cL_law 7 = .ok (.astore_n 1, 1) := dk_76 (dk_at dksL_law_0 7 rfl rfl)
theorem dL_law_8 : decode cL_law 8 = .ok (.new 54, 3) := dk_187 0 54 (dk_at dksL_law_0 8 rfl rfl)
theorem dL_law_11 : decode cL_law 11 = .ok (.dup, 1) := dk_89 (dk_at dksL_law_0 11 rfl rfl)
theorem dL_law_12 : decode cL_law 12 = .ok (.invokespecial 56, 3) := dk_183 0 56 (dk_at dksL_law_0 12 rfl rfl)
theorem dL_law_15 : decode cL_law 15 = .ok (.astore_n 2, 1) := dk_77 (dk_at dksL_law_0 15 rfl rfl)
theorem dL_law_16 : decode cL_law 16 = .ok (.iconst 1, 1) := dk_4 (dk_at dksL_law_0 16 rfl rfl)
theorem dL_law_17 : decode cL_law 17 = .ok (.newarray .long, 2) := dk_188_11 (dk_at dksL_law_0 17 rfl rfl)
theorem dL_law_19 : decode cL_law 19 = .ok (.astore_n 3, 1) := dk_78 (dk_at dksL_law_0 19 rfl rfl)
theorem dL_law_20 : decode cL_law 20 = .ok (.iconst 0, 1) := dk_3 (dk_at dksL_law_0 20 rfl rfl)
theorem dL_law_21 : decode cL_law 21 = .ok (.istore 4, 2) := dk_54 4 (dk_at dksL_law_0 21 rfl rfl)
theorem dL_law_23 : decode cL_law 23 = .ok (.iload 4, 2) := dk_21 4 (dk_at dksL_law_1 0 rfl rfl)
theorem dL_law_25 : decode cL_law 25 = .ok (.aload_n 0, 1) := dk_42 (dk_at dksL_law_1 2 rfl rfl)
theorem dL_law_26 : decode cL_law 26 = .ok (.arraylength, 1) := dk_190 (dk_at dksL_law_1 3 rfl rfl)
theorem dL_law_27 : decode cL_law 27 = .ok (.iconst 4, 1) := dk_7 (dk_at dksL_law_1 4 rfl rfl)
theorem dL_law_28 : decode cL_law 28 = .ok (.isub, 1) := dk_100 (dk_at dksL_law_1 5 rfl rfl)
theorem dL_law_29 : decode cL_law 29 = .ok (.if_icmp .gt 876, 3) := dk_163 3 108 (dk_at dksL_law_1 6 rfl rfl)
theorem dL_law_32 : decode cL_law 32 = .ok (.aload_n 0, 1) := dk_42 (dk_at dksL_law_1 9 rfl rfl)
theorem dL_law_33 : decode cL_law 33 = .ok (.iload 4, 2) := dk_21 4 (dk_at dksL_law_1 10 rfl rfl)
theorem dL_law_35 : decode cL_law 35 = .ok (.iaload, 1) := dk_46 (dk_at dksL_law_1 12 rfl rfl)
theorem dL_law_36 : decode cL_law 36 = .ok (.bipush 31, 2) := dk_16 31 (dk_at dksL_law_1 13 rfl rfl)
theorem dL_law_38 : decode cL_law 38 = .ok (.iand, 1) := dk_126 (dk_at dksL_law_1 15 rfl rfl)
theorem dL_law_39 : decode cL_law 39 = .ok (.tableswitch 860 0 17 #[85, 154, 167, 180, 205, 230, 298, 342, 386, 453, 521, 601, 649, 693, 706, 731, 779, 835], 85) := by decide +kernel
theorem dL_law_124 : decode cL_law 124 = .ok (.aload_n 1, 1) := dk_43 (dk_at dksL_law_3 0 rfl rfl)
theorem dL_law_125 : decode cL_law 125 = .ok (.aload_n 0, 1) := dk_42 (dk_at dksL_law_3 1 rfl rfl)
theorem dL_law_126 : decode cL_law 126 = .ok (.iload 4, 2) := dk_21 4 (dk_at dksL_law_3 2 rfl rfl)
theorem dL_law_128 : decode cL_law 128 = .ok (.iconst 1, 1) := dk_4 (dk_at dksL_law_3 4 rfl rfl)
theorem dL_law_129 : decode cL_law 129 = .ok (.iadd, 1) := dk_96 (dk_at dksL_law_3 5 rfl rfl)
theorem dL_law_130 : decode cL_law 130 = .ok (.iaload, 1) := dk_46 (dk_at dksL_law_3 6 rfl rfl)
theorem dL_law_131 : decode cL_law 131 = .ok (.i2l, 1) := dk_133 (dk_at dksL_law_3 7 rfl rfl)
theorem dL_law_132 : decode cL_law 132 = .ok (.bipush 32, 2) := dk_16 32 (dk_at dksL_law_3 8 rfl rfl)
theorem dL_law_134 : decode cL_law 134 = .ok (.lshl, 1) := dk_121 (dk_at dksL_law_3 10 rfl rfl)
theorem dL_law_135 : decode cL_law 135 = .ok (.aload_n 0, 1) := dk_42 (dk_at dksL_law_3 11 rfl rfl)
theorem dL_law_136 : decode cL_law 136 = .ok (.iload 4, 2) := dk_21 4 (dk_at dksL_law_3 12 rfl rfl)
theorem dL_law_138 : decode cL_law 138 = .ok (.iconst 2, 1) := dk_5 (dk_at dksL_law_3 14 rfl rfl)
theorem dL_law_139 : decode cL_law 139 = .ok (.iadd, 1) := dk_96 (dk_at dksL_law_3 15 rfl rfl)
theorem dL_law_140 : decode cL_law 140 = .ok (.iaload, 1) := dk_46 (dk_at dksL_law_3 16 rfl rfl)
theorem dL_law_141 : decode cL_law 141 = .ok (.i2l, 1) := dk_133 (dk_at dksL_law_3 17 rfl rfl)
theorem dL_law_142 : decode cL_law 142 = .ok (.ldc2_w 57, 3) := dk_20 0 57 (dk_at dksL_law_3 18 rfl rfl)
theorem dL_law_145 : decode cL_law 145 = .ok (.land, 1) := dk_127 (dk_at dksL_law_3 21 rfl rfl)
theorem dL_law_146 : decode cL_law 146 = .ok (.lor, 1) := dk_129 (dk_at dksL_law_3 22 rfl rfl)
theorem dL_law_147 : decode cL_law 147 = .ok (.aload_n 0, 1) := dk_42 (dk_at dksL_law_3 23 rfl rfl)
theorem dL_law_148 : decode cL_law 148 = .ok (.iload 4, 2) := dk_21 4 (dk_at dksL_law_4 0 rfl rfl)
theorem dL_law_150 : decode cL_law 150 = .ok (.iconst 3, 1) := dk_6 (dk_at dksL_law_4 2 rfl rfl)
theorem dL_law_151 : decode cL_law 151 = .ok (.iadd, 1) := dk_96 (dk_at dksL_law_4 3 rfl rfl)
theorem dL_law_152 : decode cL_law 152 = .ok (.iaload, 1) := dk_46 (dk_at dksL_law_4 4 rfl rfl)
theorem dL_law_153 : decode cL_law 153 = .ok (.invokevirtual 59, 3) := dk_182 0 59 (dk_at dksL_law_4 5 rfl rfl)
theorem dL_law_156 : decode cL_law 156 = .ok (.aload_n 2, 1) := dk_44 (dk_at dksL_law_4 8 rfl rfl)
theorem dL_law_157 : decode cL_law 157 = .ok (.aload_n 0, 1) := dk_42 (dk_at dksL_law_4 9 rfl rfl)
theorem dL_law_158 : decode cL_law 158 = .ok (.iload 4, 2) := dk_21 4 (dk_at dksL_law_4 10 rfl rfl)
theorem dL_law_160 : decode cL_law 160 = .ok (.iconst 1, 1) := dk_4 (dk_at dksL_law_4 12 rfl rfl)
theorem dL_law_161 : decode cL_law 161 = .ok (.iadd, 1) := dk_96 (dk_at dksL_law_4 13 rfl rfl)
theorem dL_law_162 : decode cL_law 162 = .ok (.iaload, 1) := dk_46 (dk_at dksL_law_4 14 rfl rfl)
theorem dL_law_163 : decode cL_law 163 = .ok (.i2l, 1) := dk_133 (dk_at dksL_law_4 15 rfl rfl)
theorem dL_law_164 : decode cL_law 164 = .ok (.bipush 32, 2) := dk_16 32 (dk_at dksL_law_4 16 rfl rfl)
theorem dL_law_166 : decode cL_law 166 = .ok (.lshl, 1) := dk_121 (dk_at dksL_law_4 18 rfl rfl)
theorem dL_law_167 : decode cL_law 167 = .ok (.aload_n 0, 1) := dk_42 (dk_at dksL_law_4 19 rfl rfl)
theorem dL_law_168 : decode cL_law 168 = .ok (.iload 4, 2) := dk_21 4 (dk_at dksL_law_4 20 rfl rfl)
theorem dL_law_170 : decode cL_law 170 = .ok (.iconst 2, 1) := dk_5 (dk_at dksL_law_4 22 rfl rfl)
theorem dL_law_171 : decode cL_law 171 = .ok (.iadd, 1) := dk_96 (dk_at dksL_law_4 23 rfl rfl)
theorem dL_law_172 : decode cL_law 172 = .ok (.iaload, 1) := dk_46 (dk_at dksL_law_5 0 rfl rfl)
theorem dL_law_173 : decode cL_law 173 = .ok (.i2l, 1) := dk_133 (dk_at dksL_law_5 1 rfl rfl)
theorem dL_law_174 : decode cL_law 174 = .ok (.ldc2_w 57, 3) := dk_20 0 57 (dk_at dksL_law_5 2 rfl rfl)
theorem dL_law_177 : decode cL_law 177 = .ok (.land, 1) := dk_127 (dk_at dksL_law_5 5 rfl rfl)
theorem dL_law_178 : decode cL_law 178 = .ok (.lor, 1) := dk_129 (dk_at dksL_law_5 6 rfl rfl)
theorem dL_law_179 : decode cL_law 179 = .ok (.aload_n 0, 1) := dk_42 (dk_at dksL_law_5 7 rfl rfl)
theorem dL_law_180 : decode cL_law 180 = .ok (.iload 4, 2) := dk_21 4 (dk_at dksL_law_5 8 rfl rfl)
theorem dL_law_182 : decode cL_law 182 = .ok (.iconst 3, 1) := dk_6 (dk_at dksL_law_5 10 rfl rfl)
theorem dL_law_183 : decode cL_law 183 = .ok (.iadd, 1) := dk_96 (dk_at dksL_law_5 11 rfl rfl)
theorem dL_law_184 : decode cL_law 184 = .ok (.iaload, 1) := dk_46 (dk_at dksL_law_5 12 rfl rfl)
theorem dL_law_185 : decode cL_law 185 = .ok (.invokevirtual 63, 3) := dk_182 0 63 (dk_at dksL_law_5 13 rfl rfl)
theorem dL_law_188 : decode cL_law 188 = .ok (.if_icmp .eq 711, 3) := dk_159 2 199 (dk_at dksL_law_5 16 rfl rfl)
theorem dL_law_191 : decode cL_law 191 = .ok (.iconst 0, 1) := dk_3 (dk_at dksL_law_5 19 rfl rfl)
theorem dL_law_192 : decode cL_law 192 = .ok (.ireturn, 1) := dk_172 (dk_at dksL_law_5 20 rfl rfl)
theorem dL_law_193 : decode cL_law 193 = .ok (.aload_n 1, 1) := dk_43 (dk_at dksL_law_5 21 rfl rfl)
theorem dL_law_194 : decode cL_law 194 = .ok (.invokevirtual 64, 3) := dk_182 0 64 (dk_at dksL_law_6 0 rfl rfl)
theorem dL_law_197 : decode cL_law 197 = .ok (.aload_n 2, 1) := dk_44 (dk_at dksL_law_6 3 rfl rfl)
theorem dL_law_198 : decode cL_law 198 = .ok (.invokevirtual 67, 3) := dk_182 0 67 (dk_at dksL_law_6 4 rfl rfl)
theorem dL_law_201 : decode cL_law 201 = .ok (.if_icmp .eq 698, 3) := dk_159 2 186 (dk_at dksL_law_6 7 rfl rfl)
theorem dL_law_204 : decode cL_law 204 = .ok (.iconst 0, 1) := dk_3 (dk_at dksL_law_6 10 rfl rfl)
theorem dL_law_205 : decode cL_law 205 = .ok (.ireturn, 1) := dk_172 (dk_at dksL_law_6 11 rfl rfl)
theorem dL_law_206 : decode cL_law 206 = .ok (.aload_n 1, 1) := dk_43 (dk_at dksL_law_6 12 rfl rfl)
theorem dL_law_207 : decode cL_law 207 = .ok (.invokevirtual 68, 3) := dk_182 0 68 (dk_at dksL_law_6 13 rfl rfl)
theorem dL_law_210 : decode cL_law 210 = .ok (.aload_n 2, 1) := dk_44 (dk_at dksL_law_6 16 rfl rfl)
theorem dL_law_211 : decode cL_law 211 = .ok (.invokevirtual 71, 3) := dk_182 0 71 (dk_at dksL_law_6 17 rfl rfl)
theorem dL_law_214 : decode cL_law 214 = .ok (.if_icmp .eq 685, 3) := dk_159 2 173 (dk_at dksL_law_6 20 rfl rfl)
theorem dL_law_217 : decode cL_law 217 = .ok (.iconst 0, 1) := dk_3 (dk_at dksL_law_6 23 rfl rfl)
theorem dL_law_218 : decode cL_law 218 = .ok (.ireturn, 1) := dk_172 (dk_at dksL_law_7 0 rfl rfl)
theorem dL_law_219 : decode cL_law 219 = .ok (.aload_n 1, 1) := dk_43 (dk_at dksL_law_7 1 rfl rfl)
theorem dL_law_220 : decode cL_law 220 = .ok (.aload_n 0, 1) := dk_42 (dk_at dksL_law_7 2 rfl rfl)
theorem dL_law_221 : decode cL_law 221 = .ok (.iload 4, 2) := dk_21 4 (dk_at dksL_law_7 3 rfl rfl)
theorem dL_law_223 : decode cL_law 223 = .ok (.iconst 1, 1) := dk_4 (dk_at dksL_law_7 5 rfl rfl)
theorem dL_law_224 : decode cL_law 224 = .ok (.iadd, 1) := dk_96 (dk_at dksL_law_7 6 rfl rfl)
theorem dL_law_225 : decode cL_law 225 = .ok (.iaload, 1) := dk_46 (dk_at dksL_law_7 7 rfl rfl)
theorem dL_law_226 : decode cL_law 226 = .ok (.invokevirtual 72, 3) := dk_182 0 72 (dk_at dksL_law_7 8 rfl rfl)
theorem dL_law_229 : decode cL_law 229 = .ok (.aload_n 2, 1) := dk_44 (dk_at dksL_law_7 11 rfl rfl)
theorem dL_law_230 : decode cL_law 230 = .ok (.aload_n 0, 1) := dk_42 (dk_at dksL_law_7 12 rfl rfl)
theorem dL_law_231 : decode cL_law 231 = .ok (.iload 4, 2) := dk_21 4 (dk_at dksL_law_7 13 rfl rfl)
theorem dL_law_233 : decode cL_law 233 = .ok (.iconst 1, 1) := dk_4 (dk_at dksL_law_7 15 rfl rfl)
theorem dL_law_234 : decode cL_law 234 = .ok (.iadd, 1) := dk_96 (dk_at dksL_law_7 16 rfl rfl)
theorem dL_law_235 : decode cL_law 235 = .ok (.iaload, 1) := dk_46 (dk_at dksL_law_7 17 rfl rfl)
theorem dL_law_236 : decode cL_law 236 = .ok (.invokevirtual 75, 3) := dk_182 0 75 (dk_at dksL_law_7 18 rfl rfl)
theorem dL_law_239 : decode cL_law 239 = .ok (.if_icmp .eq 660, 3) := dk_159 2 148 (dk_at dksL_law_7 21 rfl rfl)
theorem dL_law_242 : decode cL_law 242 = .ok (.iconst 0, 1) := dk_3 (dk_at dksL_law_8 0 rfl rfl)
theorem dL_law_243 : decode cL_law 243 = .ok (.ireturn, 1) := dk_172 (dk_at dksL_law_8 1 rfl rfl)
theorem dL_law_244 : decode cL_law 244 = .ok (.aload_n 1, 1) := dk_43 (dk_at dksL_law_8 2 rfl rfl)
theorem dL_law_245 : decode cL_law 245 = .ok (.aload_n 0, 1) := dk_42 (dk_at dksL_law_8 3 rfl rfl)
theorem dL_law_246 : decode cL_law 246 = .ok (.iload 4, 2) := dk_21 4 (dk_at dksL_law_8 4 rfl rfl)
theorem dL_law_248 : decode cL_law 248 = .ok (.iconst 1, 1) := dk_4 (dk_at dksL_law_8 6 rfl rfl)
theorem dL_law_249 : decode cL_law 249 = .ok (.iadd, 1) := dk_96 (dk_at dksL_law_8 7 rfl rfl)
theorem dL_law_250 : decode cL_law 250 = .ok (.iaload, 1) := dk_46 (dk_at dksL_law_8 8 rfl rfl)
theorem dL_law_251 : decode cL_law 251 = .ok (.invokevirtual 76, 3) := dk_182 0 76 (dk_at dksL_law_8 9 rfl rfl)
theorem dL_law_254 : decode cL_law 254 = .ok (.aload_n 2, 1) := dk_44 (dk_at dksL_law_8 12 rfl rfl)
theorem dL_law_255 : decode cL_law 255 = .ok (.aload_n 0, 1) := dk_42 (dk_at dksL_law_8 13 rfl rfl)
theorem dL_law_256 : decode cL_law 256 = .ok (.iload 4, 2) := dk_21 4 (dk_at dksL_law_8 14 rfl rfl)
theorem dL_law_258 : decode cL_law 258 = .ok (.iconst 1, 1) := dk_4 (dk_at dksL_law_8 16 rfl rfl)
theorem dL_law_259 : decode cL_law 259 = .ok (.iadd, 1) := dk_96 (dk_at dksL_law_8 17 rfl rfl)
theorem dL_law_260 : decode cL_law 260 = .ok (.iaload, 1) := dk_46 (dk_at dksL_law_8 18 rfl rfl)
theorem dL_law_261 : decode cL_law 261 = .ok (.invokevirtual 79, 3) := dk_182 0 79 (dk_at dksL_law_8 19 rfl rfl)
theorem dL_law_264 : decode cL_law 264 = .ok (.if_icmp .eq 635, 3) := dk_159 2 123 (dk_at dksL_law_9 0 rfl rfl)
theorem dL_law_267 : decode cL_law 267 = .ok (.iconst 0, 1) := dk_3 (dk_at dksL_law_9 3 rfl rfl)
theorem dL_law_268 : decode cL_law 268 = .ok (.ireturn, 1) := dk_172 (dk_at dksL_law_9 4 rfl rfl)
theorem dL_law_269 : decode cL_law 269 = .ok (.aload_n 1, 1) := dk_43 (dk_at dksL_law_9 5 rfl rfl)
theorem dL_law_270 : decode cL_law 270 = .ok (.aload_n 0, 1) := dk_42 (dk_at dksL_law_9 6 rfl rfl)
theorem dL_law_271 : decode cL_law 271 = .ok (.iload 4, 2) := dk_21 4 (dk_at dksL_law_9 7 rfl rfl)
theorem dL_law_273 : decode cL_law 273 = .ok (.iconst 1, 1) := dk_4 (dk_at dksL_law_9 9 rfl rfl)
theorem dL_law_274 : decode cL_law 274 = .ok (.iadd, 1) := dk_96 (dk_at dksL_law_9 10 rfl rfl)
theorem dL_law_275 : decode cL_law 275 = .ok (.iaload, 1) := dk_46 (dk_at dksL_law_9 11 rfl rfl)
theorem dL_law_276 : decode cL_law 276 = .ok (.aload_n 0, 1) := dk_42 (dk_at dksL_law_9 12 rfl rfl)
theorem dL_law_277 : decode cL_law 277 = .ok (.iload 4, 2) := dk_21 4 (dk_at dksL_law_9 13 rfl rfl)
theorem dL_law_279 : decode cL_law 279 = .ok (.iconst 2, 1) := dk_5 (dk_at dksL_law_9 15 rfl rfl)
theorem dL_law_280 : decode cL_law 280 = .ok (.iadd, 1) := dk_96 (dk_at dksL_law_9 16 rfl rfl)
theorem dL_law_281 : decode cL_law 281 = .ok (.iaload, 1) := dk_46 (dk_at dksL_law_9 17 rfl rfl)
theorem dL_law_282 : decode cL_law 282 = .ok (.aload_n 3, 1) := dk_45 (dk_at dksL_law_9 18 rfl rfl)
theorem dL_law_283 : decode cL_law 283 = .ok (.invokestatic 80, 3) := dk_184 0 80 (dk_at dksL_law_9 19 rfl rfl)
theorem dL_law_286 : decode cL_law 286 = .ok (.istore 5, 2) := dk_54 5 (dk_at dksL_law_9 22 rfl rfl)
theorem dL_law_288 : decode cL_law 288 = .ok (.aload_n 2, 1) := dk_44 (dk_at dksL_law_10 0 rfl rfl)
theorem dL_law_289 : decode cL_law 289 = .ok (.aload_n 0, 1) := dk_42 (dk_at dksL_law_10 1 rfl rfl)
theorem dL_law_290 : decode cL_law 290 = .ok (.iload 4, 2) := dk_21 4 (dk_at dksL_law_10 2 rfl rfl)
theorem dL_law_292 : decode cL_law 292 = .ok (.iconst 1, 1) := dk_4 (dk_at dksL_law_10 4 rfl rfl)
theorem dL_law_293 : decode cL_law 293 = .ok (.iadd, 1) := dk_96 (dk_at dksL_law_10 5 rfl rfl)
theorem dL_law_294 : decode cL_law 294 = .ok (.iaload, 1) := dk_46 (dk_at dksL_law_10 6 rfl rfl)
theorem dL_law_295 : decode cL_law 295 = .ok (.aload_n 0, 1) := dk_42 (dk_at dksL_law_10 7 rfl rfl)
theorem dL_law_296 : decode cL_law 296 = .ok (.iload 4, 2) := dk_21 4 (dk_at dksL_law_10 8 rfl rfl)
theorem dL_law_298 : decode cL_law 298 = .ok (.iconst 2, 1) := dk_5 (dk_at dksL_law_10 10 rfl rfl)
theorem dL_law_299 : decode cL_law 299 = .ok (.iadd, 1) := dk_96 (dk_at dksL_law_10 11 rfl rfl)
theorem dL_law_300 : decode cL_law 300 = .ok (.iaload, 1) := dk_46 (dk_at dksL_law_10 12 rfl rfl)
theorem dL_law_301 : decode cL_law 301 = .ok (.invokevirtual 85, 3) := dk_182 0 85 (dk_at dksL_law_10 13 rfl rfl)
theorem dL_law_304 : decode cL_law 304 = .ok (.istore 6, 2) := dk_54 6 (dk_at dksL_law_10 16 rfl rfl)
theorem dL_law_306 : decode cL_law 306 = .ok (.aload_n 2, 1) := dk_44 (dk_at dksL_law_10 18 rfl rfl)
theorem dL_law_307 : decode cL_law 307 = .ok (.invokevirtual 86, 3) := dk_182 0 86 (dk_at dksL_law_10 19 rfl rfl)
theorem dL_law_310 : decode cL_law 310 = .ok (.iload 5, 2) := dk_21 5 (dk_at dksL_law_10 22 rfl rfl)
theorem dL_law_312 : decode cL_law 312 = .ok (.if_icmp .eq 5, 3) := dk_159 0 5 (dk_at dksL_law_11 0 rfl rfl)
theorem dL_law_315 : decode cL_law 315 = .ok (.iconst 0, 1) := dk_3 (dk_at dksL_law_11 3 rfl rfl)
theorem dL_law_316 : decode cL_law 316 = .ok (.ireturn, 1) := dk_172 (dk_at dksL_law_11 4 rfl rfl)
theorem dL_law_317 : decode cL_law 317 = .ok (.iload 5, 2) := dk_21 5 (dk_at dksL_law_11 5 rfl rfl)
theorem dL_law_319 : decode cL_law 319 = .ok (.ifCond .ne 15, 3) := dk_154 0 15 (dk_at dksL_law_11 7 rfl rfl)
theorem dL_law_322 : decode cL_law 322 = .ok (.aload_n 3, 1) := dk_45 (dk_at dksL_law_11 10 rfl rfl)
theorem dL_law_323 : decode cL_law 323 = .ok (.iconst 0, 1) := dk_3 (dk_at dksL_law_11 11 rfl rfl)
theorem dL_law_324 : decode cL_law 324 = .ok (.laload, 1) := dk_47 (dk_at dksL_law_11 12 rfl rfl)
theorem dL_law_325 : decode cL_law 325 = .ok (.iload 6, 2) := dk_21 6 (dk_at dksL_law_11 13 rfl rfl)
theorem dL_law_327 : decode cL_law 327 = .ok (.i2l, 1) := dk_133 (dk_at dksL_law_11 15 rfl rfl)
theorem dL_law_328 : decode cL_law 328 = .ok (.lcmp, 1) := dk_148 (dk_at dksL_law_11 16 rfl rfl)
theorem dL_law_329 : decode cL_law 329 = .ok (.ifCond .eq 5, 3) := dk_153 0 5 (dk_at dksL_law_11 17 rfl rfl)
theorem dL_law_332 : decode cL_law 332 = .ok (.iconst 0, 1) := dk_3 (dk_at dksL_law_11 20 rfl rfl)
theorem dL_law_333 : decode cL_law 333 = .ok (.ireturn, 1) := dk_172 (dk_at dksL_law_11 21 rfl rfl)
theorem dL_law_334 : decode cL_law 334 = .ok (.goto 565, 3) := dk_167 2 53 (dk_at dksL_law_12 0 rfl rfl)
theorem dL_law_337 : decode cL_law 337 = .ok (.aload_n 1, 1) := dk_43 (dk_at dksL_law_12 3 rfl rfl)
theorem dL_law_338 : decode cL_law 338 = .ok (.aload_n 3, 1) := dk_45 (dk_at dksL_law_12 4 rfl rfl)
theorem dL_law_339 : decode cL_law 339 = .ok (.invokestatic 89, 3) := dk_184 0 89 (dk_at dksL_law_12 5 rfl rfl)
theorem dL_law_342 : decode cL_law 342 = .ok (.istore 5, 2) := dk_54 5 (dk_at dksL_law_12 8 rfl rfl)
theorem dL_law_344 : decode cL_law 344 = .ok (.aload_n 2, 1) := dk_44 (dk_at dksL_law_12 10 rfl rfl)
theorem dL_law_345 : decode cL_law 345 = .ok (.invokevirtual 92, 3) := dk_182 0 92 (dk_at dksL_law_12 11 rfl rfl)
theorem dL_law_348 : decode cL_law 348 = .ok (.istore 6, 2) := dk_54 6 (dk_at dksL_law_12 14 rfl rfl)
theorem dL_law_350 : decode cL_law 350 = .ok (.aload_n 2, 1) := dk_44 (dk_at dksL_law_12 16 rfl rfl)
theorem dL_law_351 : decode cL_law 351 = .ok (.invokevirtual 86, 3) := dk_182 0 86 (dk_at dksL_law_12 17 rfl rfl)
theorem dL_law_354 : decode cL_law 354 = .ok (.iload 5, 2) := dk_21 5 (dk_at dksL_law_12 20 rfl rfl)
theorem dL_law_356 : decode cL_law 356 = .ok (.if_icmp .eq 5, 3) := dk_159 0 5 (dk_at dksL_law_13 0 rfl rfl)
theorem dL_law_359 : decode cL_law 359 = .ok (.iconst 0, 1) := dk_3 (dk_at dksL_law_13 3 rfl rfl)
theorem dL_law_360 : decode cL_law 360 = .ok (.ireturn, 1) := dk_172 (dk_at dksL_law_13 4 rfl rfl)
theorem dL_law_361 : decode cL_law 361 = .ok (.iload 5, 2) := dk_21 5 (dk_at dksL_law_13 5 rfl rfl)
theorem dL_law_363 : decode cL_law 363 = .ok (.ifCond .ne 15, 3) := dk_154 0 15 (dk_at dksL_law_13 7 rfl rfl)
theorem dL_law_366 : decode cL_law 366 = .ok (.aload_n 3, 1) := dk_45 (dk_at dksL_law_13 10 rfl rfl)
theorem dL_law_367 : decode cL_law 367 = .ok (.iconst 0, 1) := dk_3 (dk_at dksL_law_13 11 rfl rfl)
theorem dL_law_368 : decode cL_law 368 = .ok (.laload, 1) := dk_47 (dk_at dksL_law_13 12 rfl rfl)
theorem dL_law_369 : decode cL_law 369 = .ok (.iload 6, 2) := dk_21 6 (dk_at dksL_law_13 13 rfl rfl)
theorem dL_law_371 : decode cL_law 371 = .ok (.i2l, 1) := dk_133 (dk_at dksL_law_13 15 rfl rfl)
theorem dL_law_372 : decode cL_law 372 = .ok (.lcmp, 1) := dk_148 (dk_at dksL_law_13 16 rfl rfl)
theorem dL_law_373 : decode cL_law 373 = .ok (.ifCond .eq 5, 3) := dk_153 0 5 (dk_at dksL_law_13 17 rfl rfl)
theorem dL_law_376 : decode cL_law 376 = .ok (.iconst 0, 1) := dk_3 (dk_at dksL_law_13 20 rfl rfl)
theorem dL_law_377 : decode cL_law 377 = .ok (.ireturn, 1) := dk_172 (dk_at dksL_law_13 21 rfl rfl)
theorem dL_law_378 : decode cL_law 378 = .ok (.goto 521, 3) := dk_167 2 9 (dk_at dksL_law_14 0 rfl rfl)
theorem dL_law_381 : decode cL_law 381 = .ok (.aload_n 1, 1) := dk_43 (dk_at dksL_law_14 3 rfl rfl)
theorem dL_law_382 : decode cL_law 382 = .ok (.aload_n 3, 1) := dk_45 (dk_at dksL_law_14 4 rfl rfl)
theorem dL_law_383 : decode cL_law 383 = .ok (.invokestatic 93, 3) := dk_184 0 93 (dk_at dksL_law_14 5 rfl rfl)
theorem dL_law_386 : decode cL_law 386 = .ok (.istore 5, 2) := dk_54 5 (dk_at dksL_law_14 8 rfl rfl)
theorem dL_law_388 : decode cL_law 388 = .ok (.aload_n 2, 1) := dk_44 (dk_at dksL_law_14 10 rfl rfl)
theorem dL_law_389 : decode cL_law 389 = .ok (.invokevirtual 95, 3) := dk_182 0 95 (dk_at dksL_law_14 11 rfl rfl)
theorem dL_law_392 : decode cL_law 392 = .ok (.istore 6, 2) := dk_54 6 (dk_at dksL_law_14 14 rfl rfl)
theorem dL_law_394 : decode cL_law 394 = .ok (.aload_n 2, 1) := dk_44 (dk_at dksL_law_14 16 rfl rfl)
theorem dL_law_395 : decode cL_law 395 = .ok (.invokevirtual 86, 3) := dk_182 0 86 (dk_at dksL_law_14 17 rfl rfl)
theorem dL_law_398 : decode cL_law 398 = .ok (.iload 5, 2) := dk_21 5 (dk_at dksL_law_14 20 rfl rfl)
theorem dL_law_400 : decode cL_law 400 = .ok (.if_icmp .eq 5, 3) := dk_159 0 5 (dk_at dksL_law_15 0 rfl rfl)
theorem dL_law_403 : decode cL_law 403 = .ok (.iconst 0, 1) := dk_3 (dk_at dksL_law_15 3 rfl rfl)
theorem dL_law_404 : decode cL_law 404 = .ok (.ireturn, 1) := dk_172 (dk_at dksL_law_15 4 rfl rfl)
theorem dL_law_405 : decode cL_law 405 = .ok (.iload 5, 2) := dk_21 5 (dk_at dksL_law_15 5 rfl rfl)
theorem dL_law_407 : decode cL_law 407 = .ok (.ifCond .ne 15, 3) := dk_154 0 15 (dk_at dksL_law_15 7 rfl rfl)
theorem dL_law_410 : decode cL_law 410 = .ok (.aload_n 3, 1) := dk_45 (dk_at dksL_law_15 10 rfl rfl)
theorem dL_law_411 : decode cL_law 411 = .ok (.iconst 0, 1) := dk_3 (dk_at dksL_law_15 11 rfl rfl)
theorem dL_law_412 : decode cL_law 412 = .ok (.laload, 1) := dk_47 (dk_at dksL_law_15 12 rfl rfl)
theorem dL_law_413 : decode cL_law 413 = .ok (.iload 6, 2) := dk_21 6 (dk_at dksL_law_15 13 rfl rfl)
theorem dL_law_415 : decode cL_law 415 = .ok (.i2l, 1) := dk_133 (dk_at dksL_law_15 15 rfl rfl)
theorem dL_law_416 : decode cL_law 416 = .ok (.lcmp, 1) := dk_148 (dk_at dksL_law_15 16 rfl rfl)
theorem dL_law_417 : decode cL_law 417 = .ok (.ifCond .eq 5, 3) := dk_153 0 5 (dk_at dksL_law_15 17 rfl rfl)
theorem dL_law_420 : decode cL_law 420 = .ok (.iconst 0, 1) := dk_3 (dk_at dksL_law_15 20 rfl rfl)
theorem dL_law_421 : decode cL_law 421 = .ok (.ireturn, 1) := dk_172 (dk_at dksL_law_15 21 rfl rfl)
theorem dL_law_422 : decode cL_law 422 = .ok (.goto 477, 3) := dk_167 1 221 (dk_at dksL_law_16 0 rfl rfl)
theorem dL_law_425 : decode cL_law 425 = .ok (.aload_n 1, 1) := dk_43 (dk_at dksL_law_16 3 rfl rfl)
theorem dL_law_426 : decode cL_law 426 = .ok (.aload_n 0, 1) := dk_42 (dk_at dksL_law_16 4 rfl rfl)
theorem dL_law_427 : decode cL_law 427 = .ok (.iload 4, 2) := dk_21 4 (dk_at dksL_law_16 5 rfl rfl)
theorem dL_law_429 : decode cL_law 429 = .ok (.iconst 1, 1) := dk_4 (dk_at dksL_law_16 7 rfl rfl)
theorem dL_law_430 : decode cL_law 430 = .ok (.iadd, 1) := dk_96 (dk_at dksL_law_16 8 rfl rfl)
theorem dL_law_431 : decode cL_law 431 = .ok (.iaload, 1) := dk_46 (dk_at dksL_law_16 9 rfl rfl)
theorem dL_law_432 : decode cL_law 432 = .ok (.aload_n 0, 1) := dk_42 (dk_at dksL_law_16 10 rfl rfl)
theorem dL_law_433 : decode cL_law 433 = .ok (.iload 4, 2) := dk_21 4 (dk_at dksL_law_16 11 rfl rfl)
theorem dL_law_435 : decode cL_law 435 = .ok (.iconst 2, 1) := dk_5 (dk_at dksL_law_16 13 rfl rfl)
theorem dL_law_436 : decode cL_law 436 = .ok (.iadd, 1) := dk_96 (dk_at dksL_law_16 14 rfl rfl)
theorem dL_law_437 : decode cL_law 437 = .ok (.iaload, 1) := dk_46 (dk_at dksL_law_16 15 rfl rfl)
theorem dL_law_438 : decode cL_law 438 = .ok (.aload_n 3, 1) := dk_45 (dk_at dksL_law_16 16 rfl rfl)
theorem dL_law_439 : decode cL_law 439 = .ok (.invokestatic 96, 3) := dk_184 0 96 (dk_at dksL_law_16 17 rfl rfl)
theorem dL_law_442 : decode cL_law 442 = .ok (.istore 5, 2) := dk_54 5 (dk_at dksL_law_16 20 rfl rfl)
theorem dL_law_444 : decode cL_law 444 = .ok (.aload_n 2, 1) := dk_44 (dk_at dksL_law_16 22 rfl rfl)
theorem dL_law_445 : decode cL_law 445 = .ok (.aload_n 0, 1) := dk_42 (dk_at dksL_law_16 23 rfl rfl)
theorem dL_law_446 : decode cL_law 446 = .ok (.iload 4, 2) := dk_21 4 (dk_at dksL_law_17 0 rfl rfl)
theorem dL_law_448 : decode cL_law 448 = .ok (.iconst 1, 1) := dk_4 (dk_at dksL_law_17 2 rfl rfl)
theorem dL_law_449 : decode cL_law 449 = .ok (.iadd, 1) := dk_96 (dk_at dksL_law_17 3 rfl rfl)
theorem dL_law_450 : decode cL_law 450 = .ok (.iaload, 1) := dk_46 (dk_at dksL_law_17 4 rfl rfl)
theorem dL_law_451 : decode cL_law 451 = .ok (.aload_n 0, 1) := dk_42 (dk_at dksL_law_17 5 rfl rfl)
theorem dL_law_452 : decode cL_law 452 = .ok (.iload 4, 2) := dk_21 4 (dk_at dksL_law_17 6 rfl rfl)
theorem dL_law_454 : decode cL_law 454 = .ok (.iconst 2, 1) := dk_5 (dk_at dksL_law_17 8 rfl rfl)
theorem dL_law_455 : decode cL_law 455 = .ok (.iadd, 1) := dk_96 (dk_at dksL_law_17 9 rfl rfl)
theorem dL_law_456 : decode cL_law 456 = .ok (.iaload, 1) := dk_46 (dk_at dksL_law_17 10 rfl rfl)
theorem dL_law_457 : decode cL_law 457 = .ok (.invokevirtual 98, 3) := dk_182 0 98 (dk_at dksL_law_17 11 rfl rfl)
theorem dL_law_460 : decode cL_law 460 = .ok (.lstore 6, 2) := dk_55 6 (dk_at dksL_law_17 14 rfl rfl)
theorem dL_law_462 : decode cL_law 462 = .ok (.aload_n 2, 1) := dk_44 (dk_at dksL_law_17 16 rfl rfl)
theorem dL_law_463 : decode cL_law 463 = .ok (.invokevirtual 86, 3) := dk_182 0 86 (dk_at dksL_law_17 17 rfl rfl)
theorem dL_law_466 : decode cL_law 466 = .ok (.iload 5, 2) := dk_21 5 (dk_at dksL_law_17 20 rfl rfl)
theorem dL_law_468 : decode cL_law 468 = .ok (.if_icmp .eq 5, 3) := dk_159 0 5 (dk_at dksL_law_18 0 rfl rfl)
theorem dL_law_471 : decode cL_law 471 = .ok (.iconst 0, 1) := dk_3 (dk_at dksL_law_18 3 rfl rfl)
theorem dL_law_472 : decode cL_law 472 = .ok (.ireturn, 1) := dk_172 (dk_at dksL_law_18 4 rfl rfl)
theorem dL_law_473 : decode cL_law 473 = .ok (.iload 5, 2) := dk_21 5 (dk_at dksL_law_18 5 rfl rfl)
theorem dL_law_475 : decode cL_law 475 = .ok (.ifCond .ne 14, 3) := dk_154 0 14 (dk_at dksL_law_18 7 rfl rfl)
theorem dL_law_478 : decode cL_law 478 = .ok (.aload_n 3, 1) := dk_45 (dk_at dksL_law_18 10 rfl rfl)
theorem dL_law_479 : decode cL_law 479 = .ok (.iconst 0, 1) := dk_3 (dk_at dksL_law_18 11 rfl rfl)
theorem dL_law_480 : decode cL_law 480 = .ok (.laload, 1) := dk_47 (dk_at dksL_law_18 12 rfl rfl)
theorem dL_law_481 : decode cL_law 481 = .ok (.lload 6, 2) := dk_22 6 (dk_at dksL_law_18 13 rfl rfl)
theorem dL_law_483 : decode cL_law 483 = .ok (.lcmp, 1) := dk_148 (dk_at dksL_law_18 15 rfl rfl)
theorem dL_law_484 : decode cL_law 484 = .ok (.ifCond .eq 5, 3) := dk_153 0 5 (dk_at dksL_law_18 16 rfl rfl)
theorem dL_law_487 : decode cL_law 487 = .ok (.iconst 0, 1) := dk_3 (dk_at dksL_law_18 19 rfl rfl)
theorem dL_law_488 : decode cL_law 488 = .ok (.ireturn, 1) := dk_172 (dk_at dksL_law_18 20 rfl rfl)
theorem dL_law_489 : decode cL_law 489 = .ok (.goto 410, 3) := dk_167 1 154 (dk_at dksL_law_18 21 rfl rfl)
theorem dL_law_492 : decode cL_law 492 = .ok (.aload_n 1, 1) := dk_43 (dk_at dksL_law_19 0 rfl rfl)
theorem dL_law_493 : decode cL_law 493 = .ok (.aload_n 0, 1) := dk_42 (dk_at dksL_law_19 1 rfl rfl)
theorem dL_law_494 : decode cL_law 494 = .ok (.iload 4, 2) := dk_21 4 (dk_at dksL_law_19 2 rfl rfl)
theorem dL_law_496 : decode cL_law 496 = .ok (.iconst 1, 1) := dk_4 (dk_at dksL_law_19 4 rfl rfl)
theorem dL_law_497 : decode cL_law 497 = .ok (.iadd, 1) := dk_96 (dk_at dksL_law_19 5 rfl rfl)
theorem dL_law_498 : decode cL_law 498 = .ok (.iaload, 1) := dk_46 (dk_at dksL_law_19 6 rfl rfl)
theorem dL_law_499 : decode cL_law 499 = .ok (.aload_n 0, 1) := dk_42 (dk_at dksL_law_19 7 rfl rfl)
theorem dL_law_500 : decode cL_law 500 = .ok (.iload 4, 2) := dk_21 4 (dk_at dksL_law_19 8 rfl rfl)
theorem dL_law_502 : decode cL_law 502 = .ok (.iconst 2, 1) := dk_5 (dk_at dksL_law_19 10 rfl rfl)
theorem dL_law_503 : decode cL_law 503 = .ok (.iadd, 1) := dk_96 (dk_at dksL_law_19 11 rfl rfl)
theorem dL_law_504 : decode cL_law 504 = .ok (.iaload, 1) := dk_46 (dk_at dksL_law_19 12 rfl rfl)
theorem dL_law_505 : decode cL_law 505 = .ok (.aload_n 3, 1) := dk_45 (dk_at dksL_law_19 13 rfl rfl)
theorem dL_law_506 : decode cL_law 506 = .ok (.invokestatic 99, 3) := dk_184 0 99 (dk_at dksL_law_19 14 rfl rfl)
theorem dL_law_509 : decode cL_law 509 = .ok (.istore 5, 2) := dk_54 5 (dk_at dksL_law_19 17 rfl rfl)
theorem dL_law_511 : decode cL_law 511 = .ok (.aload_n 2, 1) := dk_44 (dk_at dksL_law_19 19 rfl rfl)
theorem dL_law_512 : decode cL_law 512 = .ok (.aload_n 0, 1) := dk_42 (dk_at dksL_law_19 20 rfl rfl)
theorem dL_law_513 : decode cL_law 513 = .ok (.iload 4, 2) := dk_21 4 (dk_at dksL_law_19 21 rfl rfl)
theorem dL_law_515 : decode cL_law 515 = .ok (.iconst 1, 1) := dk_4 (dk_at dksL_law_19 23 rfl rfl)
theorem dL_law_516 : decode cL_law 516 = .ok (.iadd, 1) := dk_96 (dk_at dksL_law_20 0 rfl rfl)
theorem dL_law_517 : decode cL_law 517 = .ok (.iaload, 1) := dk_46 (dk_at dksL_law_20 1 rfl rfl)
theorem dL_law_518 : decode cL_law 518 = .ok (.aload_n 0, 1) := dk_42 (dk_at dksL_law_20 2 rfl rfl)
theorem dL_law_519 : decode cL_law 519 = .ok (.iload 4, 2) := dk_21 4 (dk_at dksL_law_20 3 rfl rfl)
theorem dL_law_521 : decode cL_law 521 = .ok (.iconst 2, 1) := dk_5 (dk_at dksL_law_20 5 rfl rfl)
theorem dL_law_522 : decode cL_law 522 = .ok (.iadd, 1) := dk_96 (dk_at dksL_law_20 6 rfl rfl)
theorem dL_law_523 : decode cL_law 523 = .ok (.iaload, 1) := dk_46 (dk_at dksL_law_20 7 rfl rfl)
theorem dL_law_524 : decode cL_law 524 = .ok (.invokevirtual 101, 3) := dk_182 0 101 (dk_at dksL_law_20 8 rfl rfl)
theorem dL_law_527 : decode cL_law 527 = .ok (.istore 6, 2) := dk_54 6 (dk_at dksL_law_20 11 rfl rfl)
theorem dL_law_529 : decode cL_law 529 = .ok (.aload_n 2, 1) := dk_44 (dk_at dksL_law_20 13 rfl rfl)
theorem dL_law_530 : decode cL_law 530 = .ok (.invokevirtual 86, 3) := dk_182 0 86 (dk_at dksL_law_20 14 rfl rfl)
theorem dL_law_533 : decode cL_law 533 = .ok (.iload 5, 2) := dk_21 5 (dk_at dksL_law_20 17 rfl rfl)
theorem dL_law_535 : decode cL_law 535 = .ok (.if_icmp .eq 5, 3) := dk_159 0 5 (dk_at dksL_law_20 19 rfl rfl)
theorem dL_law_538 : decode cL_law 538 = .ok (.iconst 0, 1) := dk_3 (dk_at dksL_law_20 22 rfl rfl)
theorem dL_law_539 : decode cL_law 539 = .ok (.ireturn, 1) := dk_172 (dk_at dksL_law_20 23 rfl rfl)
theorem dL_law_540 : decode cL_law 540 = .ok (.iload 5, 2) := dk_21 5 (dk_at dksL_law_21 0 rfl rfl)
theorem dL_law_542 : decode cL_law 542 = .ok (.ifCond .ne 15, 3) := dk_154 0 15 (dk_at dksL_law_21 2 rfl rfl)
theorem dL_law_545 : decode cL_law 545 = .ok (.aload_n 3, 1) := dk_45 (dk_at dksL_law_21 5 rfl rfl)
theorem dL_law_546 : decode cL_law 546 = .ok (.iconst 0, 1) := dk_3 (dk_at dksL_law_21 6 rfl rfl)
theorem dL_law_547 : decode cL_law 547 = .ok (.laload, 1) := dk_47 (dk_at dksL_law_21 7 rfl rfl)
theorem dL_law_548 : decode cL_law 548 = .ok (.iload 6, 2) := dk_21 6 (dk_at dksL_law_21 8 rfl rfl)
theorem dL_law_550 : decode cL_law 550 = .ok (.i2l, 1) := dk_133 (dk_at dksL_law_21 10 rfl rfl)
theorem dL_law_551 : decode cL_law 551 = .ok (.lcmp, 1) := dk_148 (dk_at dksL_law_21 11 rfl rfl)
theorem dL_law_552 : decode cL_law 552 = .ok (.ifCond .eq 5, 3) := dk_153 0 5 (dk_at dksL_law_21 12 rfl rfl)
theorem dL_law_555 : decode cL_law 555 = .ok (.iconst 0, 1) := dk_3 (dk_at dksL_law_21 15 rfl rfl)
theorem dL_law_556 : decode cL_law 556 = .ok (.ireturn, 1) := dk_172 (dk_at dksL_law_21 16 rfl rfl)
theorem dL_law_557 : decode cL_law 557 = .ok (.goto 342, 3) := dk_167 1 86 (dk_at dksL_law_21 17 rfl rfl)
theorem dL_law_560 : decode cL_law 560 = .ok (.aload_n 1, 1) := dk_43 (dk_at dksL_law_21 20 rfl rfl)
theorem dL_law_561 : decode cL_law 561 = .ok (.aload_n 0, 1) := dk_42 (dk_at dksL_law_21 21 rfl rfl)
theorem dL_law_562 : decode cL_law 562 = .ok (.iload 4, 2) := dk_21 4 (dk_at dksL_law_21 22 rfl rfl)
theorem dL_law_564 : decode cL_law 564 = .ok (.iconst 1, 1) := dk_4 (dk_at dksL_law_22 0 rfl rfl)
theorem dL_law_565 : decode cL_law 565 = .ok (.iadd, 1) := dk_96 (dk_at dksL_law_22 1 rfl rfl)
theorem dL_law_566 : decode cL_law 566 = .ok (.iaload, 1) := dk_46 (dk_at dksL_law_22 2 rfl rfl)
theorem dL_law_567 : decode cL_law 567 = .ok (.aload_n 0, 1) := dk_42 (dk_at dksL_law_22 3 rfl rfl)
theorem dL_law_568 : decode cL_law 568 = .ok (.iload 4, 2) := dk_21 4 (dk_at dksL_law_22 4 rfl rfl)
theorem dL_law_570 : decode cL_law 570 = .ok (.iconst 2, 1) := dk_5 (dk_at dksL_law_22 6 rfl rfl)
theorem dL_law_571 : decode cL_law 571 = .ok (.iadd, 1) := dk_96 (dk_at dksL_law_22 7 rfl rfl)
theorem dL_law_572 : decode cL_law 572 = .ok (.iaload, 1) := dk_46 (dk_at dksL_law_22 8 rfl rfl)
theorem dL_law_573 : decode cL_law 573 = .ok (.aload_n 0, 1) := dk_42 (dk_at dksL_law_22 9 rfl rfl)
theorem dL_law_574 : decode cL_law 574 = .ok (.iload 4, 2) := dk_21 4 (dk_at dksL_law_22 10 rfl rfl)
theorem dL_law_576 : decode cL_law 576 = .ok (.iconst 3, 1) := dk_6 (dk_at dksL_law_22 12 rfl rfl)
theorem dL_law_577 : decode cL_law 577 = .ok (.iadd, 1) := dk_96 (dk_at dksL_law_22 13 rfl rfl)
theorem dL_law_578 : decode cL_law 578 = .ok (.iaload, 1) := dk_46 (dk_at dksL_law_22 14 rfl rfl)
theorem dL_law_579 : decode cL_law 579 = .ok (.aload_n 3, 1) := dk_45 (dk_at dksL_law_22 15 rfl rfl)
theorem dL_law_580 : decode cL_law 580 = .ok (.invokestatic 102, 3) := dk_184 0 102 (dk_at dksL_law_22 16 rfl rfl)
theorem dL_law_583 : decode cL_law 583 = .ok (.istore 5, 2) := dk_54 5 (dk_at dksL_law_22 19 rfl rfl)
theorem dL_law_585 : decode cL_law 585 = .ok (.aload_n 2, 1) := dk_44 (dk_at dksL_law_22 21 rfl rfl)
theorem dL_law_586 : decode cL_law 586 = .ok (.aload_n 0, 1) := dk_42 (dk_at dksL_law_22 22 rfl rfl)
theorem dL_law_587 : decode cL_law 587 = .ok (.iload 4, 2) := dk_21 4 (dk_at dksL_law_23 0 rfl rfl)
theorem dL_law_589 : decode cL_law 589 = .ok (.iconst 1, 1) := dk_4 (dk_at dksL_law_23 2 rfl rfl)
theorem dL_law_590 : decode cL_law 590 = .ok (.iadd, 1) := dk_96 (dk_at dksL_law_23 3 rfl rfl)
theorem dL_law_591 : decode cL_law 591 = .ok (.iaload, 1) := dk_46 (dk_at dksL_law_23 4 rfl rfl)
theorem dL_law_592 : decode cL_law 592 = .ok (.aload_n 0, 1) := dk_42 (dk_at dksL_law_23 5 rfl rfl)
theorem dL_law_593 : decode cL_law 593 = .ok (.iload 4, 2) := dk_21 4 (dk_at dksL_law_23 6 rfl rfl)
theorem dL_law_595 : decode cL_law 595 = .ok (.iconst 2, 1) := dk_5 (dk_at dksL_law_23 8 rfl rfl)
theorem dL_law_596 : decode cL_law 596 = .ok (.iadd, 1) := dk_96 (dk_at dksL_law_23 9 rfl rfl)
theorem dL_law_597 : decode cL_law 597 = .ok (.iaload, 1) := dk_46 (dk_at dksL_law_23 10 rfl rfl)
theorem dL_law_598 : decode cL_law 598 = .ok (.aload_n 0, 1) := dk_42 (dk_at dksL_law_23 11 rfl rfl)
theorem dL_law_599 : decode cL_law 599 = .ok (.iload 4, 2) := dk_21 4 (dk_at dksL_law_23 12 rfl rfl)
theorem dL_law_601 : decode cL_law 601 = .ok (.iconst 3, 1) := dk_6 (dk_at dksL_law_23 14 rfl rfl)
theorem dL_law_602 : decode cL_law 602 = .ok (.iadd, 1) := dk_96 (dk_at dksL_law_23 15 rfl rfl)
theorem dL_law_603 : decode cL_law 603 = .ok (.iaload, 1) := dk_46 (dk_at dksL_law_23 16 rfl rfl)
theorem dL_law_604 : decode cL_law 604 = .ok (.invokevirtual 105, 3) := dk_182 0 105 (dk_at dksL_law_23 17 rfl rfl)
theorem dL_law_607 : decode cL_law 607 = .ok (.istore 6, 2) := dk_54 6 (dk_at dksL_law_23 20 rfl rfl)
theorem dL_law_609 : decode cL_law 609 = .ok (.aload_n 2, 1) := dk_44 (dk_at dksL_law_23 22 rfl rfl)
theorem dL_law_610 : decode cL_law 610 = .ok (.invokevirtual 86, 3) := dk_182 0 86 (dk_at dksL_law_24 0 rfl rfl)
theorem dL_law_613 : decode cL_law 613 = .ok (.iload 5, 2) := dk_21 5 (dk_at dksL_law_24 3 rfl rfl)
theorem dL_law_615 : decode cL_law 615 = .ok (.if_icmp .eq 5, 3) := dk_159 0 5 (dk_at dksL_law_24 5 rfl rfl)
theorem dL_law_618 : decode cL_law 618 = .ok (.iconst 0, 1) := dk_3 (dk_at dksL_law_24 8 rfl rfl)
theorem dL_law_619 : decode cL_law 619 = .ok (.ireturn, 1) := dk_172 (dk_at dksL_law_24 9 rfl rfl)
theorem dL_law_620 : decode cL_law 620 = .ok (.iload 5, 2) := dk_21 5 (dk_at dksL_law_24 10 rfl rfl)
theorem dL_law_622 : decode cL_law 622 = .ok (.ifCond .ne 15, 3) := dk_154 0 15 (dk_at dksL_law_24 12 rfl rfl)
theorem dL_law_625 : decode cL_law 625 = .ok (.aload_n 3, 1) := dk_45 (dk_at dksL_law_24 15 rfl rfl)
theorem dL_law_626 : decode cL_law 626 = .ok (.iconst 0, 1) := dk_3 (dk_at dksL_law_24 16 rfl rfl)
theorem dL_law_627 : decode cL_law 627 = .ok (.laload, 1) := dk_47 (dk_at dksL_law_24 17 rfl rfl)
theorem dL_law_628 : decode cL_law 628 = .ok (.iload 6, 2) := dk_21 6 (dk_at dksL_law_24 18 rfl rfl)
theorem dL_law_630 : decode cL_law 630 = .ok (.i2l, 1) := dk_133 (dk_at dksL_law_24 20 rfl rfl)
theorem dL_law_631 : decode cL_law 631 = .ok (.lcmp, 1) := dk_148 (dk_at dksL_law_24 21 rfl rfl)
theorem dL_law_632 : decode cL_law 632 = .ok (.ifCond .eq 5, 3) := dk_153 0 5 (dk_at dksL_law_25 0 rfl rfl)
theorem dL_law_635 : decode cL_law 635 = .ok (.iconst 0, 1) := dk_3 (dk_at dksL_law_25 3 rfl rfl)
theorem dL_law_636 : decode cL_law 636 = .ok (.ireturn, 1) := dk_172 (dk_at dksL_law_25 4 rfl rfl)
theorem dL_law_637 : decode cL_law 637 = .ok (.goto 262, 3) := dk_167 1 6 (dk_at dksL_law_25 5 rfl rfl)
theorem dL_law_640 : decode cL_law 640 = .ok (.aload_n 1, 1) := dk_43 (dk_at dksL_law_25 8 rfl rfl)
theorem dL_law_641 : decode cL_law 641 = .ok (.aload_n 0, 1) := dk_42 (dk_at dksL_law_25 9 rfl rfl)
theorem dL_law_642 : decode cL_law 642 = .ok (.iload 4, 2) := dk_21 4 (dk_at dksL_law_25 10 rfl rfl)
theorem dL_law_644 : decode cL_law 644 = .ok (.iconst 1, 1) := dk_4 (dk_at dksL_law_25 12 rfl rfl)
theorem dL_law_645 : decode cL_law 645 = .ok (.iadd, 1) := dk_96 (dk_at dksL_law_25 13 rfl rfl)
theorem dL_law_646 : decode cL_law 646 = .ok (.iaload, 1) := dk_46 (dk_at dksL_law_25 14 rfl rfl)
theorem dL_law_647 : decode cL_law 647 = .ok (.aload_n 0, 1) := dk_42 (dk_at dksL_law_25 15 rfl rfl)
theorem dL_law_648 : decode cL_law 648 = .ok (.iload 4, 2) := dk_21 4 (dk_at dksL_law_25 16 rfl rfl)
theorem dL_law_650 : decode cL_law 650 = .ok (.iconst 2, 1) := dk_5 (dk_at dksL_law_25 18 rfl rfl)
theorem dL_law_651 : decode cL_law 651 = .ok (.iadd, 1) := dk_96 (dk_at dksL_law_25 19 rfl rfl)
theorem dL_law_652 : decode cL_law 652 = .ok (.iaload, 1) := dk_46 (dk_at dksL_law_25 20 rfl rfl)
theorem dL_law_653 : decode cL_law 653 = .ok (.invokestatic 106, 3) := dk_184 0 106 (dk_at dksL_law_25 21 rfl rfl)
theorem dL_law_656 : decode cL_law 656 = .ok (.istore 5, 2) := dk_54 5 (dk_at dksL_law_26 0 rfl rfl)
theorem dL_law_658 : decode cL_law 658 = .ok (.aload_n 2, 1) := dk_44 (dk_at dksL_law_26 2 rfl rfl)
theorem dL_law_659 : decode cL_law 659 = .ok (.aload_n 0, 1) := dk_42 (dk_at dksL_law_26 3 rfl rfl)
theorem dL_law_660 : decode cL_law 660 = .ok (.iload 4, 2) := dk_21 4 (dk_at dksL_law_26 4 rfl rfl)
theorem dL_law_662 : decode cL_law 662 = .ok (.iconst 1, 1) := dk_4 (dk_at dksL_law_26 6 rfl rfl)
theorem dL_law_663 : decode cL_law 663 = .ok (.iadd, 1) := dk_96 (dk_at dksL_law_26 7 rfl rfl)
theorem dL_law_664 : decode cL_law 664 = .ok (.iaload, 1) := dk_46 (dk_at dksL_law_26 8 rfl rfl)
theorem dL_law_665 : decode cL_law 665 = .ok (.aload_n 0, 1) := dk_42 (dk_at dksL_law_26 9 rfl rfl)
theorem dL_law_666 : decode cL_law 666 = .ok (.iload 4, 2) := dk_21 4 (dk_at dksL_law_26 10 rfl rfl)
theorem dL_law_668 : decode cL_law 668 = .ok (.iconst 2, 1) := dk_5 (dk_at dksL_law_26 12 rfl rfl)
theorem dL_law_669 : decode cL_law 669 = .ok (.iadd, 1) := dk_96 (dk_at dksL_law_26 13 rfl rfl)
theorem dL_law_670 : decode cL_law 670 = .ok (.iaload, 1) := dk_46 (dk_at dksL_law_26 14 rfl rfl)
theorem dL_law_671 : decode cL_law 671 = .ok (.invokevirtual 109, 3) := dk_182 0 109 (dk_at dksL_law_26 15 rfl rfl)
theorem dL_law_674 : decode cL_law 674 = .ok (.aload_n 2, 1) := dk_44 (dk_at dksL_law_26 18 rfl rfl)
theorem dL_law_675 : decode cL_law 675 = .ok (.invokevirtual 86, 3) := dk_182 0 86 (dk_at dksL_law_26 19 rfl rfl)
theorem dL_law_678 : decode cL_law 678 = .ok (.iload 5, 2) := dk_21 5 (dk_at dksL_law_26 22 rfl rfl)
theorem dL_law_680 : decode cL_law 680 = .ok (.if_icmp .eq 5, 3) := dk_159 0 5 (dk_at dksL_law_27 0 rfl rfl)
theorem dL_law_683 : decode cL_law 683 = .ok (.iconst 0, 1) := dk_3 (dk_at dksL_law_27 3 rfl rfl)
theorem dL_law_684 : decode cL_law 684 = .ok (.ireturn, 1) := dk_172 (dk_at dksL_law_27 4 rfl rfl)
theorem dL_law_685 : decode cL_law 685 = .ok (.goto 214, 3) := dk_167 0 214 (dk_at dksL_law_27 5 rfl rfl)
theorem dL_law_688 : decode cL_law 688 = .ok (.aload_n 1, 1) := dk_43 (dk_at dksL_law_27 8 rfl rfl)
theorem dL_law_689 : decode cL_law 689 = .ok (.aload_n 3, 1) := dk_45 (dk_at dksL_law_27 9 rfl rfl)
theorem dL_law_690 : decode cL_law 690 = .ok (.invokestatic 110, 3) := dk_184 0 110 (dk_at dksL_law_27 10 rfl rfl)
theorem dL_law_693 : decode cL_law 693 = .ok (.istore 5, 2) := dk_54 5 (dk_at dksL_law_27 13 rfl rfl)
theorem dL_law_695 : decode cL_law 695 = .ok (.aload_n 2, 1) := dk_44 (dk_at dksL_law_27 15 rfl rfl)
theorem dL_law_696 : decode cL_law 696 = .ok (.invokevirtual 112, 3) := dk_182 0 112 (dk_at dksL_law_27 16 rfl rfl)
theorem dL_law_699 : decode cL_law 699 = .ok (.istore 6, 2) := dk_54 6 (dk_at dksL_law_27 19 rfl rfl)
theorem dL_law_701 : decode cL_law 701 = .ok (.aload_n 2, 1) := dk_44 (dk_at dksL_law_27 21 rfl rfl)
theorem dL_law_702 : decode cL_law 702 = .ok (.invokevirtual 86, 3) := dk_182 0 86 (dk_at dksL_law_28 0 rfl rfl)
theorem dL_law_705 : decode cL_law 705 = .ok (.iload 5, 2) := dk_21 5 (dk_at dksL_law_28 3 rfl rfl)
theorem dL_law_707 : decode cL_law 707 = .ok (.if_icmp .eq 5, 3) := dk_159 0 5 (dk_at dksL_law_28 5 rfl rfl)
theorem dL_law_710 : decode cL_law 710 = .ok (.iconst 0, 1) := dk_3 (dk_at dksL_law_28 8 rfl rfl)
theorem dL_law_711 : decode cL_law 711 = .ok (.ireturn, 1) := dk_172 (dk_at dksL_law_28 9 rfl rfl)
theorem dL_law_712 : decode cL_law 712 = .ok (.iload 5, 2) := dk_21 5 (dk_at dksL_law_28 10 rfl rfl)
theorem dL_law_714 : decode cL_law 714 = .ok (.ifCond .ne 15, 3) := dk_154 0 15 (dk_at dksL_law_28 12 rfl rfl)
theorem dL_law_717 : decode cL_law 717 = .ok (.aload_n 3, 1) := dk_45 (dk_at dksL_law_28 15 rfl rfl)
theorem dL_law_718 : decode cL_law 718 = .ok (.iconst 0, 1) := dk_3 (dk_at dksL_law_28 16 rfl rfl)
theorem dL_law_719 : decode cL_law 719 = .ok (.laload, 1) := dk_47 (dk_at dksL_law_28 17 rfl rfl)
theorem dL_law_720 : decode cL_law 720 = .ok (.iload 6, 2) := dk_21 6 (dk_at dksL_law_28 18 rfl rfl)
theorem dL_law_722 : decode cL_law 722 = .ok (.i2l, 1) := dk_133 (dk_at dksL_law_28 20 rfl rfl)
theorem dL_law_723 : decode cL_law 723 = .ok (.lcmp, 1) := dk_148 (dk_at dksL_law_28 21 rfl rfl)
theorem dL_law_724 : decode cL_law 724 = .ok (.ifCond .eq 5, 3) := dk_153 0 5 (dk_at dksL_law_29 0 rfl rfl)
theorem dL_law_727 : decode cL_law 727 = .ok (.iconst 0, 1) := dk_3 (dk_at dksL_law_29 3 rfl rfl)
theorem dL_law_728 : decode cL_law 728 = .ok (.ireturn, 1) := dk_172 (dk_at dksL_law_29 4 rfl rfl)
theorem dL_law_729 : decode cL_law 729 = .ok (.goto 170, 3) := dk_167 0 170 (dk_at dksL_law_29 5 rfl rfl)
theorem dL_law_732 : decode cL_law 732 = .ok (.aload_n 1, 1) := dk_43 (dk_at dksL_law_29 8 rfl rfl)
theorem dL_law_733 : decode cL_law 733 = .ok (.invokevirtual 113, 3) := dk_182 0 113 (dk_at dksL_law_29 9 rfl rfl)
theorem dL_law_736 : decode cL_law 736 = .ok (.aload_n 2, 1) := dk_44 (dk_at dksL_law_29 12 rfl rfl)
theorem dL_law_737 : decode cL_law 737 = .ok (.invokevirtual 116, 3) := dk_182 0 116 (dk_at dksL_law_29 13 rfl rfl)
theorem dL_law_740 : decode cL_law 740 = .ok (.if_icmp .eq 159, 3) := dk_159 0 159 (dk_at dksL_law_29 16 rfl rfl)
theorem dL_law_743 : decode cL_law 743 = .ok (.iconst 0, 1) := dk_3 (dk_at dksL_law_29 19 rfl rfl)
theorem dL_law_744 : decode cL_law 744 = .ok (.ireturn, 1) := dk_172 (dk_at dksL_law_29 20 rfl rfl)
theorem dL_law_745 : decode cL_law 745 = .ok (.aload_n 1, 1) := dk_43 (dk_at dksL_law_29 21 rfl rfl)
theorem dL_law_746 : decode cL_law 746 = .ok (.aload_n 0, 1) := dk_42 (dk_at dksL_law_29 22 rfl rfl)
theorem dL_law_747 : decode cL_law 747 = .ok (.iload 4, 2) := dk_21 4 (dk_at dksL_law_30 0 rfl rfl)
theorem dL_law_749 : decode cL_law 749 = .ok (.iconst 1, 1) := dk_4 (dk_at dksL_law_30 2 rfl rfl)
theorem dL_law_750 : decode cL_law 750 = .ok (.iadd, 1) := dk_96 (dk_at dksL_law_30 3 rfl rfl)
theorem dL_law_751 : decode cL_law 751 = .ok (.iaload, 1) := dk_46 (dk_at dksL_law_30 4 rfl rfl)
theorem dL_law_752 : decode cL_law 752 = .ok (.invokevirtual 117, 3) := dk_182 0 117 (dk_at dksL_law_30 5 rfl rfl)
theorem dL_law_755 : decode cL_law 755 = .ok (.aload_n 2, 1) := dk_44 (dk_at dksL_law_30 8 rfl rfl)
theorem dL_law_756 : decode cL_law 756 = .ok (.aload_n 0, 1) := dk_42 (dk_at dksL_law_30 9 rfl rfl)
theorem dL_law_757 : decode cL_law 757 = .ok (.iload 4, 2) := dk_21 4 (dk_at dksL_law_30 10 rfl rfl)
theorem dL_law_759 : decode cL_law 759 = .ok (.iconst 1, 1) := dk_4 (dk_at dksL_law_30 12 rfl rfl)
theorem dL_law_760 : decode cL_law 760 = .ok (.iadd, 1) := dk_96 (dk_at dksL_law_30 13 rfl rfl)
theorem dL_law_761 : decode cL_law 761 = .ok (.iaload, 1) := dk_46 (dk_at dksL_law_30 14 rfl rfl)
theorem dL_law_762 : decode cL_law 762 = .ok (.invokevirtual 120, 3) := dk_182 0 120 (dk_at dksL_law_30 15 rfl rfl)
theorem dL_law_765 : decode cL_law 765 = .ok (.if_icmp .eq 134, 3) := dk_159 0 134 (dk_at dksL_law_30 18 rfl rfl)
theorem dL_law_768 : decode cL_law 768 = .ok (.iconst 0, 1) := dk_3 (dk_at dksL_law_30 21 rfl rfl)
theorem dL_law_769 : decode cL_law 769 = .ok (.ireturn, 1) := dk_172 (dk_at dksL_law_30 22 rfl rfl)
theorem dL_law_770 : decode cL_law 770 = .ok (.aload_n 1, 1) := dk_43 (dk_at dksL_law_30 23 rfl rfl)
theorem dL_law_771 : decode cL_law 771 = .ok (.aload_n 0, 1) := dk_42 (dk_at dksL_law_31 0 rfl rfl)
theorem dL_law_772 : decode cL_law 772 = .ok (.iload 4, 2) := dk_21 4 (dk_at dksL_law_31 1 rfl rfl)
theorem dL_law_774 : decode cL_law 774 = .ok (.iconst 1, 1) := dk_4 (dk_at dksL_law_31 3 rfl rfl)
theorem dL_law_775 : decode cL_law 775 = .ok (.iadd, 1) := dk_96 (dk_at dksL_law_31 4 rfl rfl)
theorem dL_law_776 : decode cL_law 776 = .ok (.iaload, 1) := dk_46 (dk_at dksL_law_31 5 rfl rfl)
theorem dL_law_777 : decode cL_law 777 = .ok (.aload_n 0, 1) := dk_42 (dk_at dksL_law_31 6 rfl rfl)
theorem dL_law_778 : decode cL_law 778 = .ok (.iload 4, 2) := dk_21 4 (dk_at dksL_law_31 7 rfl rfl)
theorem dL_law_780 : decode cL_law 780 = .ok (.iconst 2, 1) := dk_5 (dk_at dksL_law_31 9 rfl rfl)
theorem dL_law_781 : decode cL_law 781 = .ok (.iadd, 1) := dk_96 (dk_at dksL_law_31 10 rfl rfl)
theorem dL_law_782 : decode cL_law 782 = .ok (.iaload, 1) := dk_46 (dk_at dksL_law_31 11 rfl rfl)
theorem dL_law_783 : decode cL_law 783 = .ok (.invokestatic 121, 3) := dk_184 0 121 (dk_at dksL_law_31 12 rfl rfl)
theorem dL_law_786 : decode cL_law 786 = .ok (.istore 5, 2) := dk_54 5 (dk_at dksL_law_31 15 rfl rfl)
theorem dL_law_788 : decode cL_law 788 = .ok (.aload_n 2, 1) := dk_44 (dk_at dksL_law_31 17 rfl rfl)
theorem dL_law_789 : decode cL_law 789 = .ok (.aload_n 0, 1) := dk_42 (dk_at dksL_law_31 18 rfl rfl)
theorem dL_law_790 : decode cL_law 790 = .ok (.iload 4, 2) := dk_21 4 (dk_at dksL_law_31 19 rfl rfl)
theorem dL_law_792 : decode cL_law 792 = .ok (.iconst 1, 1) := dk_4 (dk_at dksL_law_31 21 rfl rfl)
theorem dL_law_793 : decode cL_law 793 = .ok (.iadd, 1) := dk_96 (dk_at dksL_law_31 22 rfl rfl)
theorem dL_law_794 : decode cL_law 794 = .ok (.iaload, 1) := dk_46 (dk_at dksL_law_31 23 rfl rfl)
theorem dL_law_795 : decode cL_law 795 = .ok (.aload_n 0, 1) := dk_42 (dk_at dksL_law_32 0 rfl rfl)
theorem dL_law_796 : decode cL_law 796 = .ok (.iload 4, 2) := dk_21 4 (dk_at dksL_law_32 1 rfl rfl)
theorem dL_law_798 : decode cL_law 798 = .ok (.iconst 2, 1) := dk_5 (dk_at dksL_law_32 3 rfl rfl)
theorem dL_law_799 : decode cL_law 799 = .ok (.iadd, 1) := dk_96 (dk_at dksL_law_32 4 rfl rfl)
theorem dL_law_800 : decode cL_law 800 = .ok (.iaload, 1) := dk_46 (dk_at dksL_law_32 5 rfl rfl)
theorem dL_law_801 : decode cL_law 801 = .ok (.invokevirtual 123, 3) := dk_182 0 123 (dk_at dksL_law_32 6 rfl rfl)
theorem dL_law_804 : decode cL_law 804 = .ok (.aload_n 2, 1) := dk_44 (dk_at dksL_law_32 9 rfl rfl)
theorem dL_law_805 : decode cL_law 805 = .ok (.invokevirtual 86, 3) := dk_182 0 86 (dk_at dksL_law_32 10 rfl rfl)
theorem dL_law_808 : decode cL_law 808 = .ok (.iload 5, 2) := dk_21 5 (dk_at dksL_law_32 13 rfl rfl)
theorem dL_law_810 : decode cL_law 810 = .ok (.if_icmp .eq 5, 3) := dk_159 0 5 (dk_at dksL_law_32 15 rfl rfl)
theorem dL_law_813 : decode cL_law 813 = .ok (.iconst 0, 1) := dk_3 (dk_at dksL_law_32 18 rfl rfl)
theorem dL_law_814 : decode cL_law 814 = .ok (.ireturn, 1) := dk_172 (dk_at dksL_law_32 19 rfl rfl)
theorem dL_law_815 : decode cL_law 815 = .ok (.goto 84, 3) := dk_167 0 84 (dk_at dksL_law_32 20 rfl rfl)
theorem dL_law_818 : decode cL_law 818 = .ok (.aload_n 1, 1) := dk_43 (dk_at dksL_law_32 23 rfl rfl)
theorem dL_law_819 : decode cL_law 819 = .ok (.aload_n 0, 1) := dk_42 (dk_at dksL_law_33 0 rfl rfl)
theorem dL_law_820 : decode cL_law 820 = .ok (.iload 4, 2) := dk_21 4 (dk_at dksL_law_33 1 rfl rfl)
theorem dL_law_822 : decode cL_law 822 = .ok (.iconst 1, 1) := dk_4 (dk_at dksL_law_33 3 rfl rfl)
theorem dL_law_823 : decode cL_law 823 = .ok (.iadd, 1) := dk_96 (dk_at dksL_law_33 4 rfl rfl)
theorem dL_law_824 : decode cL_law 824 = .ok (.iaload, 1) := dk_46 (dk_at dksL_law_33 5 rfl rfl)
theorem dL_law_825 : decode cL_law 825 = .ok (.aload_n 3, 1) := dk_45 (dk_at dksL_law_33 6 rfl rfl)
theorem dL_law_826 : decode cL_law 826 = .ok (.invokestatic 124, 3) := dk_184 0 124 (dk_at dksL_law_33 7 rfl rfl)
theorem dL_law_829 : decode cL_law 829 = .ok (.istore 5, 2) := dk_54 5 (dk_at dksL_law_33 10 rfl rfl)
theorem dL_law_831 : decode cL_law 831 = .ok (.aload_n 2, 1) := dk_44 (dk_at dksL_law_33 12 rfl rfl)
theorem dL_law_832 : decode cL_law 832 = .ok (.aload_n 0, 1) := dk_42 (dk_at dksL_law_33 13 rfl rfl)
theorem dL_law_833 : decode cL_law 833 = .ok (.iload 4, 2) := dk_21 4 (dk_at dksL_law_33 14 rfl rfl)
theorem dL_law_835 : decode cL_law 835 = .ok (.iconst 1, 1) := dk_4 (dk_at dksL_law_33 16 rfl rfl)
theorem dL_law_836 : decode cL_law 836 = .ok (.iadd, 1) := dk_96 (dk_at dksL_law_33 17 rfl rfl)
theorem dL_law_837 : decode cL_law 837 = .ok (.iaload, 1) := dk_46 (dk_at dksL_law_33 18 rfl rfl)
theorem dL_law_838 : decode cL_law 838 = .ok (.invokevirtual 127, 3) := dk_182 0 127 (dk_at dksL_law_33 19 rfl rfl)
theorem dL_law_841 : decode cL_law 841 = .ok (.istore 6, 2) := dk_54 6 (dk_at dksL_law_33 22 rfl rfl)
theorem dL_law_843 : decode cL_law 843 = .ok (.aload_n 2, 1) := dk_44 (dk_at dksL_law_34 0 rfl rfl)
theorem dL_law_844 : decode cL_law 844 = .ok (.invokevirtual 86, 3) := dk_182 0 86 (dk_at dksL_law_34 1 rfl rfl)
theorem dL_law_847 : decode cL_law 847 = .ok (.iload 5, 2) := dk_21 5 (dk_at dksL_law_34 4 rfl rfl)
theorem dL_law_849 : decode cL_law 849 = .ok (.if_icmp .eq 5, 3) := dk_159 0 5 (dk_at dksL_law_34 6 rfl rfl)
theorem dL_law_852 : decode cL_law 852 = .ok (.iconst 0, 1) := dk_3 (dk_at dksL_law_34 9 rfl rfl)
theorem dL_law_853 : decode cL_law 853 = .ok (.ireturn, 1) := dk_172 (dk_at dksL_law_34 10 rfl rfl)
theorem dL_law_854 : decode cL_law 854 = .ok (.iload 5, 2) := dk_21 5 (dk_at dksL_law_34 11 rfl rfl)
theorem dL_law_856 : decode cL_law 856 = .ok (.ifCond .ne 15, 3) := dk_154 0 15 (dk_at dksL_law_34 13 rfl rfl)
theorem dL_law_859 : decode cL_law 859 = .ok (.aload_n 3, 1) := dk_45 (dk_at dksL_law_34 16 rfl rfl)
theorem dL_law_860 : decode cL_law 860 = .ok (.iconst 0, 1) := dk_3 (dk_at dksL_law_34 17 rfl rfl)
theorem dL_law_861 : decode cL_law 861 = .ok (.laload, 1) := dk_47 (dk_at dksL_law_34 18 rfl rfl)
theorem dL_law_862 : decode cL_law 862 = .ok (.iload 6, 2) := dk_21 6 (dk_at dksL_law_34 19 rfl rfl)
theorem dL_law_864 : decode cL_law 864 = .ok (.i2l, 1) := dk_133 (dk_at dksL_law_34 21 rfl rfl)
theorem dL_law_865 : decode cL_law 865 = .ok (.lcmp, 1) := dk_148 (dk_at dksL_law_34 22 rfl rfl)
theorem dL_law_866 : decode cL_law 866 = .ok (.ifCond .eq 5, 3) := dk_153 0 5 (dk_at dksL_law_35 0 rfl rfl)
theorem dL_law_869 : decode cL_law 869 = .ok (.iconst 0, 1) := dk_3 (dk_at dksL_law_35 3 rfl rfl)
theorem dL_law_870 : decode cL_law 870 = .ok (.ireturn, 1) := dk_172 (dk_at dksL_law_35 4 rfl rfl)
theorem dL_law_871 : decode cL_law 871 = .ok (.goto 28, 3) := dk_167 0 28 (dk_at dksL_law_35 5 rfl rfl)
theorem dL_law_874 : decode cL_law 874 = .ok (.aload_n 1, 1) := dk_43 (dk_at dksL_law_35 8 rfl rfl)
theorem dL_law_875 : decode cL_law 875 = .ok (.aload_n 0, 1) := dk_42 (dk_at dksL_law_35 9 rfl rfl)
theorem dL_law_876 : decode cL_law 876 = .ok (.iload 4, 2) := dk_21 4 (dk_at dksL_law_35 10 rfl rfl)
theorem dL_law_878 : decode cL_law 878 = .ok (.iconst 1, 1) := dk_4 (dk_at dksL_law_35 12 rfl rfl)
theorem dL_law_879 : decode cL_law 879 = .ok (.iadd, 1) := dk_96 (dk_at dksL_law_35 13 rfl rfl)
theorem dL_law_880 : decode cL_law 880 = .ok (.iaload, 1) := dk_46 (dk_at dksL_law_35 14 rfl rfl)
theorem dL_law_881 : decode cL_law 881 = .ok (.invokevirtual 128, 3) := dk_182 0 128 (dk_at dksL_law_35 15 rfl rfl)
theorem dL_law_884 : decode cL_law 884 = .ok (.aload_n 2, 1) := dk_44 (dk_at dksL_law_35 18 rfl rfl)
theorem dL_law_885 : decode cL_law 885 = .ok (.aload_n 0, 1) := dk_42 (dk_at dksL_law_35 19 rfl rfl)
theorem dL_law_886 : decode cL_law 886 = .ok (.iload 4, 2) := dk_21 4 (dk_at dksL_law_35 20 rfl rfl)
theorem dL_law_888 : decode cL_law 888 = .ok (.iconst 1, 1) := dk_4 (dk_at dksL_law_35 22 rfl rfl)
theorem dL_law_889 : decode cL_law 889 = .ok (.iadd, 1) := dk_96 (dk_at dksL_law_35 23 rfl rfl)
theorem dL_law_890 : decode cL_law 890 = .ok (.iaload, 1) := dk_46 (dk_at dksL_law_36 0 rfl rfl)
theorem dL_law_891 : decode cL_law 891 = .ok (.invokevirtual 131, 3) := dk_182 0 131 (dk_at dksL_law_36 1 rfl rfl)
theorem dL_law_894 : decode cL_law 894 = .ok (.if_icmp .eq 5, 3) := dk_159 0 5 (dk_at dksL_law_36 4 rfl rfl)
theorem dL_law_897 : decode cL_law 897 = .ok (.iconst 0, 1) := dk_3 (dk_at dksL_law_36 7 rfl rfl)
theorem dL_law_898 : decode cL_law 898 = .ok (.ireturn, 1) := dk_172 (dk_at dksL_law_36 8 rfl rfl)
theorem dL_law_899 : decode cL_law 899 = .ok (.iinc 4 4, 3) := dk_132 4 4 (dk_at dksL_law_36 9 rfl rfl)
theorem dL_law_902 : decode cL_law 902 = .ok (.goto (-879), 3) := dk_167 252 145 (dk_at dksL_law_36 12 rfl rfl)
theorem dL_law_905 : decode cL_law 905 = .ok (.iconst 1, 1) := dk_4 (dk_at dksL_law_36 15 rfl rfl)
theorem dL_law_906 : decode cL_law 906 = .ok (.ireturn, 1) := dk_172 (dk_at dksL_law_36 16 rfl rfl)
