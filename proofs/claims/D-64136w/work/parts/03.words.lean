theorem q78 : (Jvm.Cond.initialized "LeastSolutions$Word") ∈ lw_all := lw_g (lw_at lw_m1 4 rfl) rfl
set_option maxRecDepth 100000
theorem q127 : (Jvm.Cond.laysStatic "LeastSolutions$Word" "END" "LLeastSolutions$Word;") ∈ lw_tbl := lw_at lw_m1 53 rfl
theorem q560 : (Jvm.Cond.laysStatic "LeastSolutions$Word" "WRONG" "LLeastSolutions$Word;") ∈ lw_tbl := lw_at lw_m3 6 rfl
theorem q562 : (Jvm.Cond.laysStatic "LeastSolutions$Word" "NUMBER" "LLeastSolutions$Word;") ∈ lw_tbl := lw_at lw_m3 8 rfl
theorem q564 : (Jvm.Cond.laysStatic "LeastSolutions$Word" "VARIABLE" "LLeastSolutions$Word;") ∈ lw_tbl := lw_at lw_m3 10 rfl
theorem q566 : (Jvm.Cond.laysStatic "LeastSolutions$Word" "PLUS" "LLeastSolutions$Word;") ∈ lw_tbl := lw_at lw_m3 12 rfl
theorem q568 : (Jvm.Cond.laysStatic "LeastSolutions$Word" "MINUS" "LLeastSolutions$Word;") ∈ lw_tbl := lw_at lw_m3 14 rfl
theorem q570 : (Jvm.Cond.laysStatic "LeastSolutions$Word" "TIMES" "LLeastSolutions$Word;") ∈ lw_tbl := lw_at lw_m3 16 rfl
theorem q572 : (Jvm.Cond.laysStatic "LeastSolutions$Word" "STOP" "LLeastSolutions$Word;") ∈ lw_tbl := lw_at lw_m3 18 rfl
theorem q574 : (Jvm.Cond.laysStatic "LeastSolutions$Word" "EQUAL" "LLeastSolutions$Word;") ∈ lw_tbl := lw_at lw_m3 20 rfl
theorem q576 : (Jvm.Cond.laysStatic "LeastSolutions$Word" "LESS" "LLeastSolutions$Word;") ∈ lw_tbl := lw_at lw_m3 22 rfl
theorem q578 : (Jvm.Cond.laysStatic "LeastSolutions$Word" "MORE" "LLeastSolutions$Word;") ∈ lw_tbl := lw_at lw_m3 24 rfl
theorem q736 : (Jvm.Cond.selects "LeastSolutions$Word" ({ cls := "java/lang/Object", name := "getClass", desc := "()Ljava/lang/Class;" } : Jvm.MethodName) ({ cls := "java/lang/Object", name := "getClass", desc := "()Ljava/lang/Class;" } : Jvm.MethodName)) ∈ lw_all := lw_g (lw_at lw_m3 182 rfl) rfl
theorem q1710 : (Jvm.Cond.castable "LeastSolutions$Word" "java/lang/Object") ∈ lw_tbl := lw_at lw_m7 196 rfl
theorem q1107 : (Jvm.Cond.sameMethod "[B" "java/lang/Object" "clone" "()Ljava/lang/Object;") ∈ lw_all := lw_g (lw_at lw_m5 73 rfl) rfl
set_option maxRecDepth 100000
theorem q1110 : (Jvm.Cond.selects "[B" ({ cls := "[B", name := "clone", desc := "()Ljava/lang/Object;" } : Jvm.MethodName) ({ cls := "java/lang/Object", name := "clone", desc := "()Ljava/lang/Object;" } : Jvm.MethodName)) ∈ lw_all := lw_g (lw_at lw_m5 76 rfl) rfl
theorem q1111 : (Jvm.Cond.castable "[B" "java/lang/Cloneable") ∈ lw_tbl := lw_at lw_m5 77 rfl
theorem q1731 : (Jvm.Cond.castable "[B" "java/lang/Object") ∈ lw_tbl := lw_at lw_m7 217 rfl
theorem q1732 : (Jvm.Cond.castable "[I" "java/lang/Object") ∈ lw_tbl := lw_at lw_m7 218 rfl
set_option maxRecDepth 100000
theorem q1735 : (Jvm.Cond.castable "[J" "java/lang/Object") ∈ lw_tbl := lw_at lw_m7 221 rfl
set_option maxRecDepth 100000
theorem q1736 : (Jvm.Cond.castable "[LLeastSolutions$Found;" "java/lang/Object") ∈ lw_tbl := lw_at lw_m7 222 rfl
set_option maxRecDepth 100000
theorem q1728 : (Jvm.Cond.sameMethod "[Ljava/lang/Object;" "java/lang/Object" "getClass" "()Ljava/lang/Class;") ∈ lw_all := lw_g (lw_at lw_m7 214 rfl) rfl
set_option maxRecDepth 100000
theorem q1729 : (Jvm.Cond.selects "[Ljava/lang/Object;" ({ cls := "java/lang/Object", name := "getClass", desc := "()Ljava/lang/Class;" } : Jvm.MethodName) ({ cls := "java/lang/Object", name := "getClass", desc := "()Ljava/lang/Class;" } : Jvm.MethodName)) ∈ lw_all := lw_g (lw_at lw_m7 215 rfl) rfl
theorem q1737 : (Jvm.Cond.castable "[Ljava/lang/Object;" "java/lang/Object") ∈ lw_tbl := lw_at lw_m7 223 rfl
theorem q1738 : (Jvm.Cond.castable "[Z" "java/lang/Object") ∈ lw_tbl := lw_at lw_m7 224 rfl
set_option maxRecDepth 100000
theorem q1733 : (Jvm.Cond.castable "[[I" "java/lang/Object") ∈ lw_tbl := lw_at lw_m7 219 rfl
set_option maxRecDepth 100000
theorem q1734 : (Jvm.Cond.castable "[[J" "java/lang/Object") ∈ lw_tbl := lw_at lw_m7 220 rfl
set_option maxRecDepth 100000
theorem q77 : (Jvm.Cond.initialized "java/lang/Enum") ∈ lw_all := lw_g (lw_at lw_m1 3 rfl) rfl
set_option maxRecDepth 100000
theorem q109 : (Jvm.Cond.initialized "java/lang/Number") ∈ lw_all := lw_g (lw_at lw_m1 35 rfl) rfl
set_option maxRecDepth 100000
theorem q99 : (Jvm.Cond.initialized "java/lang/System") ∈ lw_all := lw_g (lw_at lw_m1 25 rfl) rfl
set_option maxRecDepth 100000
theorem q757 : (Jvm.Cond.static ({ cls := "java/lang/System", name := "arraycopy", desc := "(Ljava/lang/Object;ILjava/lang/Object;II)V" } : Jvm.MethodName)) ∈ lw_all := lw_g (lw_at lw_m3 203 rfl) rfl
theorem q758 : (Jvm.Cond.native ({ cls := "java/lang/System", name := "arraycopy", desc := "(Ljava/lang/Object;ILjava/lang/Object;II)V" } : Jvm.MethodName)) ∈ lw_all := lw_g (lw_at lw_m3 204 rfl) rfl
theorem q152 : (Jvm.Cond.arrayClass Jvm.ClassFile.FieldType.byte) ∈ lw_all := lw_g (lw_at lw_m1 78 rfl) rfl
set_option maxRecDepth 100000
theorem q257 : (Jvm.Cond.arrayClass Jvm.ClassFile.FieldType.int) ∈ lw_all := lw_g (lw_at lw_m1 183 rfl) rfl
theorem q265 : (Jvm.Cond.arrayOver (Jvm.ClassFile.FieldType.array Jvm.ClassFile.FieldType.int)) ∈ lw_tbl := lw_at lw_m1 191 rfl
theorem q316 : (Jvm.Cond.arrayOver (Jvm.ClassFile.FieldType.array Jvm.ClassFile.FieldType.long)) ∈ lw_tbl := lw_at lw_m2 2 rfl
theorem q334 : (Jvm.Cond.arrayClass Jvm.ClassFile.FieldType.long) ∈ lw_all := lw_g (lw_at lw_m2 20 rfl) rfl
theorem q444 : (Jvm.Cond.arrayOver (Jvm.ClassFile.FieldType.object "LeastSolutions$Found")) ∈ lw_tbl := lw_at lw_m2 130 rfl
theorem q751 : (Jvm.Cond.arrayOver (Jvm.ClassFile.FieldType.object "java/lang/Object")) ∈ lw_tbl := lw_at lw_m3 197 rfl
theorem q1499 : (Jvm.Cond.arrayClass Jvm.ClassFile.FieldType.boolean) ∈ lw_all := lw_g (lw_at lw_m6 225 rfl) rfl
