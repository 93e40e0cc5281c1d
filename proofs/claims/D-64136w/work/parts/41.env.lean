/-! THE START: constants -/
set_option maxRecDepth 100000
def EvOk (ev : Nat → Nat) : Prop := ((List.range 11).map ev).Nodup
theorem s_exact {args : Array Value} {s : State} {t : Term} {cls : String} (h : (Cond.exactly t cls).before args s = true) : ∃ a : Nat, t.eval args s none [] s = some (.ref a) := by
  obtain ⟨a, -, -, -, h, -⟩ := Cond.exactly_spec h
  exact ⟨a, h⟩
set_option maxHeartbeats 4000000 in
theorem s_env {s : State} {args : Array Value} (ht : ∀ w ∈ lw_tbl, w.before args s = true) (hn : ∀ w ∈ flatC (Jvm.Cond.and given_1 narrow_1), w.before args s = true) : ∃ ev : Nat → Nat, EX ev (fun q => s.heap.size ≤ q) s s.heap ∧ ZX (fun q => s.heap.size ≤ q) s s.heap ∧ EvOk ev := by
  have hA : ∀ a : Nat, a < s.heap.size → ¬ (s.heap.size ≤ a) := fun a h => Nat.not_le.mpr h
  obtain ⟨w0, e0⟩ := s_exact (hn (.exactly (.static "LeastSolutions$Word" "NUMBER" "LLeastSolutions$Word;") "LeastSolutions$Word") (by decide +kernel))
  have z0 := va_Zof (A := fun q => s.heap.size ≤ q) (ht _ q562) (ht _ (lw_all_tbl q78)) e0 hA
  obtain ⟨w1, e1⟩ := s_exact (hn (.exactly (.static "LeastSolutions$Word" "VARIABLE" "LLeastSolutions$Word;") "LeastSolutions$Word") (by decide +kernel))
  have z1 := va_Zof (A := fun q => s.heap.size ≤ q) (ht _ q564) (ht _ (lw_all_tbl q78)) e1 hA
  obtain ⟨w2, e2⟩ := s_exact (hn (.exactly (.static "LeastSolutions$Word" "PLUS" "LLeastSolutions$Word;") "LeastSolutions$Word") (by decide +kernel))
  have z2 := va_Zof (A := fun q => s.heap.size ≤ q) (ht _ q566) (ht _ (lw_all_tbl q78)) e2 hA
  obtain ⟨w3, e3⟩ := s_exact (hn (.exactly (.static "LeastSolutions$Word" "MINUS" "LLeastSolutions$Word;") "LeastSolutions$Word") (by decide +kernel))
  have z3 := va_Zof (A := fun q => s.heap.size ≤ q) (ht _ q568) (ht _ (lw_all_tbl q78)) e3 hA
  obtain ⟨w4, e4⟩ := s_exact (hn (.exactly (.static "LeastSolutions$Word" "TIMES" "LLeastSolutions$Word;") "LeastSolutions$Word") (by decide +kernel))
  have z4 := va_Zof (A := fun q => s.heap.size ≤ q) (ht _ q570) (ht _ (lw_all_tbl q78)) e4 hA
  obtain ⟨w5, e5⟩ := s_exact (hn (.exactly (.static "LeastSolutions$Word" "EQUAL" "LLeastSolutions$Word;") "LeastSolutions$Word") (by decide +kernel))
  have z5 := va_Zof (A := fun q => s.heap.size ≤ q) (ht _ q574) (ht _ (lw_all_tbl q78)) e5 hA
  obtain ⟨w6, e6⟩ := s_exact (hn (.exactly (.static "LeastSolutions$Word" "LESS" "LLeastSolutions$Word;") "LeastSolutions$Word") (by decide +kernel))
  have z6 := va_Zof (A := fun q => s.heap.size ≤ q) (ht _ q576) (ht _ (lw_all_tbl q78)) e6 hA
  obtain ⟨w7, e7⟩ := s_exact (hn (.exactly (.static "LeastSolutions$Word" "MORE" "LLeastSolutions$Word;") "LeastSolutions$Word") (by decide +kernel))
  have z7 := va_Zof (A := fun q => s.heap.size ≤ q) (ht _ q578) (ht _ (lw_all_tbl q78)) e7 hA
  obtain ⟨w8, e8⟩ := s_exact (hn (.exactly (.static "LeastSolutions$Word" "STOP" "LLeastSolutions$Word;") "LeastSolutions$Word") (by decide +kernel))
  have z8 := va_Zof (A := fun q => s.heap.size ≤ q) (ht _ q572) (ht _ (lw_all_tbl q78)) e8 hA
  obtain ⟨w9, e9⟩ := s_exact (hn (.exactly (.static "LeastSolutions$Word" "END" "LLeastSolutions$Word;") "LeastSolutions$Word") (by decide +kernel))
  have z9 := va_Zof (A := fun q => s.heap.size ≤ q) (ht _ q127) (ht _ (lw_all_tbl q78)) e9 hA
  obtain ⟨w10, e10⟩ := s_exact (hn (.exactly (.static "LeastSolutions$Word" "WRONG" "LLeastSolutions$Word;") "LeastSolutions$Word") (by decide +kernel))
  have z10 := va_Zof (A := fun q => s.heap.size ≤ q) (ht _ q560) (ht _ (lw_all_tbl q78)) e10 hA
  have n0_1 : w0 ≠ w1 := va_neR (hn (.not (.eq (.static "LeastSolutions$Word" "NUMBER" "LLeastSolutions$Word;") (.static "LeastSolutions$Word" "VARIABLE" "LLeastSolutions$Word;"))) (by decide +kernel)) e0 e1
  have n0_2 : w0 ≠ w2 := va_neR (hn (.not (.eq (.static "LeastSolutions$Word" "NUMBER" "LLeastSolutions$Word;") (.static "LeastSolutions$Word" "PLUS" "LLeastSolutions$Word;"))) (by decide +kernel)) e0 e2
  have n0_3 : w0 ≠ w3 := va_neR (hn (.not (.eq (.static "LeastSolutions$Word" "NUMBER" "LLeastSolutions$Word;") (.static "LeastSolutions$Word" "MINUS" "LLeastSolutions$Word;"))) (by decide +kernel)) e0 e3
  have n0_4 : w0 ≠ w4 := va_neR (hn (.not (.eq (.static "LeastSolutions$Word" "NUMBER" "LLeastSolutions$Word;") (.static "LeastSolutions$Word" "TIMES" "LLeastSolutions$Word;"))) (by decide +kernel)) e0 e4
  have n0_5 : w0 ≠ w5 := va_neR (hn (.not (.eq (.static "LeastSolutions$Word" "NUMBER" "LLeastSolutions$Word;") (.static "LeastSolutions$Word" "EQUAL" "LLeastSolutions$Word;"))) (by decide +kernel)) e0 e5
  have n0_6 : w0 ≠ w6 := va_neR (hn (.not (.eq (.static "LeastSolutions$Word" "NUMBER" "LLeastSolutions$Word;") (.static "LeastSolutions$Word" "LESS" "LLeastSolutions$Word;"))) (by decide +kernel)) e0 e6
  have n0_7 : w0 ≠ w7 := va_neR (hn (.not (.eq (.static "LeastSolutions$Word" "NUMBER" "LLeastSolutions$Word;") (.static "LeastSolutions$Word" "MORE" "LLeastSolutions$Word;"))) (by decide +kernel)) e0 e7
  have n0_8 : w0 ≠ w8 := va_neR (hn (.not (.eq (.static "LeastSolutions$Word" "NUMBER" "LLeastSolutions$Word;") (.static "LeastSolutions$Word" "STOP" "LLeastSolutions$Word;"))) (by decide +kernel)) e0 e8
  have n0_9 : w0 ≠ w9 := (va_neR (hn (.not (.eq (.static "LeastSolutions$Word" "END" "LLeastSolutions$Word;") (.static "LeastSolutions$Word" "NUMBER" "LLeastSolutions$Word;"))) (by decide +kernel)) e9 e0).symm
  have n0_10 : w0 ≠ w10 := (va_neR (hn (.not (.eq (.static "LeastSolutions$Word" "WRONG" "LLeastSolutions$Word;") (.static "LeastSolutions$Word" "NUMBER" "LLeastSolutions$Word;"))) (by decide +kernel)) e10 e0).symm
  have n1_2 : w1 ≠ w2 := va_neR (hn (.not (.eq (.static "LeastSolutions$Word" "VARIABLE" "LLeastSolutions$Word;") (.static "LeastSolutions$Word" "PLUS" "LLeastSolutions$Word;"))) (by decide +kernel)) e1 e2
  have n1_3 : w1 ≠ w3 := va_neR (hn (.not (.eq (.static "LeastSolutions$Word" "VARIABLE" "LLeastSolutions$Word;") (.static "LeastSolutions$Word" "MINUS" "LLeastSolutions$Word;"))) (by decide +kernel)) e1 e3
  have n1_4 : w1 ≠ w4 := va_neR (hn (.not (.eq (.static "LeastSolutions$Word" "VARIABLE" "LLeastSolutions$Word;") (.static "LeastSolutions$Word" "TIMES" "LLeastSolutions$Word;"))) (by decide +kernel)) e1 e4
  have n1_5 : w1 ≠ w5 := va_neR (hn (.not (.eq (.static "LeastSolutions$Word" "VARIABLE" "LLeastSolutions$Word;") (.static "LeastSolutions$Word" "EQUAL" "LLeastSolutions$Word;"))) (by decide +kernel)) e1 e5
  have n1_6 : w1 ≠ w6 := va_neR (hn (.not (.eq (.static "LeastSolutions$Word" "VARIABLE" "LLeastSolutions$Word;") (.static "LeastSolutions$Word" "LESS" "LLeastSolutions$Word;"))) (by decide +kernel)) e1 e6
  have n1_7 : w1 ≠ w7 := va_neR (hn (.not (.eq (.static "LeastSolutions$Word" "VARIABLE" "LLeastSolutions$Word;") (.static "LeastSolutions$Word" "MORE" "LLeastSolutions$Word;"))) (by decide +kernel)) e1 e7
  have n1_8 : w1 ≠ w8 := va_neR (hn (.not (.eq (.static "LeastSolutions$Word" "VARIABLE" "LLeastSolutions$Word;") (.static "LeastSolutions$Word" "STOP" "LLeastSolutions$Word;"))) (by decide +kernel)) e1 e8
  have n1_9 : w1 ≠ w9 := (va_neR (hn (.not (.eq (.static "LeastSolutions$Word" "END" "LLeastSolutions$Word;") (.static "LeastSolutions$Word" "VARIABLE" "LLeastSolutions$Word;"))) (by decide +kernel)) e9 e1).symm
  have n1_10 : w1 ≠ w10 := (va_neR (hn (.not (.eq (.static "LeastSolutions$Word" "WRONG" "LLeastSolutions$Word;") (.static "LeastSolutions$Word" "VARIABLE" "LLeastSolutions$Word;"))) (by decide +kernel)) e10 e1).symm
  have n2_3 : w2 ≠ w3 := va_neR (hn (.not (.eq (.static "LeastSolutions$Word" "PLUS" "LLeastSolutions$Word;") (.static "LeastSolutions$Word" "MINUS" "LLeastSolutions$Word;"))) (by decide +kernel)) e2 e3
  have n2_4 : w2 ≠ w4 := va_neR (hn (.not (.eq (.static "LeastSolutions$Word" "PLUS" "LLeastSolutions$Word;") (.static "LeastSolutions$Word" "TIMES" "LLeastSolutions$Word;"))) (by decide +kernel)) e2 e4
  have n2_5 : w2 ≠ w5 := va_neR (hn (.not (.eq (.static "LeastSolutions$Word" "PLUS" "LLeastSolutions$Word;") (.static "LeastSolutions$Word" "EQUAL" "LLeastSolutions$Word;"))) (by decide +kernel)) e2 e5
  have n2_6 : w2 ≠ w6 := va_neR (hn (.not (.eq (.static "LeastSolutions$Word" "PLUS" "LLeastSolutions$Word;") (.static "LeastSolutions$Word" "LESS" "LLeastSolutions$Word;"))) (by decide +kernel)) e2 e6
  have n2_7 : w2 ≠ w7 := va_neR (hn (.not (.eq (.static "LeastSolutions$Word" "PLUS" "LLeastSolutions$Word;") (.static "LeastSolutions$Word" "MORE" "LLeastSolutions$Word;"))) (by decide +kernel)) e2 e7
  have n2_8 : w2 ≠ w8 := va_neR (hn (.not (.eq (.static "LeastSolutions$Word" "PLUS" "LLeastSolutions$Word;") (.static "LeastSolutions$Word" "STOP" "LLeastSolutions$Word;"))) (by decide +kernel)) e2 e8
  have n2_9 : w2 ≠ w9 := (va_neR (hn (.not (.eq (.static "LeastSolutions$Word" "END" "LLeastSolutions$Word;") (.static "LeastSolutions$Word" "PLUS" "LLeastSolutions$Word;"))) (by decide +kernel)) e9 e2).symm
  have n2_10 : w2 ≠ w10 := (va_neR (hn (.not (.eq (.static "LeastSolutions$Word" "WRONG" "LLeastSolutions$Word;") (.static "LeastSolutions$Word" "PLUS" "LLeastSolutions$Word;"))) (by decide +kernel)) e10 e2).symm
  have n3_4 : w3 ≠ w4 := va_neR (hn (.not (.eq (.static "LeastSolutions$Word" "MINUS" "LLeastSolutions$Word;") (.static "LeastSolutions$Word" "TIMES" "LLeastSolutions$Word;"))) (by decide +kernel)) e3 e4
  have n3_5 : w3 ≠ w5 := va_neR (hn (.not (.eq (.static "LeastSolutions$Word" "MINUS" "LLeastSolutions$Word;") (.static "LeastSolutions$Word" "EQUAL" "LLeastSolutions$Word;"))) (by decide +kernel)) e3 e5
  have n3_6 : w3 ≠ w6 := va_neR (hn (.not (.eq (.static "LeastSolutions$Word" "MINUS" "LLeastSolutions$Word;") (.static "LeastSolutions$Word" "LESS" "LLeastSolutions$Word;"))) (by decide +kernel)) e3 e6
  have n3_7 : w3 ≠ w7 := va_neR (hn (.not (.eq (.static "LeastSolutions$Word" "MINUS" "LLeastSolutions$Word;") (.static "LeastSolutions$Word" "MORE" "LLeastSolutions$Word;"))) (by decide +kernel)) e3 e7
  have n3_8 : w3 ≠ w8 := va_neR (hn (.not (.eq (.static "LeastSolutions$Word" "MINUS" "LLeastSolutions$Word;") (.static "LeastSolutions$Word" "STOP" "LLeastSolutions$Word;"))) (by decide +kernel)) e3 e8
  have n3_9 : w3 ≠ w9 := (va_neR (hn (.not (.eq (.static "LeastSolutions$Word" "END" "LLeastSolutions$Word;") (.static "LeastSolutions$Word" "MINUS" "LLeastSolutions$Word;"))) (by decide +kernel)) e9 e3).symm
  have n3_10 : w3 ≠ w10 := (va_neR (hn (.not (.eq (.static "LeastSolutions$Word" "WRONG" "LLeastSolutions$Word;") (.static "LeastSolutions$Word" "MINUS" "LLeastSolutions$Word;"))) (by decide +kernel)) e10 e3).symm
  have n4_5 : w4 ≠ w5 := va_neR (hn (.not (.eq (.static "LeastSolutions$Word" "TIMES" "LLeastSolutions$Word;") (.static "LeastSolutions$Word" "EQUAL" "LLeastSolutions$Word;"))) (by decide +kernel)) e4 e5
  have n4_6 : w4 ≠ w6 := va_neR (hn (.not (.eq (.static "LeastSolutions$Word" "TIMES" "LLeastSolutions$Word;") (.static "LeastSolutions$Word" "LESS" "LLeastSolutions$Word;"))) (by decide +kernel)) e4 e6
  have n4_7 : w4 ≠ w7 := va_neR (hn (.not (.eq (.static "LeastSolutions$Word" "TIMES" "LLeastSolutions$Word;") (.static "LeastSolutions$Word" "MORE" "LLeastSolutions$Word;"))) (by decide +kernel)) e4 e7
  have n4_8 : w4 ≠ w8 := va_neR (hn (.not (.eq (.static "LeastSolutions$Word" "TIMES" "LLeastSolutions$Word;") (.static "LeastSolutions$Word" "STOP" "LLeastSolutions$Word;"))) (by decide +kernel)) e4 e8
  have n4_9 : w4 ≠ w9 := (va_neR (hn (.not (.eq (.static "LeastSolutions$Word" "END" "LLeastSolutions$Word;") (.static "LeastSolutions$Word" "TIMES" "LLeastSolutions$Word;"))) (by decide +kernel)) e9 e4).symm
  have n4_10 : w4 ≠ w10 := (va_neR (hn (.not (.eq (.static "LeastSolutions$Word" "WRONG" "LLeastSolutions$Word;") (.static "LeastSolutions$Word" "TIMES" "LLeastSolutions$Word;"))) (by decide +kernel)) e10 e4).symm
  have n5_6 : w5 ≠ w6 := va_neR (hn (.not (.eq (.static "LeastSolutions$Word" "EQUAL" "LLeastSolutions$Word;") (.static "LeastSolutions$Word" "LESS" "LLeastSolutions$Word;"))) (by decide +kernel)) e5 e6
  have n5_7 : w5 ≠ w7 := va_neR (hn (.not (.eq (.static "LeastSolutions$Word" "EQUAL" "LLeastSolutions$Word;") (.static "LeastSolutions$Word" "MORE" "LLeastSolutions$Word;"))) (by decide +kernel)) e5 e7
  have n5_8 : w5 ≠ w8 := (va_neR (hn (.not (.eq (.static "LeastSolutions$Word" "STOP" "LLeastSolutions$Word;") (.static "LeastSolutions$Word" "EQUAL" "LLeastSolutions$Word;"))) (by decide +kernel)) e8 e5).symm
  have n5_9 : w5 ≠ w9 := (va_neR (hn (.not (.eq (.static "LeastSolutions$Word" "END" "LLeastSolutions$Word;") (.static "LeastSolutions$Word" "EQUAL" "LLeastSolutions$Word;"))) (by decide +kernel)) e9 e5).symm
  have n5_10 : w5 ≠ w10 := (va_neR (hn (.not (.eq (.static "LeastSolutions$Word" "WRONG" "LLeastSolutions$Word;") (.static "LeastSolutions$Word" "EQUAL" "LLeastSolutions$Word;"))) (by decide +kernel)) e10 e5).symm
  have n6_7 : w6 ≠ w7 := va_neR (hn (.not (.eq (.static "LeastSolutions$Word" "LESS" "LLeastSolutions$Word;") (.static "LeastSolutions$Word" "MORE" "LLeastSolutions$Word;"))) (by decide +kernel)) e6 e7
  have n6_8 : w6 ≠ w8 := (va_neR (hn (.not (.eq (.static "LeastSolutions$Word" "STOP" "LLeastSolutions$Word;") (.static "LeastSolutions$Word" "LESS" "LLeastSolutions$Word;"))) (by decide +kernel)) e8 e6).symm
  have n6_9 : w6 ≠ w9 := (va_neR (hn (.not (.eq (.static "LeastSolutions$Word" "END" "LLeastSolutions$Word;") (.static "LeastSolutions$Word" "LESS" "LLeastSolutions$Word;"))) (by decide +kernel)) e9 e6).symm
  have n6_10 : w6 ≠ w10 := (va_neR (hn (.not (.eq (.static "LeastSolutions$Word" "WRONG" "LLeastSolutions$Word;") (.static "LeastSolutions$Word" "LESS" "LLeastSolutions$Word;"))) (by decide +kernel)) e10 e6).symm
  have n7_8 : w7 ≠ w8 := (va_neR (hn (.not (.eq (.static "LeastSolutions$Word" "STOP" "LLeastSolutions$Word;") (.static "LeastSolutions$Word" "MORE" "LLeastSolutions$Word;"))) (by decide +kernel)) e8 e7).symm
  have n7_9 : w7 ≠ w9 := (va_neR (hn (.not (.eq (.static "LeastSolutions$Word" "END" "LLeastSolutions$Word;") (.static "LeastSolutions$Word" "MORE" "LLeastSolutions$Word;"))) (by decide +kernel)) e9 e7).symm
  have n7_10 : w7 ≠ w10 := (va_neR (hn (.not (.eq (.static "LeastSolutions$Word" "WRONG" "LLeastSolutions$Word;") (.static "LeastSolutions$Word" "MORE" "LLeastSolutions$Word;"))) (by decide +kernel)) e10 e7).symm
  have n8_9 : w8 ≠ w9 := (va_neR (hn (.not (.eq (.static "LeastSolutions$Word" "END" "LLeastSolutions$Word;") (.static "LeastSolutions$Word" "STOP" "LLeastSolutions$Word;"))) (by decide +kernel)) e9 e8).symm
  have n8_10 : w8 ≠ w10 := (va_neR (hn (.not (.eq (.static "LeastSolutions$Word" "WRONG" "LLeastSolutions$Word;") (.static "LeastSolutions$Word" "STOP" "LLeastSolutions$Word;"))) (by decide +kernel)) e10 e8).symm
  have n9_10 : w9 ≠ w10 := va_neR (hn (.not (.eq (.static "LeastSolutions$Word" "END" "LLeastSolutions$Word;") (.static "LeastSolutions$Word" "WRONG" "LLeastSolutions$Word;"))) (by decide +kernel)) e9 e10
  obtain ⟨t, et, zt⟩ := va_Tof (A := fun q => s.heap.size ≤ q) (N := 0) (f := fun _ => .null) (by decide) (hn (.arrayOf (.static "java/util/ArrayList" "DEFAULTCAPACITY_EMPTY_ELEMENTDATA" "[Ljava/lang/Object;") (.object "java/lang/Object")) (by decide +kernel)) (va_eqt (hn (.eq (.length (.static "java/util/ArrayList" "DEFAULTCAPACITY_EMPTY_ELEMENTDATA" "[Ljava/lang/Object;")) (.int 0)) (by decide +kernel))) (fun j hj => absurd hj (Nat.not_lt_zero j)) hA
  have zz := va_Zof (A := fun q => s.heap.size ≤ q) (ht _ q360) (ht _ (lw_all_tbl q90)) et hA
  obtain ⟨mi, zm⟩ := va_Mi.of (hn (.isRef (.mirror "[Ljava/lang/Object;")) (by decide +kernel))
  have f1 : va_Fw "LeastSolutions$Vector" yX12_isBefore yX12_isBefore s := va_Fw.of (A := args) (ht _ q1017) (ht _ q1016) (ht _ q1021) (ht _ q1019) (ht _ q1018)
  have f2 : va_Fw "LeastSolutions$Vector" xAg yX11_against s := va_Fw.of (A := args) (ht _ q1026) (ht _ q1025) (ht _ q1030) (ht _ q1028) (ht _ q1018)
  have f3 : LDx s := hn (.landsInDefault "LeastSolutions$Vector" yX12_isBefore yX12_isBefore) (by decide +kernel)
  refine ⟨fun i => [w0, w1, w2, w3, w4, w5, w6, w7, w8, w9, w10, t, mi].getD i 0, ⟨fun i hi => ?_, zz, zt, zm, fun w hw => va_Nw.of (nx_tab (List.mem_filter.mp hw).2) (ht w (List.mem_filter.mp hw).1), va_AO.of (ht _ q751), va_AO.of (ht _ q444), ht _ q265, ht _ q316, f1, f2, f3⟩, ⟨?_, ?_, ?_, ?_, ?_, ?_⟩, ?_⟩
  · match i, hi with
    | 0, _ => exact z0
    | 1, _ => exact z1
    | 2, _ => exact z2
    | 3, _ => exact z3
    | 4, _ => exact z4
    | 5, _ => exact z5
    | 6, _ => exact z6
    | 7, _ => exact z7
    | 8, _ => exact z8
    | 9, _ => exact z9
    | 10, _ => exact z10
    | n + 11, hi => exact absurd hi (by omega)
  · exact vx_Zqof (ht _ q186) (ht _ (lw_all_tbl q80)) (hn (.isRef (.static "java/lang/Throwable" "UNASSIGNED_STACK" "[Ljava/lang/StackTraceElement;")) (by decide +kernel)) hA
  · exact vx_Zqof (ht _ q188) (ht _ (lw_all_tbl q80)) (hn (.isRef (.static "java/lang/Throwable" "SUPPRESSED_SENTINEL" "Ljava/util/List;")) (by decide +kernel)) hA
  · exact va_Nc.of (hn (.not (.castable eISE eIAE)) (by decide +kernel))
  · exact va_Nc.of (hn (.not (.castable eIAE eIOB)) (by decide +kernel))
  · exact va_Nc.of (hn (.not (.castable eNSE eIAE)) (by decide +kernel))
  · exact va_Nc.of (hn (.not (.castable eNSE eISE)) (by decide +kernel))
  · show [w0, w1, w2, w3, w4, w5, w6, w7, w8, w9, w10].Nodup
    simp [n0_1, n0_2, n0_3, n0_4, n0_5, n0_6, n0_7, n0_8, n0_9, n0_10, n1_2, n1_3, n1_4, n1_5, n1_6, n1_7, n1_8, n1_9, n1_10, n2_3, n2_4, n2_5, n2_6, n2_7, n2_8, n2_9, n2_10, n3_4, n3_5, n3_6, n3_7, n3_8, n3_9, n3_10, n4_5, n4_6, n4_7, n4_8, n4_9, n4_10, n5_6, n5_7, n5_8, n5_9, n5_10, n6_7, n6_8, n6_9, n6_10, n7_8, n7_9, n7_10, n8_9, n8_10, n9_10]
