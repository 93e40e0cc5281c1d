/-! THE REFERENCE'S WORLD: LeastSolutionsModel and its arrays; its state: int fields, int/byte/boolean arrays, long arrays, each by the number of its field -/
set_option maxRecDepth 100000
abbrev vwCl : List vw_C := [(RX1, TX1, 16), (RX2, TX2, 6), (RX3, TX3, 10), (RX4, TX4, 6), (RX5, TX5, 5), (RX6, TX6, 11), (RX7, TX7, 2), (RX8, TX8, 6), (RX9, TX9, 2), (RX10, TX10, 36), (RX11, TX11, 2), (RJ6, TJ6, 3), (RJ3, TJ3, 0)]
def tyM (dA : Nat → ClassId) : List (ClassId × FieldType) := [(dA 0, .int), (dA 1, .byte), (dA 2, .boolean), (dA 3, .long)]
def fsM (ad : Nat → Nat) (σ : St) : List Value := [.int (gI σ 0), .ref (ad 1), .int (gI σ 2), .int (gI σ 3), .ref (ad 4), .ref (ad 5), .ref (ad 6), .int (gI σ 7), .ref (ad 8), .int (gI σ 9), .int (gI σ 10), .int (gI σ 11), .ref (ad 12), .ref (ad 13), .int (gI σ 14), .int (gI σ 15), .int (gI σ 16), .int (gI σ 17), .ref (ad 18), .ref (ad 19), .ref (ad 20), .ref (ad 21), .ref (ad 22), .ref (ad 23), .ref (ad 24), .ref (ad 25), .int (gI σ 26), .ref (ad 27), .int (gI σ 28), .ref (ad 29), .ref (ad 30), .int (gI σ 31), .ref (ad 32), .int (gI σ 33), .ref (ad 34), .ref (ad 35)]
def wsM (dA : Nat → ClassId) (ad : Nat → Nat) (σ : St) : va_W := [(ad 0, .inr (9, fsM ad σ)), (ad 1, .inl (dA 0, 300, .inl (σ.2.1 1))), (ad 4, .inl (dA 0, 301, .inl (σ.2.1 4))), (ad 5, .inl (dA 0, 301, .inl (σ.2.1 5))), (ad 6, .inl (dA 0, 301, .inl (σ.2.1 6))), (ad 8, .inl (dA 0, 6, .inl (σ.2.1 8))), (ad 12, .inl (dA 0, 28, .inl (σ.2.1 12))), (ad 13, .inl (dA 0, 4, .inl (σ.2.1 13))), (ad 18, .inl (dA 0, 6, .inl (σ.2.1 18))), (ad 19, .inl (dA 0, 28, .inl (σ.2.1 19))), (ad 20, .inl (dA 2, 3, .inl (σ.2.1 20))), (ad 21, .inl (dA 0, 3, .inl (σ.2.1 21))), (ad 22, .inl (dA 0, 3, .inl (σ.2.1 22))), (ad 23, .inl (dA 1, 36000, .inl (σ.2.1 23))), (ad 24, .inl (dA 0, 6, .inl (σ.2.1 24))), (ad 25, .inl (dA 0, 6, .inl (σ.2.1 25))), (ad 27, .inl (dA 0, 2000, .inl (σ.2.1 27))), (ad 29, .inl (dA 0, 6, .inl (σ.2.1 29))), (ad 30, .inl (dA 3, 36, .inr (.inl (σ.2.2 30)))), (ad 32, .inl (dA 3, 6, .inr (.inl (σ.2.2 32)))), (ad 34, .inl (dA 3, 6, .inr (.inl (σ.2.2 34)))), (ad 35, .inl (dA 0, 6, .inl (σ.2.1 35)))]
theorem wM_o (dA : Nat → ClassId) (ad : Nat → Nat) (σ : St) : (wsM dA ad σ)[0]? = some (ad 0, .inr (9, fsM ad σ)) := rfl
theorem fM_0 (ad : Nat → Nat) (σ : St) : (fsM ad σ)[0]? = some (.int (gI σ 0)) := rfl
theorem fM_s0 (dA : Nat → ClassId) (ad : Nat → Nat) (σ : St) (x : Int32) : (wsM dA ad σ).set 0 (ad 0, .inr (9, (fsM ad σ).set 0 (.int x))) = wsM dA ad (sI σ 0 x) := rfl
theorem fM_1 (ad : Nat → Nat) (σ : St) : (fsM ad σ)[1]? = some (.ref (ad 1)) := rfl
theorem wM_1 (dA : Nat → ClassId) (ad : Nat → Nat) (σ : St) : (wsM dA ad σ)[1]? = some (ad 1, .inl (dA 0, 300, .inl (σ.2.1 1))) := rfl
theorem wM_s1 (dA : Nat → ClassId) (ad : Nat → Nat) (σ : St) (i x : Int32) : (wsM dA ad σ).set 1 (ad 1, .inl (dA 0, 300, .inl (upd (σ.2.1 1) i.toNatClampNeg x))) = wsM dA ad (sA σ 1 i x) := rfl
theorem fM_2 (ad : Nat → Nat) (σ : St) : (fsM ad σ)[2]? = some (.int (gI σ 2)) := rfl
theorem fM_s2 (dA : Nat → ClassId) (ad : Nat → Nat) (σ : St) (x : Int32) : (wsM dA ad σ).set 0 (ad 0, .inr (9, (fsM ad σ).set 2 (.int x))) = wsM dA ad (sI σ 2 x) := rfl
theorem fM_3 (ad : Nat → Nat) (σ : St) : (fsM ad σ)[3]? = some (.int (gI σ 3)) := rfl
theorem fM_s3 (dA : Nat → ClassId) (ad : Nat → Nat) (σ : St) (x : Int32) : (wsM dA ad σ).set 0 (ad 0, .inr (9, (fsM ad σ).set 3 (.int x))) = wsM dA ad (sI σ 3 x) := rfl
theorem fM_4 (ad : Nat → Nat) (σ : St) : (fsM ad σ)[4]? = some (.ref (ad 4)) := rfl
theorem wM_4 (dA : Nat → ClassId) (ad : Nat → Nat) (σ : St) : (wsM dA ad σ)[2]? = some (ad 4, .inl (dA 0, 301, .inl (σ.2.1 4))) := rfl
theorem wM_s4 (dA : Nat → ClassId) (ad : Nat → Nat) (σ : St) (i x : Int32) : (wsM dA ad σ).set 2 (ad 4, .inl (dA 0, 301, .inl (upd (σ.2.1 4) i.toNatClampNeg x))) = wsM dA ad (sA σ 4 i x) := rfl
theorem fM_5 (ad : Nat → Nat) (σ : St) : (fsM ad σ)[5]? = some (.ref (ad 5)) := rfl
theorem wM_5 (dA : Nat → ClassId) (ad : Nat → Nat) (σ : St) : (wsM dA ad σ)[3]? = some (ad 5, .inl (dA 0, 301, .inl (σ.2.1 5))) := rfl
theorem wM_s5 (dA : Nat → ClassId) (ad : Nat → Nat) (σ : St) (i x : Int32) : (wsM dA ad σ).set 3 (ad 5, .inl (dA 0, 301, .inl (upd (σ.2.1 5) i.toNatClampNeg x))) = wsM dA ad (sA σ 5 i x) := rfl
theorem fM_6 (ad : Nat → Nat) (σ : St) : (fsM ad σ)[6]? = some (.ref (ad 6)) := rfl
theorem wM_6 (dA : Nat → ClassId) (ad : Nat → Nat) (σ : St) : (wsM dA ad σ)[4]? = some (ad 6, .inl (dA 0, 301, .inl (σ.2.1 6))) := rfl
theorem wM_s6 (dA : Nat → ClassId) (ad : Nat → Nat) (σ : St) (i x : Int32) : (wsM dA ad σ).set 4 (ad 6, .inl (dA 0, 301, .inl (upd (σ.2.1 6) i.toNatClampNeg x))) = wsM dA ad (sA σ 6 i x) := rfl
theorem fM_7 (ad : Nat → Nat) (σ : St) : (fsM ad σ)[7]? = some (.int (gI σ 7)) := rfl
theorem fM_s7 (dA : Nat → ClassId) (ad : Nat → Nat) (σ : St) (x : Int32) : (wsM dA ad σ).set 0 (ad 0, .inr (9, (fsM ad σ).set 7 (.int x))) = wsM dA ad (sI σ 7 x) := rfl
theorem fM_8 (ad : Nat → Nat) (σ : St) : (fsM ad σ)[8]? = some (.ref (ad 8)) := rfl
theorem wM_8 (dA : Nat → ClassId) (ad : Nat → Nat) (σ : St) : (wsM dA ad σ)[5]? = some (ad 8, .inl (dA 0, 6, .inl (σ.2.1 8))) := rfl
theorem wM_s8 (dA : Nat → ClassId) (ad : Nat → Nat) (σ : St) (i x : Int32) : (wsM dA ad σ).set 5 (ad 8, .inl (dA 0, 6, .inl (upd (σ.2.1 8) i.toNatClampNeg x))) = wsM dA ad (sA σ 8 i x) := rfl
theorem fM_9 (ad : Nat → Nat) (σ : St) : (fsM ad σ)[9]? = some (.int (gI σ 9)) := rfl
theorem fM_s9 (dA : Nat → ClassId) (ad : Nat → Nat) (σ : St) (x : Int32) : (wsM dA ad σ).set 0 (ad 0, .inr (9, (fsM ad σ).set 9 (.int x))) = wsM dA ad (sI σ 9 x) := rfl
theorem fM_10 (ad : Nat → Nat) (σ : St) : (fsM ad σ)[10]? = some (.int (gI σ 10)) := rfl
theorem fM_s10 (dA : Nat → ClassId) (ad : Nat → Nat) (σ : St) (x : Int32) : (wsM dA ad σ).set 0 (ad 0, .inr (9, (fsM ad σ).set 10 (.int x))) = wsM dA ad (sI σ 10 x) := rfl
theorem fM_11 (ad : Nat → Nat) (σ : St) : (fsM ad σ)[11]? = some (.int (gI σ 11)) := rfl
theorem fM_s11 (dA : Nat → ClassId) (ad : Nat → Nat) (σ : St) (x : Int32) : (wsM dA ad σ).set 0 (ad 0, .inr (9, (fsM ad σ).set 11 (.int x))) = wsM dA ad (sI σ 11 x) := rfl
theorem fM_12 (ad : Nat → Nat) (σ : St) : (fsM ad σ)[12]? = some (.ref (ad 12)) := rfl
theorem wM_12 (dA : Nat → ClassId) (ad : Nat → Nat) (σ : St) : (wsM dA ad σ)[6]? = some (ad 12, .inl (dA 0, 28, .inl (σ.2.1 12))) := rfl
theorem wM_s12 (dA : Nat → ClassId) (ad : Nat → Nat) (σ : St) (i x : Int32) : (wsM dA ad σ).set 6 (ad 12, .inl (dA 0, 28, .inl (upd (σ.2.1 12) i.toNatClampNeg x))) = wsM dA ad (sA σ 12 i x) := rfl
theorem fM_13 (ad : Nat → Nat) (σ : St) : (fsM ad σ)[13]? = some (.ref (ad 13)) := rfl
theorem wM_13 (dA : Nat → ClassId) (ad : Nat → Nat) (σ : St) : (wsM dA ad σ)[7]? = some (ad 13, .inl (dA 0, 4, .inl (σ.2.1 13))) := rfl
theorem wM_s13 (dA : Nat → ClassId) (ad : Nat → Nat) (σ : St) (i x : Int32) : (wsM dA ad σ).set 7 (ad 13, .inl (dA 0, 4, .inl (upd (σ.2.1 13) i.toNatClampNeg x))) = wsM dA ad (sA σ 13 i x) := rfl
theorem fM_14 (ad : Nat → Nat) (σ : St) : (fsM ad σ)[14]? = some (.int (gI σ 14)) := rfl
theorem fM_s14 (dA : Nat → ClassId) (ad : Nat → Nat) (σ : St) (x : Int32) : (wsM dA ad σ).set 0 (ad 0, .inr (9, (fsM ad σ).set 14 (.int x))) = wsM dA ad (sI σ 14 x) := rfl
theorem fM_15 (ad : Nat → Nat) (σ : St) : (fsM ad σ)[15]? = some (.int (gI σ 15)) := rfl
theorem fM_s15 (dA : Nat → ClassId) (ad : Nat → Nat) (σ : St) (x : Int32) : (wsM dA ad σ).set 0 (ad 0, .inr (9, (fsM ad σ).set 15 (.int x))) = wsM dA ad (sI σ 15 x) := rfl
theorem fM_16 (ad : Nat → Nat) (σ : St) : (fsM ad σ)[16]? = some (.int (gI σ 16)) := rfl
theorem fM_s16 (dA : Nat → ClassId) (ad : Nat → Nat) (σ : St) (x : Int32) : (wsM dA ad σ).set 0 (ad 0, .inr (9, (fsM ad σ).set 16 (.int x))) = wsM dA ad (sI σ 16 x) := rfl
theorem fM_17 (ad : Nat → Nat) (σ : St) : (fsM ad σ)[17]? = some (.int (gI σ 17)) := rfl
theorem fM_s17 (dA : Nat → ClassId) (ad : Nat → Nat) (σ : St) (x : Int32) : (wsM dA ad σ).set 0 (ad 0, .inr (9, (fsM ad σ).set 17 (.int x))) = wsM dA ad (sI σ 17 x) := rfl
theorem fM_18 (ad : Nat → Nat) (σ : St) : (fsM ad σ)[18]? = some (.ref (ad 18)) := rfl
theorem wM_18 (dA : Nat → ClassId) (ad : Nat → Nat) (σ : St) : (wsM dA ad σ)[8]? = some (ad 18, .inl (dA 0, 6, .inl (σ.2.1 18))) := rfl
theorem wM_s18 (dA : Nat → ClassId) (ad : Nat → Nat) (σ : St) (i x : Int32) : (wsM dA ad σ).set 8 (ad 18, .inl (dA 0, 6, .inl (upd (σ.2.1 18) i.toNatClampNeg x))) = wsM dA ad (sA σ 18 i x) := rfl
theorem fM_19 (ad : Nat → Nat) (σ : St) : (fsM ad σ)[19]? = some (.ref (ad 19)) := rfl
theorem wM_19 (dA : Nat → ClassId) (ad : Nat → Nat) (σ : St) : (wsM dA ad σ)[9]? = some (ad 19, .inl (dA 0, 28, .inl (σ.2.1 19))) := rfl
theorem wM_s19 (dA : Nat → ClassId) (ad : Nat → Nat) (σ : St) (i x : Int32) : (wsM dA ad σ).set 9 (ad 19, .inl (dA 0, 28, .inl (upd (σ.2.1 19) i.toNatClampNeg x))) = wsM dA ad (sA σ 19 i x) := rfl
theorem fM_20 (ad : Nat → Nat) (σ : St) : (fsM ad σ)[20]? = some (.ref (ad 20)) := rfl
theorem wM_20 (dA : Nat → ClassId) (ad : Nat → Nat) (σ : St) : (wsM dA ad σ)[10]? = some (ad 20, .inl (dA 2, 3, .inl (σ.2.1 20))) := rfl
theorem wM_s20 (dA : Nat → ClassId) (ad : Nat → Nat) (σ : St) (i x : Int32) : (wsM dA ad σ).set 10 (ad 20, .inl (dA 2, 3, .inl (upd (σ.2.1 20) i.toNatClampNeg x))) = wsM dA ad (sA σ 20 i x) := rfl
theorem fM_21 (ad : Nat → Nat) (σ : St) : (fsM ad σ)[21]? = some (.ref (ad 21)) := rfl
theorem wM_21 (dA : Nat → ClassId) (ad : Nat → Nat) (σ : St) : (wsM dA ad σ)[11]? = some (ad 21, .inl (dA 0, 3, .inl (σ.2.1 21))) := rfl
theorem wM_s21 (dA : Nat → ClassId) (ad : Nat → Nat) (σ : St) (i x : Int32) : (wsM dA ad σ).set 11 (ad 21, .inl (dA 0, 3, .inl (upd (σ.2.1 21) i.toNatClampNeg x))) = wsM dA ad (sA σ 21 i x) := rfl
theorem fM_22 (ad : Nat → Nat) (σ : St) : (fsM ad σ)[22]? = some (.ref (ad 22)) := rfl
theorem wM_22 (dA : Nat → ClassId) (ad : Nat → Nat) (σ : St) : (wsM dA ad σ)[12]? = some (ad 22, .inl (dA 0, 3, .inl (σ.2.1 22))) := rfl
theorem wM_s22 (dA : Nat → ClassId) (ad : Nat → Nat) (σ : St) (i x : Int32) : (wsM dA ad σ).set 12 (ad 22, .inl (dA 0, 3, .inl (upd (σ.2.1 22) i.toNatClampNeg x))) = wsM dA ad (sA σ 22 i x) := rfl
theorem fM_23 (ad : Nat → Nat) (σ : St) : (fsM ad σ)[23]? = some (.ref (ad 23)) := rfl
theorem wM_23 (dA : Nat → ClassId) (ad : Nat → Nat) (σ : St) : (wsM dA ad σ)[13]? = some (ad 23, .inl (dA 1, 36000, .inl (σ.2.1 23))) := rfl
theorem wM_s23 (dA : Nat → ClassId) (ad : Nat → Nat) (σ : St) (i x : Int32) : (wsM dA ad σ).set 13 (ad 23, .inl (dA 1, 36000, .inl (upd (σ.2.1 23) i.toNatClampNeg x))) = wsM dA ad (sA σ 23 i x) := rfl
theorem fM_24 (ad : Nat → Nat) (σ : St) : (fsM ad σ)[24]? = some (.ref (ad 24)) := rfl
theorem wM_24 (dA : Nat → ClassId) (ad : Nat → Nat) (σ : St) : (wsM dA ad σ)[14]? = some (ad 24, .inl (dA 0, 6, .inl (σ.2.1 24))) := rfl
theorem wM_s24 (dA : Nat → ClassId) (ad : Nat → Nat) (σ : St) (i x : Int32) : (wsM dA ad σ).set 14 (ad 24, .inl (dA 0, 6, .inl (upd (σ.2.1 24) i.toNatClampNeg x))) = wsM dA ad (sA σ 24 i x) := rfl
theorem fM_25 (ad : Nat → Nat) (σ : St) : (fsM ad σ)[25]? = some (.ref (ad 25)) := rfl
theorem wM_25 (dA : Nat → ClassId) (ad : Nat → Nat) (σ : St) : (wsM dA ad σ)[15]? = some (ad 25, .inl (dA 0, 6, .inl (σ.2.1 25))) := rfl
theorem wM_s25 (dA : Nat → ClassId) (ad : Nat → Nat) (σ : St) (i x : Int32) : (wsM dA ad σ).set 15 (ad 25, .inl (dA 0, 6, .inl (upd (σ.2.1 25) i.toNatClampNeg x))) = wsM dA ad (sA σ 25 i x) := rfl
theorem fM_26 (ad : Nat → Nat) (σ : St) : (fsM ad σ)[26]? = some (.int (gI σ 26)) := rfl
theorem fM_s26 (dA : Nat → ClassId) (ad : Nat → Nat) (σ : St) (x : Int32) : (wsM dA ad σ).set 0 (ad 0, .inr (9, (fsM ad σ).set 26 (.int x))) = wsM dA ad (sI σ 26 x) := rfl
theorem fM_27 (ad : Nat → Nat) (σ : St) : (fsM ad σ)[27]? = some (.ref (ad 27)) := rfl
theorem wM_27 (dA : Nat → ClassId) (ad : Nat → Nat) (σ : St) : (wsM dA ad σ)[16]? = some (ad 27, .inl (dA 0, 2000, .inl (σ.2.1 27))) := rfl
theorem wM_s27 (dA : Nat → ClassId) (ad : Nat → Nat) (σ : St) (i x : Int32) : (wsM dA ad σ).set 16 (ad 27, .inl (dA 0, 2000, .inl (upd (σ.2.1 27) i.toNatClampNeg x))) = wsM dA ad (sA σ 27 i x) := rfl
theorem fM_28 (ad : Nat → Nat) (σ : St) : (fsM ad σ)[28]? = some (.int (gI σ 28)) := rfl
theorem fM_s28 (dA : Nat → ClassId) (ad : Nat → Nat) (σ : St) (x : Int32) : (wsM dA ad σ).set 0 (ad 0, .inr (9, (fsM ad σ).set 28 (.int x))) = wsM dA ad (sI σ 28 x) := rfl
theorem fM_29 (ad : Nat → Nat) (σ : St) : (fsM ad σ)[29]? = some (.ref (ad 29)) := rfl
theorem wM_29 (dA : Nat → ClassId) (ad : Nat → Nat) (σ : St) : (wsM dA ad σ)[17]? = some (ad 29, .inl (dA 0, 6, .inl (σ.2.1 29))) := rfl
theorem wM_s29 (dA : Nat → ClassId) (ad : Nat → Nat) (σ : St) (i x : Int32) : (wsM dA ad σ).set 17 (ad 29, .inl (dA 0, 6, .inl (upd (σ.2.1 29) i.toNatClampNeg x))) = wsM dA ad (sA σ 29 i x) := rfl
theorem fM_30 (ad : Nat → Nat) (σ : St) : (fsM ad σ)[30]? = some (.ref (ad 30)) := rfl
theorem wM_30 (dA : Nat → ClassId) (ad : Nat → Nat) (σ : St) : (wsM dA ad σ)[18]? = some (ad 30, .inl (dA 3, 36, .inr (.inl (σ.2.2 30)))) := rfl
theorem wM_s30 (dA : Nat → ClassId) (ad : Nat → Nat) (σ : St) (i : Int32) (x : Int64) : (wsM dA ad σ).set 18 (ad 30, .inl (dA 3, 36, .inr (.inl (vp_updL (σ.2.2 30) i.toNatClampNeg x)))) = wsM dA ad (sL σ 30 i x) := rfl
theorem fM_31 (ad : Nat → Nat) (σ : St) : (fsM ad σ)[31]? = some (.int (gI σ 31)) := rfl
theorem fM_s31 (dA : Nat → ClassId) (ad : Nat → Nat) (σ : St) (x : Int32) : (wsM dA ad σ).set 0 (ad 0, .inr (9, (fsM ad σ).set 31 (.int x))) = wsM dA ad (sI σ 31 x) := rfl
theorem fM_32 (ad : Nat → Nat) (σ : St) : (fsM ad σ)[32]? = some (.ref (ad 32)) := rfl
theorem wM_32 (dA : Nat → ClassId) (ad : Nat → Nat) (σ : St) : (wsM dA ad σ)[19]? = some (ad 32, .inl (dA 3, 6, .inr (.inl (σ.2.2 32)))) := rfl
theorem wM_s32 (dA : Nat → ClassId) (ad : Nat → Nat) (σ : St) (i : Int32) (x : Int64) : (wsM dA ad σ).set 19 (ad 32, .inl (dA 3, 6, .inr (.inl (vp_updL (σ.2.2 32) i.toNatClampNeg x)))) = wsM dA ad (sL σ 32 i x) := rfl
theorem fM_33 (ad : Nat → Nat) (σ : St) : (fsM ad σ)[33]? = some (.int (gI σ 33)) := rfl
theorem fM_s33 (dA : Nat → ClassId) (ad : Nat → Nat) (σ : St) (x : Int32) : (wsM dA ad σ).set 0 (ad 0, .inr (9, (fsM ad σ).set 33 (.int x))) = wsM dA ad (sI σ 33 x) := rfl
theorem fM_34 (ad : Nat → Nat) (σ : St) : (fsM ad σ)[34]? = some (.ref (ad 34)) := rfl
theorem wM_34 (dA : Nat → ClassId) (ad : Nat → Nat) (σ : St) : (wsM dA ad σ)[20]? = some (ad 34, .inl (dA 3, 6, .inr (.inl (σ.2.2 34)))) := rfl
theorem wM_s34 (dA : Nat → ClassId) (ad : Nat → Nat) (σ : St) (i : Int32) (x : Int64) : (wsM dA ad σ).set 20 (ad 34, .inl (dA 3, 6, .inr (.inl (vp_updL (σ.2.2 34) i.toNatClampNeg x)))) = wsM dA ad (sL σ 34 i x) := rfl
theorem fM_35 (ad : Nat → Nat) (σ : St) : (fsM ad σ)[35]? = some (.ref (ad 35)) := rfl
theorem wM_35 (dA : Nat → ClassId) (ad : Nat → Nat) (σ : St) : (wsM dA ad σ)[21]? = some (ad 35, .inl (dA 0, 6, .inl (σ.2.1 35))) := rfl
theorem wM_s35 (dA : Nat → ClassId) (ad : Nat → Nat) (σ : St) (i x : Int32) : (wsM dA ad σ).set 21 (ad 35, .inl (dA 0, 6, .inl (upd (σ.2.1 35) i.toNatClampNeg x))) = wsM dA ad (sA σ 35 i x) := rfl
theorem wM_sub (dA : Nat → ClassId) (ad : Nat → Nat) (σ : St) : (List.range 22).map (fun i => (wsM dA ad σ)[i]?) = (wsM dA ad σ).map some := rfl
theorem wM_ad (dA : Nat → ClassId) (ad : Nat → Nat) (σ σ2 : St) : (wsM dA ad σ).map (fun q => q.1) = (wsM dA ad σ2).map (fun q => q.1) := rfl
/-- the world of a method of the reference that runs from s on -/
def wM (D : va_G) (dA : Nat → ClassId) (ad : Nat → Nat) (A : Nat → Prop) (s : State) (σ : St) (H : Heap) (locs : List Loc) : Prop :=
  va_K D vwCl (tyM dA) s ∧ va_P D vwCl (wsM dA ad σ) H ∧ va_D A (wsM dA ad σ) ∧ va_S A s.heap H locs
/-- what a method knows of its frame -/
def CxM (p : Program) (s : State) (m : MethodId) (meth : Method) (c : Code) (args : Array Value) (A : Nat → Prop) (own : String) (cc : ByteArray) (nL : Nat) (ret : Option FieldType) : Prop :=
  p.tables.exec = Jvm.exec ∧ c.code = cc ∧ meth.sig.returnType = ret ∧ meth.locks = false ∧ c.maxLocals = nL ∧ s.vm.findClass own = some m.cls ∧ (∀ w ∈ lw_all, w.before args s = true) ∧ (∀ q : Nat, s.heap.size ≤ q → A q)
/-- a method's start and its world behind it -/
def PcM (D : va_G) (dA : Nat → ClassId) (ad : Nat → Nat) (σ : St) (sz : Nat) (av : List Value) : Array Value → State → Prop :=
  va_Pc av (fun U => U.heap.size = sz ∧ va_P D vwCl (wsM dA ad σ) U.heap ∧ va_K D vwCl (tyM dA) U ∧ va_D (fun _ => True) (wsM dA ad σ))
def BM (D : va_G) (dA : Nat → ClassId) (ad : Nat → Nat) (A : Nat → Prop) (u : St) (t : State) : Prop := va_P D vwCl (wsM dA ad u) t.heap ∧ va_K D vwCl (tyM dA) t ∧ va_D A (wsM dA ad u)
def AM (dA : Nat → ClassId) (ad : Nat → Nat) (σ : St) (sz : Nat) : Nat → Prop := va_A (wsM dA ad σ) sz
theorem PcM_blind (D : va_G) (dA : Nat → ClassId) (ad : Nat → Nat) (σ : St) (sz : Nat) (av : List Value) : FrameBlind (PcM D dA ad σ sz av) := by
  intro a U g mk q
  obtain ⟨q0, q1, qP, qK, qD⟩ := q
  exact ⟨q0, q1, qP, va_K.moved (u := U) (U := U.calling g mk a) (Vm.Alike.refl U.vm) qK, qD⟩
theorem AM_free {D : va_G} {dA : Nat → ClassId} {ad : Nat → Nat} {A : Nat → Prop} {s : State} {σ : St} {H : Heap} {locs : List Loc} (hM : wM D dA ad A s σ H locs) (hA : ∀ q : Nat, s.heap.size ≤ q → A q) : ∀ q, AM dA ad σ H.size q → A q :=
  va_free (wc := wsM dA ad σ) hM.2.2.1 hM.2.2.2 hA (List.range 22) (wM_sub dA ad σ)
section
variable {p : Program} {l : Launch} {e : Env} {R : Room} {s : State} {m : MethodId} {args : Array Value} {below : List Frame} {meth : Method} {c : Code} {H : Heap} {locs : List Loc} {cells slots : Nat} {Q : State → Prop} {pc : Nat} {ls : Array Slot} {rest : List Value} {D : va_G} {dA : Nat → ClassId} {ad : Nat → Nat} {A : Nat → Prop} {σ : St} {cc : ByteArray} {nL : Nat} {ret : Option FieldType}
theorem rM_get (C : CxM p s m meth c args A RX10 cc nL ret) (hM : wM D dA ad A s σ H locs) (k : Nat) {idx : Nat} (hk : k < 36) {v : Value} (hv : (fsM ad σ)[k]? = some v) (hl : Cond.fieldLink RX10 idx RX10 (TX10 k).2.1 (TX10 k).2.2.1 ∈ lw_all) (hs : (TX10 k).1 = RX10) (hdg : decode cc pc = .ok (.getfield idx, 3))
    (kk : W p l e R s m args below meth c H locs cells slots Q (F0 m (pc + 3) ls (v :: rest))) : W p l e R s m args below meth c H locs cells slots Q (F0 m pc ls (.ref (ad 0) :: rest)) :=
  va_get (D := D) (ci := 9) (v := v) (C := RX10) (T := TX10) (N := 36) C.1 C.2.1 C.2.2.2.2.2.2.1 in_X10 C.2.2.2.2.2.1 hM.1 hM.2.1 0 (wM_o dA ad σ) rfl k hk (C.2.2.2.2.2.2.1 _ hl) (fun _ h9 => by rw [← hs]; exact h9) hv hdg kk
theorem rM_putI (C : CxM p s m meth c args A RX10 cc nL ret) (hM : wM D dA ad A s σ H locs) (k : Nat) {idx : Nat} (hk : k < 36) {x : Int32} (hset : (wsM dA ad σ).set 0 (ad 0, .inr (9, (fsM ad σ).set k (.int x))) = wsM dA ad (sI σ k x)) (hl : Cond.fieldLink RX10 idx RX10 (TX10 k).2.1 (TX10 k).2.2.1 ∈ lw_all) (hs : (TX10 k).1 = RX10) (hfin : (TX10 k).2.2.2 = false) {ty : FieldType} (hd : parseFieldDescriptor (TX10 k).2.2.1 = some ty) (hn : narrow ty (.int x) = .int x) (hfit : fits ty (.int x) = true) (hdg : decode cc pc = .ok (.putfield idx, 3))
    (kk : ∀ (σ2 : St) (H1 : Heap) (locs1 : List Loc), σ2 = sI σ k x → wM D dA ad A s σ2 H1 locs1 → W p l e R s m args below meth c H1 locs1 cells slots Q (F0 m (pc + 3) ls rest)) : W p l e R s m args below meth c H locs cells slots Q (F0 m pc ls (.int x :: .ref (ad 0) :: rest)) :=
  va_put (D := D) (ci := 9) (v := .int x) (C := RX10) (T := TX10) (N := 36) C.1 C.2.1 C.2.2.2.2.2.2.1 in_X10 tyX10 tyX10_ok nmX10 C.2.2.2.2.2.1 hM.1 hM.2.1 hM.2.2.1 hM.2.2.2 0 (wM_o dA ad σ) rfl k hk (C.2.2.2.2.2.2.1 _ hl) (fun _ h9 => by rw [← hs]; exact h9) hfin hd hn hfit (by show k < 36; exact hk) hdg (fun H1 locs1 h1 h2 h3 => kk _ H1 locs1 rfl ⟨hM.1, by rw [← hset]; exact h1, by rw [← hset]; exact h2, h3⟩)
theorem rM_iald (C : CxM p s m meth c args A RX10 cc nL ret) (hM : wM D dA ad A s σ H locs) (k q : Nat) {n : Nat} (ha : (wsM dA ad σ)[q]? = some (ad k, .inl (dA 0, n, .inl (σ.2.1 k)))) {i : Int32} (hin : vp_in i n) (hdg : decode cc pc = .ok (.iaload, 1))
    (kk : W p l e R s m args below meth c H locs cells slots Q (F0 m (pc + 1) ls (.int (gA σ k i) :: rest))) : W p l e R s m args below meth c H locs cells slots Q (F0 m pc ls (.int i :: .ref (ad k) :: rest)) :=
  va_iald C.1 C.2.1 hM.1 hM.2.1 q 0 ha rfl hin hdg kk
theorem rM_bald (C : CxM p s m meth c args A RX10 cc nL ret) (hM : wM D dA ad A s σ H locs) (k q : Nat) {n : Nat} (ha : (wsM dA ad σ)[q]? = some (ad k, .inl (dA 1, n, .inl (σ.2.1 k)))) {i : Int32} (hin : vp_in i n) (hdg : decode cc pc = .ok (.baload, 1))
    (kk : W p l e R s m args below meth c H locs cells slots Q (F0 m (pc + 1) ls (.int (gA σ k i) :: rest))) : W p l e R s m args below meth c H locs cells slots Q (F0 m pc ls (.int i :: .ref (ad k) :: rest)) :=
  va_bald C.1 C.2.1 hM.1 hM.2.1 q 1 ha rfl hin hdg kk
theorem rM_zald (C : CxM p s m meth c args A RX10 cc nL ret) (hM : wM D dA ad A s σ H locs) (k q : Nat) {n : Nat} (ha : (wsM dA ad σ)[q]? = some (ad k, .inl (dA 2, n, .inl (σ.2.1 k)))) {i : Int32} (hin : vp_in i n) (hdg : decode cc pc = .ok (.baload, 1))
    (kk : W p l e R s m args below meth c H locs cells slots Q (F0 m (pc + 1) ls (.int (gA σ k i) :: rest))) : W p l e R s m args below meth c H locs cells slots Q (F0 m pc ls (.int i :: .ref (ad k) :: rest)) :=
  va_zald C.1 C.2.1 hM.1 hM.2.1 q 2 ha rfl hin hdg kk
theorem rM_lald (C : CxM p s m meth c args A RX10 cc nL ret) (hM : wM D dA ad A s σ H locs) (k q : Nat) {n : Nat} (ha : (wsM dA ad σ)[q]? = some (ad k, .inl (dA 3, n, .inr (.inl (σ.2.2 k))))) {i : Int32} (hin : vp_in i n) (hdg : decode cc pc = .ok (.laload, 1))
    (kk : W p l e R s m args below meth c H locs cells slots Q (F0 m (pc + 1) ls (.long (gL σ k i) :: rest))) : W p l e R s m args below meth c H locs cells slots Q (F0 m pc ls (.int i :: .ref (ad k) :: rest)) :=
  va_lald C.1 C.2.1 hM.1 hM.2.1 q 3 ha rfl hin hdg kk
theorem rM_iast (C : CxM p s m meth c args A RX10 cc nL ret) (hM : wM D dA ad A s σ H locs) (k q : Nat) {n : Nat} {i x : Int32} (ha : (wsM dA ad σ)[q]? = some (ad k, .inl (dA 0, n, .inl (σ.2.1 k)))) (hset : (wsM dA ad σ).set q (ad k, .inl (dA 0, n, .inl (upd (σ.2.1 k) i.toNatClampNeg x))) = wsM dA ad (sA σ k i x)) (hin : vp_in i n) (hdg : decode cc pc = .ok (.iastore, 1))
    (kk : ∀ (σ2 : St) (H1 : Heap) (locs1 : List Loc), σ2 = sA σ k i x → wM D dA ad A s σ2 H1 locs1 → W p l e R s m args below meth c H1 locs1 cells slots Q (F0 m (pc + 1) ls rest)) : W p l e R s m args below meth c H locs cells slots Q (F0 m pc ls (.int x :: .int i :: .ref (ad k) :: rest)) :=
  va_iast C.1 C.2.1 hM.1 hM.2.1 hM.2.2.1 hM.2.2.2 q 0 ha rfl hin hdg (fun H1 locs1 h1 h2 h3 => kk _ H1 locs1 rfl ⟨hM.1, by rw [← hset]; exact h1, by rw [← hset]; exact h2, h3⟩)
theorem rM_bast (C : CxM p s m meth c args A RX10 cc nL ret) (hM : wM D dA ad A s σ H locs) (k q : Nat) {n : Nat} {i x : Int32} (ha : (wsM dA ad σ)[q]? = some (ad k, .inl (dA 1, n, .inl (σ.2.1 k)))) (hset : (wsM dA ad σ).set q (ad k, .inl (dA 1, n, .inl (upd (σ.2.1 k) i.toNatClampNeg (vp_nar .byte x)))) = wsM dA ad (sA σ k i (vp_nar .byte x))) (hin : vp_in i n) (hdg : decode cc pc = .ok (.bastore, 1))
    (kk : ∀ (σ2 : St) (H1 : Heap) (locs1 : List Loc), σ2 = sA σ k i (vp_nar .byte x) → wM D dA ad A s σ2 H1 locs1 → W p l e R s m args below meth c H1 locs1 cells slots Q (F0 m (pc + 1) ls rest)) : W p l e R s m args below meth c H locs cells slots Q (F0 m pc ls (.int x :: .int i :: .ref (ad k) :: rest)) :=
  va_bast C.1 C.2.1 hM.1 hM.2.1 hM.2.2.1 hM.2.2.2 q 1 ha rfl hin hdg (fun H1 locs1 h1 h2 h3 => kk _ H1 locs1 rfl ⟨hM.1, by rw [← hset]; exact h1, by rw [← hset]; exact h2, h3⟩)
theorem rM_zast (C : CxM p s m meth c args A RX10 cc nL ret) (hM : wM D dA ad A s σ H locs) (k q : Nat) {n : Nat} {i x : Int32} (ha : (wsM dA ad σ)[q]? = some (ad k, .inl (dA 2, n, .inl (σ.2.1 k)))) (hset : (wsM dA ad σ).set q (ad k, .inl (dA 2, n, .inl (upd (σ.2.1 k) i.toNatClampNeg (vp_nar .boolean x)))) = wsM dA ad (sA σ k i (vp_nar .boolean x))) (hin : vp_in i n) (hdg : decode cc pc = .ok (.bastore, 1))
    (kk : ∀ (σ2 : St) (H1 : Heap) (locs1 : List Loc), σ2 = sA σ k i (vp_nar .boolean x) → wM D dA ad A s σ2 H1 locs1 → W p l e R s m args below meth c H1 locs1 cells slots Q (F0 m (pc + 1) ls rest)) : W p l e R s m args below meth c H locs cells slots Q (F0 m pc ls (.int x :: .int i :: .ref (ad k) :: rest)) :=
  va_zast C.1 C.2.1 hM.1 hM.2.1 hM.2.2.1 hM.2.2.2 q 2 ha rfl hin hdg (fun H1 locs1 h1 h2 h3 => kk _ H1 locs1 rfl ⟨hM.1, by rw [← hset]; exact h1, by rw [← hset]; exact h2, h3⟩)
theorem rM_last (C : CxM p s m meth c args A RX10 cc nL ret) (hM : wM D dA ad A s σ H locs) (k q : Nat) {n : Nat} {i : Int32} {x : Int64} (ha : (wsM dA ad σ)[q]? = some (ad k, .inl (dA 3, n, .inr (.inl (σ.2.2 k))))) (hset : (wsM dA ad σ).set q (ad k, .inl (dA 3, n, .inr (.inl (vp_updL (σ.2.2 k) i.toNatClampNeg x)))) = wsM dA ad (sL σ k i x)) (hin : vp_in i n) (hdg : decode cc pc = .ok (.lastore, 1))
    (kk : ∀ (σ2 : St) (H1 : Heap) (locs1 : List Loc), σ2 = sL σ k i x → wM D dA ad A s σ2 H1 locs1 → W p l e R s m args below meth c H1 locs1 cells slots Q (F0 m (pc + 1) ls rest)) : W p l e R s m args below meth c H locs cells slots Q (F0 m pc ls (.long x :: .int i :: .ref (ad k) :: rest)) :=
  va_last C.1 C.2.1 hM.1 hM.2.1 hM.2.2.1 hM.2.2.2 q 3 ha rfl hin hdg (fun H1 locs1 h1 h2 h3 => kk _ H1 locs1 rfl ⟨hM.1, by rw [← hset]; exact h1, by rw [← hset]; exact h2, h3⟩)
theorem rM_iret {Qr : Int32 → St → Prop} {v : Int32} {sz : Nat} (C : CxM p s m meth c args (AM dA ad σ sz) RX10 cc nL (some .int)) {σ2 : St} (hM : wM D dA ad (AM dA ad σ sz) s σ2 H locs) (hq : Qr v σ2) (hdg : decode cc pc = .ok (.ireturn, 1)) :
    W p l e R s m args below meth c H locs cells slots (MQ below (va_Qi Qr (BM D dA ad (AM dA ad σ sz)) (AM dA ad σ sz)) args s cells slots (AM dA ad σ sz)) (F0 m pc ls [.int v]) :=
  W.iret (v := v) C.1 C.2.1 C.2.2.1 (fun t ht hW => ⟨⟨v, σ2, rfl, hq, by rw [ht]; exact hM.2.1, va_K.moved hW.alike hM.1, hM.2.2.1⟩, hM.2.2.2.F ht⟩) hM.2.2.2.2.2 hdg C.2.2.2.1
theorem rM_zret {Qr : Int32 → St → Prop} {v : Int32} {sz : Nat} (C : CxM p s m meth c args (AM dA ad σ sz) RX10 cc nL (some .boolean)) {σ2 : St} (hM : wM D dA ad (AM dA ad σ sz) s σ2 H locs) (hq : isB v ∧ Qr v σ2) (hdg : decode cc pc = .ok (.ireturn, 1)) :
    W p l e R s m args below meth c H locs cells slots (MQ below (va_Qi Qr (BM D dA ad (AM dA ad σ sz)) (AM dA ad σ sz)) args s cells slots (AM dA ad σ sz)) (F0 m pc ls [.int v]) :=
  W.zret (v := v) C.1 C.2.1 C.2.2.1 (isB_n hq.1) (fun t ht hW => ⟨⟨v, σ2, rfl, hq.2, by rw [ht]; exact hM.2.1, va_K.moved hW.alike hM.1, hM.2.2.1⟩, hM.2.2.2.F ht⟩) hM.2.2.2.2.2 hdg C.2.2.2.1
theorem rM_lret {Qr : Int64 → St → Prop} {v : Int64} {sz : Nat} (C : CxM p s m meth c args (AM dA ad σ sz) RX10 cc nL (some .long)) {σ2 : St} (hM : wM D dA ad (AM dA ad σ sz) s σ2 H locs) (hq : Qr v σ2) (hdg : decode cc pc = .ok (.lreturn, 1)) :
    W p l e R s m args below meth c H locs cells slots (MQ below (va_Ql Qr (BM D dA ad (AM dA ad σ sz)) (AM dA ad σ sz)) args s cells slots (AM dA ad σ sz)) (F0 m pc ls [.long v]) :=
  W.lret (v := v) C.1 C.2.1 C.2.2.1 (fun t ht hW => ⟨⟨v, σ2, rfl, hq, by rw [ht]; exact hM.2.1, va_K.moved hW.alike hM.1, hM.2.2.1⟩, hM.2.2.2.F ht⟩) hM.2.2.2.2.2 hdg C.2.2.2.1
theorem rM_vret {Qr : St → Prop} {sz : Nat} (C : CxM p s m meth c args (AM dA ad σ sz) RX10 cc nL none) {σ2 : St} (hM : wM D dA ad (AM dA ad σ sz) s σ2 H locs) (hq : Qr σ2) (hdg : decode cc pc = .ok (.return_, 1)) :
    W p l e R s m args below meth c H locs cells slots (MQ below (va_Qv Qr (BM D dA ad (AM dA ad σ sz)) (AM dA ad σ sz)) args s cells slots (AM dA ad σ sz)) (F0 m pc ls []) :=
  W.vret C.1 C.2.1 C.2.2.1 (fun t ht hW => ⟨⟨σ2, rfl, hq, by rw [ht]; exact hM.2.1, va_K.moved hW.alike hM.1, hM.2.2.1⟩, hM.2.2.2.F ht⟩) hM.2.2.2.2.2 hdg C.2.2.2.1
theorem wM_after {t : State} {H1 : Heap} {locs1 : List Loc} {u : St} (hM : wM D dA ad A s σ H locs) (hA : ∀ q : Nat, s.heap.size ≤ q → A q) (ht : t.heap = H1) (hB : BM D dA ad (AM dA ad σ H.size) u t) (hS : va_S A s.heap H1 locs1) : wM D dA ad A s u H1 locs1 :=
  ⟨hM.1, by rw [← ht]; exact hB.1, hB.2.2.weaken (fun _ q _ h => AM_free hM hA _ h), hS⟩
theorem rM_callVi {y : MethodName} {bytes : ByteArray} {maxL n idx : Nat} {rt : Option FieldType} {rm : Room} {As : List Value} {Qr : Int32 → St → Prop} (C : CxM p s m meth c args A RX10 cc nL ret) (hM : wM D dA ad A s σ H locs) (hsize : ls.size = nL)
    (hm : Met l y (ws_ y bytes maxL rt) rm (PcM D dA ad σ H.size (.ref (ad 0) :: As)) (va_Qi Qr (BM D dA ad (AM dA ad σ H.size)) (AM dA ad σ H.size)) 0 0 (AM dA ad σ H.size))
    (hw : GoodIn lw_all (wsV RX10 idx RX10 y (ws_ y bytes maxL rt))) (hrc : rm.cells = 0) (hrs : rm.slots = 0) (hd : y.cls = RX10 ∧ y.cls ≠ "java/lang/invoke/MethodHandle" ∧ y.cls ≠ "java/lang/invoke/VarHandle" ∧ (parseMethodDescriptor y.desc).map (fun d => d.parameters.length) = some n) (hR : rm.frames + 1 ≤ R.frames ∧ 8 + (maxL + 11) + rm.locals ≤ R.locals) (hn : As.length = n) (hrest : (rest.map fun v => v.category).sum ≤ 8) (hcs : cells ≤ R.cells ∧ slots ≤ R.slots) {st : List Value} (hst : st = As.reverse ++ .ref (ad 0) :: rest) (hdg : decode cc pc = .ok (.invokevirtual idx, 3))
    (kk : ∀ (r : Int32) (u : St) (H1 : Heap) (locs1 : List Loc), Qr r u → wM D dA ad A s u H1 locs1 → W p l e R s m args below meth c H1 locs1 cells slots Q (F0 m (pc + 3) ls (.int r :: rest))) : W p l e R s m args below meth c H locs cells slots Q (F0 m pc ls st) := by
  subst hst
  refine va_calli (va_runV (As := As) (rest := rest) ⟨C.1, C.2.1, C.2.2.2.2.1, C.2.2.2.2.2.1, C.2.2.2.2.2.2.1⟩ hm (cwV n C.2.2.2.2.2.2.1 hw rfl hrc hrs hd hR) ⟨PcM_blind D dA ad σ H.size _, va_recv hM.1 hM.2.1 (ci := 9) (q0 := 0) rfl (wM_o dA ad σ), fun U hU hW => ⟨rfl, by rw [hU], by rw [hU]; exact hM.2.1, va_K.moved hW.alike hM.1, hM.2.2.1.weaken (fun _ _ _ _ => trivial)⟩⟩ rfl hn hsize rfl (lv_room hrest) hdg ⟨by simpa using hcs.1, by simpa using hcs.2⟩) hM.2.2.2 (fun q _ h => AM_free hM C.2.2.2.2.2.2.2 q h) (AM_free hM C.2.2.2.2.2.2.2) (fun r u t H1 locs ht hvm hq hB hz1 hk1 hS => ?_)
  exact kk r u H1 locs hq (wM_after hM C.2.2.2.2.2.2.2 ht hB hS)
theorem rM_callVl {y : MethodName} {bytes : ByteArray} {maxL n idx : Nat} {rt : Option FieldType} {rm : Room} {As : List Value} {Qr : Int64 → St → Prop} (C : CxM p s m meth c args A RX10 cc nL ret) (hM : wM D dA ad A s σ H locs) (hsize : ls.size = nL)
    (hm : Met l y (ws_ y bytes maxL rt) rm (PcM D dA ad σ H.size (.ref (ad 0) :: As)) (va_Ql Qr (BM D dA ad (AM dA ad σ H.size)) (AM dA ad σ H.size)) 0 0 (AM dA ad σ H.size))
    (hw : GoodIn lw_all (wsV RX10 idx RX10 y (ws_ y bytes maxL rt))) (hrc : rm.cells = 0) (hrs : rm.slots = 0) (hd : y.cls = RX10 ∧ y.cls ≠ "java/lang/invoke/MethodHandle" ∧ y.cls ≠ "java/lang/invoke/VarHandle" ∧ (parseMethodDescriptor y.desc).map (fun d => d.parameters.length) = some n) (hR : rm.frames + 1 ≤ R.frames ∧ 8 + (maxL + 11) + rm.locals ≤ R.locals) (hn : As.length = n) (hrest : (rest.map fun v => v.category).sum ≤ 8) (hcs : cells ≤ R.cells ∧ slots ≤ R.slots) {st : List Value} (hst : st = As.reverse ++ .ref (ad 0) :: rest) (hdg : decode cc pc = .ok (.invokevirtual idx, 3))
    (kk : ∀ (r : Int64) (u : St) (H1 : Heap) (locs1 : List Loc), Qr r u → wM D dA ad A s u H1 locs1 → W p l e R s m args below meth c H1 locs1 cells slots Q (F0 m (pc + 3) ls (.long r :: rest))) : W p l e R s m args below meth c H locs cells slots Q (F0 m pc ls st) := by
  subst hst
  refine va_calll (va_runV (As := As) (rest := rest) ⟨C.1, C.2.1, C.2.2.2.2.1, C.2.2.2.2.2.1, C.2.2.2.2.2.2.1⟩ hm (cwV n C.2.2.2.2.2.2.1 hw rfl hrc hrs hd hR) ⟨PcM_blind D dA ad σ H.size _, va_recv hM.1 hM.2.1 (ci := 9) (q0 := 0) rfl (wM_o dA ad σ), fun U hU hW => ⟨rfl, by rw [hU], by rw [hU]; exact hM.2.1, va_K.moved hW.alike hM.1, hM.2.2.1.weaken (fun _ _ _ _ => trivial)⟩⟩ rfl hn hsize rfl (lv_room hrest) hdg ⟨by simpa using hcs.1, by simpa using hcs.2⟩) hM.2.2.2 (fun q _ h => AM_free hM C.2.2.2.2.2.2.2 q h) (AM_free hM C.2.2.2.2.2.2.2) (fun r u t H1 locs ht hvm hq hB hz1 hk1 hS => ?_)
  exact kk r u H1 locs hq (wM_after hM C.2.2.2.2.2.2.2 ht hB hS)
theorem rM_callVv {y : MethodName} {bytes : ByteArray} {maxL n idx : Nat} {rt : Option FieldType} {rm : Room} {As : List Value} {Qr : St → Prop} (C : CxM p s m meth c args A RX10 cc nL ret) (hM : wM D dA ad A s σ H locs) (hsize : ls.size = nL)
    (hm : Met l y (ws_ y bytes maxL rt) rm (PcM D dA ad σ H.size (.ref (ad 0) :: As)) (va_Qv Qr (BM D dA ad (AM dA ad σ H.size)) (AM dA ad σ H.size)) 0 0 (AM dA ad σ H.size))
    (hw : GoodIn lw_all (wsV RX10 idx RX10 y (ws_ y bytes maxL rt))) (hrc : rm.cells = 0) (hrs : rm.slots = 0) (hd : y.cls = RX10 ∧ y.cls ≠ "java/lang/invoke/MethodHandle" ∧ y.cls ≠ "java/lang/invoke/VarHandle" ∧ (parseMethodDescriptor y.desc).map (fun d => d.parameters.length) = some n) (hR : rm.frames + 1 ≤ R.frames ∧ 8 + (maxL + 11) + rm.locals ≤ R.locals) (hn : As.length = n) (hrest : (rest.map fun v => v.category).sum ≤ 8) (hcs : cells ≤ R.cells ∧ slots ≤ R.slots) {st : List Value} (hst : st = As.reverse ++ .ref (ad 0) :: rest) (hdg : decode cc pc = .ok (.invokevirtual idx, 3))
    (kk : ∀ (u : St) (H1 : Heap) (locs1 : List Loc), Qr u → wM D dA ad A s u H1 locs1 → W p l e R s m args below meth c H1 locs1 cells slots Q (F0 m (pc + 3) ls rest)) : W p l e R s m args below meth c H locs cells slots Q (F0 m pc ls st) := by
  subst hst
  refine va_callv (va_runV (As := As) (rest := rest) ⟨C.1, C.2.1, C.2.2.2.2.1, C.2.2.2.2.2.1, C.2.2.2.2.2.2.1⟩ hm (cwV n C.2.2.2.2.2.2.1 hw rfl hrc hrs hd hR) ⟨PcM_blind D dA ad σ H.size _, va_recv hM.1 hM.2.1 (ci := 9) (q0 := 0) rfl (wM_o dA ad σ), fun U hU hW => ⟨rfl, by rw [hU], by rw [hU]; exact hM.2.1, va_K.moved hW.alike hM.1, hM.2.2.1.weaken (fun _ _ _ _ => trivial)⟩⟩ rfl hn hsize rfl (lv_room hrest) hdg ⟨by simpa using hcs.1, by simpa using hcs.2⟩) hM.2.2.2 (fun q _ h => AM_free hM C.2.2.2.2.2.2.2 q h) (AM_free hM C.2.2.2.2.2.2.2) (fun u t H1 locs ht hvm hq hB hz1 hk1 hS => ?_)
  exact kk u H1 locs hq (wM_after hM C.2.2.2.2.2.2.2 ht hB hS)
theorem rM_callSl {y : MethodName} {bytes : ByteArray} {maxL n idx : Nat} {rt : Option FieldType} {rm : Room} {As : List Value} {Qr : Int64 → St → Prop} (C : CxM p s m meth c args A RX10 cc nL ret) (hM : wM D dA ad A s σ H locs) (hsize : ls.size = nL)
    (hm : Met l y (ws_ y bytes maxL rt) rm (PcM D dA ad σ H.size As) (va_Ql Qr (BM D dA ad (AM dA ad σ H.size)) (AM dA ad σ H.size)) 0 0 (AM dA ad σ H.size))
    (hw : GoodIn lw_all (va_wsS RX10 idx y (ws_ y bytes maxL rt))) (hrc : rm.cells = 0) (hrs : rm.slots = 0) (hd : y.cls ≠ "java/lang/invoke/MethodHandle" ∧ y.cls ≠ "java/lang/invoke/VarHandle" ∧ (parseMethodDescriptor y.desc).map (fun d => d.parameters.length) = some n) (hR : rm.frames + 1 ≤ R.frames ∧ 8 + (maxL + 11) + rm.locals ≤ R.locals) (hn : As.length = n) (hrest : (rest.map fun v => v.category).sum ≤ 8) (hcs : cells ≤ R.cells ∧ slots ≤ R.slots) {st : List Value} (hst : st = As.reverse ++ rest) (hdg : decode cc pc = .ok (.invokestatic idx, 3))
    (kk : ∀ (r : Int64) (u : St) (H1 : Heap) (locs1 : List Loc), Qr r u → wM D dA ad A s u H1 locs1 → W p l e R s m args below meth c H1 locs1 cells slots Q (F0 m (pc + 3) ls (.long r :: rest))) : W p l e R s m args below meth c H locs cells slots Q (F0 m pc ls st) := by
  subst hst
  refine va_calll (va_runS (As := As) (rest := rest) ⟨C.1, C.2.1, C.2.2.2.2.1, C.2.2.2.2.2.1, C.2.2.2.2.2.2.1⟩ hm (va_cwS n C.2.2.2.2.2.2.1 hw rfl hrc hrs hd hR) ⟨PcM_blind D dA ad σ H.size _, fun U hU hW => ⟨rfl, by rw [hU], by rw [hU]; exact hM.2.1, va_K.moved hW.alike hM.1, hM.2.2.1.weaken (fun _ _ _ _ => trivial)⟩⟩ rfl hn hsize rfl (lv_room hrest) hdg ⟨by simpa using hcs.1, by simpa using hcs.2⟩) hM.2.2.2 (fun q _ h => AM_free hM C.2.2.2.2.2.2.2 q h) (AM_free hM C.2.2.2.2.2.2.2) (fun r u t H1 locs ht hvm hq hB hz1 hk1 hS => ?_)
  exact kk r u H1 locs hq (wM_after hM C.2.2.2.2.2.2.2 ht hB hS)
end
