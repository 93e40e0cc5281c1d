set_option maxRecDepth 100000
abbrev rm_X1_read (MC MS : Nat) : Room := { frames := 10, cells := MC, slots := MS, locals := 232 }
set_option maxHeartbeats 4000000 in
theorem wk_X1_read_117 {p : Program} {l : Launch} {e : Env} {s : State} {m : MethodId} {args : Array Value} {below : List Frame} {meth : Method} {c : Code} {D : va_G} {dA : Nat → ClassId} {ev : Nat → Nat} {h0 : Hp} {sz : Nat} {MC MS : Nat} (C : CxM p s m meth c args (AX dA h0 sz) "LeastSolutions" cX1_read 7 (some .int)) (hst : l.stackTraces = false) (hZ : ZX (AX dA h0 sz) s s.heap) (htab : ∀ x ∈ c.exceptionTable.toList, False) {Qr : Int32 → Hp → Prop} {Xr : String → Hp → Prop} : ∀ (n : Nat) (a0 : Nat) (v3 : Int32) (h : Hp) (mc ms : Nat) (cells slots : Nat) (H : Heap) (locs : List Loc) (ls : Array Slot), wp_X1_read_117 ev Qr Xr n a0 v3 h mc ms → wX D dA ev (AX dA h0 sz) s h H locs → cells + mc ≤ MC ∧ slots + ms ≤ MS → lv_has ls 7 [(0, .ref a0), (3, .int v3)] → W p l e (rm_X1_read MC MS) s m args below meth c H locs cells slots (vx_MQ below (va_Qi Qr (BX D dA (AX dA h0 sz)) (AX dA h0 sz)) (XP D dA (AX dA h0 sz) Xr) args s MC MS (AX dA h0 sz)) (F0 m 117 ls []) := by
  intro n
  induction n with
  | zero => intro a0 v3 h mc ms cells slots H locs ls hw; exact hw.elim
  | succ n117 ih =>
    intro a0 v3 h mc ms cells slots H locs ls hw hM hbud hl
    have hx := C.1
    have hb := C.2.1
    have hown := C.2.2.2.2.2.1
    have hts := C.2.2.2.2.2.2.1
    unfold wp_X1_read_117 at hw
    refine lv_iload_n hx hb dX1_read_117 rfl (lv_at hl 1 rfl) ?_
    refine lv_bipush (v := 6) hx hb dX1_read_118 (by decide) ?_
    refine lv_icmp_ge (tgt := 146) hx hb dX1_read_120 (by decide) (fun hc => ?_) (fun hc => ?_)
    · replace hw := hw.1 hc
      refine lv_aload_n hx hb dX1_read_146 rfl (lv_at hl 0 rfl) ?_
      refine lv_iconst (v := 0) hx hb dX1_read_147 (by decide) ?_
      have o2 := hw.1
      replace hw := hw.2
      refine rX_putI C hM 0 12 rfl in_X1 (by decide) (by decide) rfl rfl q475 o2 tyX1 tyX1_ok nmX1 rfl (isB_n isB_0) (isB_f isB_0) dX1_read_148 (fun h1 H locs eσ hM => ?_)
      replace hw := hw h1 eσ
      clear eσ
      refine lv_aload_n hx hb dX1_read_151 rfl (lv_at hl 0 rfl) ?_
      refine lv_iconst (v := 0) hx hb dX1_read_152 (by decide) ?_
      have o4 := hw.1
      replace hw := hw.2
      refine rX_putI C hM 0 13 rfl in_X1 (by decide) (by decide) rfl rfl q476 o4 tyX1 tyX1_ok nmX1 rfl (isB_n isB_0) (isB_f isB_0) dX1_read_153 (fun h3 H locs eσ hM => ?_)
      replace hw := hw h3 eσ
      clear eσ
      refine lv_iconst (v := 0) hx hb dX1_read_156 (by decide) ?_
      exact vx_ret (rX_iret C hM ⟨by show cells ≤ MC; omega, by show slots ≤ MS; omega⟩ hw dX1_read_157)
    · replace hw := hw.2 hc
      refine lv_aload_n hx hb dX1_read_123 rfl (lv_at hl 0 rfl) ?_
      have o5 := hw.1
      replace hw := hw.2
      obtain ⟨b6, ebb6, hw⟩ := hw
      refine rX_getRs C hM 0 10 rfl in_X1 (by decide) (by decide) rfl q473 o5 ebb6 dX1_read_124 ?_
      refine lv_iload_n hx hb dX1_read_127 rfl (lv_at hl 1 rfl) ?_
      refine lv_iconst (v := 0) hx hb dX1_read_128 (by decide) ?_
      have o8 := hw.1
      replace hw := hw.2
      have o9 := hw.1
      replace hw := hw.2
      refine rX_iast C hM o8 o9 dX1_read_129 (fun h7 H locs eσ hM => ?_)
      replace hw := hw h7 eσ
      clear eσ
      refine lv_aload_n hx hb dX1_read_130 rfl (lv_at hl 0 rfl) ?_
      have o10 := hw.1
      replace hw := hw.2
      obtain ⟨b11, ebb11, hw⟩ := hw
      refine rX_getRs C hM 0 6 rfl in_X1 (by decide) (by decide) rfl q469 o10 ebb11 dX1_read_131 ?_
      have o12 := hw.1
      replace hw := hw.2
      obtain ⟨b13, ebb13, hw⟩ := hw
      refine rX_getRsN C hM 7 1 rfl in_X8 (by decide) (by decide) rfl q423 o12 ebb13 dX1_read_134 ?_
      refine lv_iload_n hx hb dX1_read_137 rfl (lv_at hl 1 rfl) ?_
      refine lv_iconst (v := 0) hx hb dX1_read_138 (by decide) ?_
      have o15 := hw.1
      replace hw := hw.2
      have o16 := hw.1
      replace hw := hw.2
      refine rX_iast C hM o15 o16 dX1_read_139 (fun h14 H locs eσ hM => ?_)
      replace hw := hw h14 eσ
      clear eσ
      obtain ⟨x17, ex17⟩ : ∃ y : Int32, y = v3 + 1 := ⟨_, rfl⟩
      replace hw := hw x17 ex17
      refine lv_iinc (v := x17) (lv' := [(3, .int x17), (0, .ref a0)]) hx hb dX1_read_140 hl (k := 1) rfl (by rw [ex17]; rfl) (by decide) rfl (fun ls hl => ?_)
      refine lv_goto (tgt := 117) hx hb dX1_read_143 (by decide) ?_
      exact ih a0 x17 h14 mc ms _ _ _ _ ls hw hM hbud (lv_sub hl [1, 0] rfl)
set_option maxHeartbeats 4000000 in
theorem wk_X1_read_91 {p : Program} {l : Launch} {e : Env} {s : State} {m : MethodId} {args : Array Value} {below : List Frame} {meth : Method} {c : Code} {D : va_G} {dA : Nat → ClassId} {ev : Nat → Nat} {h0 : Hp} {sz : Nat} {MC MS : Nat} (C : CxM p s m meth c args (AX dA h0 sz) "LeastSolutions" cX1_read 7 (some .int)) (hst : l.stackTraces = false) (hZ : ZX (AX dA h0 sz) s s.heap) (htab : ∀ x ∈ c.exceptionTable.toList, False) {Qr : Int32 → Hp → Prop} {Xr : String → Hp → Prop} : ∀ (n : Nat) (a0 : Nat) (v3 : Nat) (v4 : Int32) (v5 : Int32) (h : Hp) (mc ms : Nat) (cells slots : Nat) (H : Heap) (locs : List Loc) (ls : Array Slot), wp_X1_read_91 ev Qr Xr n a0 v3 v4 v5 h mc ms → wX D dA ev (AX dA h0 sz) s h H locs → cells + mc ≤ MC ∧ slots + ms ≤ MS → lv_has ls 7 [(0, .ref a0), (3, .ref v3), (4, .int v4), (5, .int v5)] → W p l e (rm_X1_read MC MS) s m args below meth c H locs cells slots (vx_MQ below (va_Qi Qr (BX D dA (AX dA h0 sz)) (AX dA h0 sz)) (XP D dA (AX dA h0 sz) Xr) args s MC MS (AX dA h0 sz)) (F0 m 91 ls []) := by
  intro n
  induction n with
  | zero => intro a0 v3 v4 v5 h mc ms cells slots H locs ls hw; exact hw.elim
  | succ n91 ih =>
    intro a0 v3 v4 v5 h mc ms cells slots H locs ls hw hM hbud hl
    have hx := C.1
    have hb := C.2.1
    have hown := C.2.2.2.2.2.1
    have hts := C.2.2.2.2.2.2.1
    unfold wp_X1_read_91 at hw
    refine lv_iload hx hb dX1_read_91 (lv_at hl 3 rfl) ?_
    refine lv_iload hx hb dX1_read_93 (lv_at hl 2 rfl) ?_
    refine lv_icmp_ge (tgt := 115) hx hb dX1_read_95 (by decide) (fun hc => ?_) (fun hc => ?_)
    · replace hw := hw.1 hc
      refine lv_iconst (v := 0) hx hb dX1_read_115 (by decide) ?_
      refine lv_istore_n (lv' := [(3, .int 0), (0, .ref a0), (4, .int v4), (5, .int v5)]) hx hb dX1_read_116 rfl hl (by decide) rfl (fun ls hl => ?_)
      obtain ⟨n117, hw⟩ := hw
      exact wk_X1_read_117 C hst hZ htab  n117 a0 0 h mc ms _ _ _ _ ls hw hM hbud (lv_sub hl [1, 0] rfl)
    · replace hw := hw.2 hc
      refine lv_aload_n hx hb dX1_read_98 rfl (lv_at hl 1 rfl) ?_
      refine lv_iload hx hb dX1_read_99 (lv_at hl 3 rfl) ?_
      have o1 := hw.1
      replace hw := hw.2
      have o2 := hw.1
      replace hw := hw.2
      obtain ⟨b3, ebb3, hw⟩ := hw
      refine rX_aalds C hM 7 (by decide) (by decide) o1 o2 ebb3 dX1_read_101 ?_
      refine lv_astore (lv' := [(6, .ref b3), (0, .ref a0), (3, .ref v3), (4, .int v4), (5, .int v5)]) hx hb dX1_read_102 hl (by decide) rfl (fun ls hl => ?_)
      refine lv_aload hx hb dX1_read_104 (lv_at hl 0 rfl) ?_
      obtain ⟨c4, d5, mc6, ms7, emc6, ems7, hw⟩ := hw
      have o9 := hw.1
      replace hw := hw.2
      refine rX_gov C hM (runX_V C hM hl.1 8 0 (As := []) rfl (by decide) o9 (mt_X9_clear l D dA ev _ h b3  c4 d5 _ hw) (lw_V q667 q668 q669 q92 q670) rfl rfl (by decide +kernel) ⟨Nat.le_of_ble_eq_true rfl, Nat.le_of_ble_eq_true rfl⟩ rfl (Nat.le_of_ble_eq_true rfl) rfl dX1_read_106 ⟨by show cells + c4 ≤ MC; omega, by show slots + d5 ≤ MS; omega⟩) (fun h8 H locs hw hM => ?_)
      have hbud : cells + c4 + mc6 ≤ MC ∧ slots + d5 + ms7 ≤ MS := ⟨by omega, by omega⟩
      obtain ⟨x11, ex11⟩ : ∃ y : Int32, y = v5 + 1 := ⟨_, rfl⟩
      replace hw := hw x11 ex11
      refine lv_iinc (v := x11) (lv' := [(5, .int x11), (6, .ref b3), (0, .ref a0), (3, .ref v3), (4, .int v4)]) hx hb dX1_read_109 hl (k := 4) rfl (by rw [ex11]; rfl) (by decide) rfl (fun ls hl => ?_)
      refine lv_goto (tgt := 91) hx hb dX1_read_112 (by decide) ?_
      exact ih a0 v3 v4 x11 h8 mc6 ms7 _ _ _ _ ls hw hM hbud (lv_sub hl [2, 3, 4, 0] rfl)
set_option maxHeartbeats 4000000 in
theorem wk_X1_read_36 {p : Program} {l : Launch} {e : Env} {s : State} {m : MethodId} {args : Array Value} {below : List Frame} {meth : Method} {c : Code} {D : va_G} {dA : Nat → ClassId} {ev : Nat → Nat} {h0 : Hp} {sz : Nat} {MC MS : Nat} (C : CxM p s m meth c args (AX dA h0 sz) "LeastSolutions" cX1_read 7 (some .int)) (hst : l.stackTraces = false) (hZ : ZX (AX dA h0 sz) s s.heap) (htab : ∀ x ∈ c.exceptionTable.toList, False) {Qr : Int32 → Hp → Prop} {Xr : String → Hp → Prop} : ∀ (a0 : Nat) (v1 : Int32) (u0 : Nat) (u1 : Int32) (h : Hp) (mc ms : Nat) (cells slots : Nat) (H : Heap) (locs : List Loc) (ls : Array Slot), wp_X1_read_36 ev Qr Xr a0 v1 u0 u1 h mc ms → wX D dA ev (AX dA h0 sz) s h H locs → cells + mc ≤ MC ∧ slots + ms ≤ MS → lv_has ls 7 [(0, .ref a0), (1, .int v1)] → W p l e (rm_X1_read MC MS) s m args below meth c H locs cells slots (vx_MQ below (va_Qi Qr (BX D dA (AX dA h0 sz)) (AX dA h0 sz)) (XP D dA (AX dA h0 sz) Xr) args s MC MS (AX dA h0 sz)) (F0 m 36 ls [.int u1, .ref u0]) := by
  intro a0 v1 u0 u1 h mc ms cells slots H locs ls hw hM hbud hl
  have hx := C.1
  have hb := C.2.1
  have hown := C.2.2.2.2.2.1
  have hts := C.2.2.2.2.2.2.1
  unfold wp_X1_read_36 at hw
  have o2 := hw.1
  replace hw := hw.2
  refine rX_putI C hM 0 9 rfl in_X1 (by decide) (by decide) rfl rfl q472 o2 tyX1 tyX1_ok nmX1 rfl rfl rfl dX1_read_36 (fun h1 H locs eσ hM => ?_)
  replace hw := hw h1 eσ
  clear eσ
  refine lv_iload_n hx hb dX1_read_39 rfl (lv_at hl 1 rfl) ?_
  refine lv_if_eq (tgt := 45) hx hb dX1_read_40 (by decide) (fun hc => ?_) (fun hc => ?_)
  · replace hw := hw.1 hc
    refine lv_aload_n hx hb dX1_read_45 rfl (lv_at hl 0 rfl) ?_
    have o3 := hw.1
    replace hw := hw.2
    obtain ⟨b4, ebb4, hw⟩ := hw
    refine rX_getRs C hM 0 2 rfl in_X1 (by decide) (by decide) rfl q465 o3 ebb4 dX1_read_46 ?_
    refine lv_astore_n (lv' := [(2, .ref b4), (0, .ref a0), (1, .int v1)]) hx hb dX1_read_49 rfl hl (by decide) rfl (fun ls hl => ?_)
    refine lv_aload_n hx hb dX1_read_50 rfl (lv_at hl 1 rfl) ?_
    refine lv_aload_n hx hb dX1_read_51 rfl (lv_at hl 1 rfl) ?_
    have o5 := hw.1
    replace hw := hw.2
    obtain ⟨b6, ebb6, hw⟩ := hw
    refine rX_getRs C hM 0 3 rfl in_X1 (by decide) (by decide) rfl q466 o5 ebb6 dX1_read_52 ?_
    have o8 := hw.1
    replace hw := hw.2
    refine rX_putR C hM 0 2 rfl in_X1 (by decide) (by decide) rfl rfl q465 o8 (x := (some b6)) tyX1 tyX1_ok nmX1 rfl rfl rfl dX1_read_55 (fun h7 H locs eσ hM => ?_)
    replace hw := hw h7 eσ
    clear eσ
    refine lv_aload_n hx hb dX1_read_58 rfl (lv_at hl 1 rfl) ?_
    refine lv_aload_n hx hb dX1_read_59 rfl (lv_at hl 0 rfl) ?_
    have o10 := hw.1
    replace hw := hw.2
    refine rX_putR C hM 0 3 rfl in_X1 (by decide) (by decide) rfl rfl q466 o10 (x := (some b4)) tyX1 tyX1_ok nmX1 rfl rfl rfl dX1_read_60 (fun h9 H locs eσ hM => ?_)
    replace hw := hw h9 eσ
    clear eσ
    refine lv_aload_n hx hb dX1_read_63 rfl (lv_at hl 1 rfl) ?_
    refine lv_iconst (v := 1) hx hb dX1_read_64 (by decide) ?_
    have o12 := hw.1
    replace hw := hw.2
    refine rX_putI C hM 0 8 rfl in_X1 (by decide) (by decide) rfl rfl q471 o12 tyX1 tyX1_ok nmX1 rfl (isB_n isB_1) (isB_f isB_1) dX1_read_65 (fun h11 H locs eσ hM => ?_)
    replace hw := hw h11 eσ
    clear eσ
    refine lv_aload_n hx hb dX1_read_68 rfl (lv_at hl 1 rfl) ?_
    have o13 := hw.1
    replace hw := hw.2
    obtain ⟨b14, ebb14, hw⟩ := hw
    refine rX_getRs C hM 0 4 rfl in_X1 (by decide) (by decide) rfl q467 o13 ebb14 dX1_read_69 ?_
    refine lv_aload_n hx hb dX1_read_72 rfl (lv_at hl 1 rfl) ?_
    have o15 := hw.1
    replace hw := hw.2
    obtain ⟨b16, ebb16, hw⟩ := hw
    refine rX_getRs C hM 0 2 rfl in_X1 (by decide) (by decide) rfl q465 o15 ebb16 dX1_read_73 ?_
    have o18 := hw.1
    replace hw := hw.2
    refine rX_gov C hM (runX_V C hM hl.1 4 1 (As := [.ref b16]) rfl (by decide) o18 (mt_X5_work l D dA ev _ h11 b14 b16  _ hw) (lw_V q625 q626 q627 q85 q628) rfl rfl (by decide +kernel) ⟨Nat.le_of_ble_eq_true rfl, Nat.le_of_ble_eq_true rfl⟩ rfl (Nat.le_of_ble_eq_true rfl) rfl dX1_read_76 ⟨by show cells + 0 ≤ MC; omega, by show slots + 0 ≤ MS; omega⟩) (fun h17 H locs hw hM => ?_)
    refine lv_aload_n hx hb dX1_read_79 rfl (lv_at hl 1 rfl) ?_
    have o20 := hw.1
    replace hw := hw.2
    obtain ⟨b21, ebb21, hw⟩ := hw
    refine rX_getRs C hM 0 7 rfl in_X1 (by decide) (by decide) rfl q470 o20 ebb21 dX1_read_80 ?_
    refine lv_astore_n (lv' := [(3, .ref b21), (2, .ref b4), (0, .ref a0), (1, .int v1)]) hx hb dX1_read_83 rfl hl (by decide) rfl (fun ls hl => ?_)
    refine lv_aload_n hx hb dX1_read_84 rfl (lv_at hl 0 rfl) ?_
    have o22 := hw.1
    replace hw := hw.2
    refine rX_alen C hM 7 (by decide) o22 dX1_read_85 ?_
    refine lv_topi (fun x23 ex23 => ?_)
    replace hw := hw x23 ex23
    refine lv_istore (lv' := [(4, .int x23), (3, .ref b21), (2, .ref b4), (0, .ref a0), (1, .int v1)]) hx hb dX1_read_86 hl (by decide) rfl (fun ls hl => ?_)
    refine lv_iconst (v := 0) hx hb dX1_read_88 (by decide) ?_
    refine lv_istore (lv' := [(5, .int 0), (4, .int x23), (3, .ref b21), (2, .ref b4), (0, .ref a0), (1, .int v1)]) hx hb dX1_read_89 hl (by decide) rfl (fun ls hl => ?_)
    obtain ⟨n91, hw⟩ := hw
    exact wk_X1_read_91 C hst hZ htab  n91 a0 b21 x23 0 h17 mc ms _ _ _ _ ls hw hM hbud (lv_sub hl [4, 2, 1, 0] rfl)
  · replace hw := hw.2 hc
    refine lv_iload_n hx hb dX1_read_43 rfl (lv_at hl 1 rfl) ?_
    exact vx_ret (rX_iret C hM ⟨by show cells ≤ MC; omega, by show slots ≤ MS; omega⟩ hw dX1_read_44)
set_option maxHeartbeats 4000000 in
/-- LeastSolutions.read()I -/
theorem mt_X1_read (l : Launch) (hst : l.stackTraces = false) (D : va_G) (dA : Nat → ClassId) (ev : Nat → Nat) (sz : Nat) (h : Hp) (a0 : Nat) (MC MS : Nat) (Qr : Int32 → Hp → Prop) (Xr : String → Hp → Prop) (hw : wp_X1_read ev h a0 MC MS Qr Xr) : vx_Met l yX1_read (ws_ yX1_read cX1_read 7 (some .int)) (rm_X1_read MC MS) (PcZ D dA ev h sz [.ref a0]) (va_Qi Qr (BX D dA (AX dA h sz)) (AX dA h sz)) (XP D dA (AX dA h sz) Xr) MC MS (AX dA h sz) := by
  refine vx_ofW (cc := cX1_read) (maxL := 7) (ret := (some .int)) (by decide) rfl ?_
  intro p e s m args below meth c s₁ B hml htab hv
  obtain ⟨rfl, ⟨hsz, hP, hK, hD0, hE⟩, hZ⟩ := hv
  subst hsz
  have hts0 := atoms_spec (ws := ws_ yX1_read cX1_read 7 (some .int)) B.pre
  have C : CxM p s m meth c _ (AX dA h s.heap.size) "LeastSolutions" cX1_read 7 (some .int) := ⟨B.exec, B.bytes, B.returns, B.notSynchronized, hml, findClass_of_methodNamed B.named, fun w h => hts0 w (List.mem_cons_of_mem _ h), fun q h => Or.inr h⟩
  have hM : wX D dA ev (AX dA h s.heap.size) s h s.heap [] := ⟨hK, hP, hD0.self, va_S.rf, hE⟩
  have hx := C.1
  have hb := C.2.1
  have hown := C.2.2.2.2.2.1
  have hts := C.2.2.2.2.2.2.1
  have hl := lv_entry ([.ref a0]) (n := 7) (Nat.le_of_ble_eq_true rfl)
  rw [lg_entry_eq]
  generalize (lg_sl ([.ref a0]) ++ List.replicate (7 - (lg_sl ([.ref a0])).length) Slot.unset).toArray = ls at hl ⊢
  have hl : lv_has ls 7 [(0, .ref a0)] := hl
  have hbud : 0 + MC ≤ MC ∧ 0 + MS ≤ MS := ⟨by omega, by omega⟩
  unfold wp_X1_read at hw
  refine lv_aload_n hx hb dX1_read_0 rfl (lv_at hl 0 rfl) ?_
  have o1 := hw.1
  replace hw := hw.2
  obtain ⟨b2, ebb2, hw⟩ := hw
  refine rX_getRs C hM 0 1 rfl in_X1 (by decide) (by decide) rfl q464 o1 ebb2 dX1_read_1 ?_
  refine lv_aload_n hx hb dX1_read_4 rfl (lv_at hl 0 rfl) ?_
  have o3 := hw.1
  replace hw := hw.2
  obtain ⟨b4, ebb4, hw⟩ := hw
  refine rX_getRs C hM 0 3 rfl in_X1 (by decide) (by decide) rfl q466 o3 ebb4 dX1_read_5 ?_
  have o7 := hw.1
  replace hw := hw.2
  refine rZ_goi C hM (runZ_VW C hM hZ hl.1 2 1 (As := [.ref b4]) rfl (by decide) o7 (mt_X3_work l hst D dA ev _ h b2 b4  _ _ hw) (lw_VW q523 q524 q525 q79 q526) rfl rfl (by decide +kernel) ⟨Nat.le_of_ble_eq_true rfl, Nat.le_of_ble_eq_true rfl⟩ rfl (Nat.le_of_ble_eq_true rfl) rfl dX1_read_8 ⟨by show 0 + 0 ≤ MC; omega, by show 0 + 0 ≤ MS; omega⟩) (fun E ce q9 h8 H locs hw hM g1 g2 g3 => rZ_out C hM (fun x hx => (htab x hx).elim) ⟨by show 0 + 0 ≤ MC; omega, by show 0 + 0 ≤ MS; omega⟩ hw g1 g2 g3) (fun x6 h5 H locs hw hM => ?_)
  refine lv_istore_n (lv' := [(1, .int x6), (0, .ref a0)]) hx hb dX1_read_11 rfl hl (by decide) rfl (fun ls hl => ?_)
  refine lv_aload_n hx hb dX1_read_12 rfl (lv_at hl 1 rfl) ?_
  have o9 := hw.1
  replace hw := hw.2
  obtain ⟨b10, ebb10, hw⟩ := hw
  refine rX_getRs C hM 0 0 rfl in_X1 (by decide) (by decide) rfl q463 o9 ebb10 dX1_read_13 ?_
  refine lv_iconst (v := 0) hx hb dX1_read_16 (by decide) ?_
  have o12 := hw.1
  replace hw := hw.2
  refine rX_putIN C hM 1 1 rfl in_X2 (by decide) (by decide) rfl rfl q131 o12 tyX2 tyX2_ok nmX2 rfl rfl rfl dX1_read_17 (fun h11 H locs eσ hM => ?_)
  replace hw := hw h11 eσ
  clear eσ
  refine lv_aload_n hx hb dX1_read_20 rfl (lv_at hl 1 rfl) ?_
  refine lv_iload_n hx hb dX1_read_21 rfl (lv_at hl 0 rfl) ?_
  refine lv_if_ne (tgt := 29) hx hb dX1_read_22 (by decide) (fun hc => ?_) (fun hc => ?_)
  · replace hw := hw.1 hc
    refine lv_aload_n hx hb dX1_read_29 rfl (lv_at hl 1 rfl) ?_
    have o13 := hw.1
    replace hw := hw.2
    obtain ⟨b14, ebb14, hw⟩ := hw
    refine rX_getRs C hM 0 1 rfl in_X1 (by decide) (by decide) rfl q464 o13 ebb14 dX1_read_30 ?_
    have o15 := hw.1
    replace hw := hw.2
    refine rX_getIN C hM 2 9 rfl in_X3 (by decide) (by decide) rfl q235 o15 dX1_read_33 ?_
    exact wk_X1_read_36 C hst hZ htab  a0 x6 a0 ((hI h11 b14 9)) h11 MC MS _ _ _ _ ls hw hM hbud (lv_sub hl [1, 0] rfl)
  · replace hw := hw.2 hc
    refine lv_iconst (v := (-1)) hx hb dX1_read_25 (by decide) ?_
    refine lv_goto (tgt := 36) hx hb dX1_read_26 (by decide) ?_
    exact wk_X1_read_36 C hst hZ htab  a0 x6 a0 (-1) h11 MC MS _ _ _ _ ls hw hM hbud (lv_sub hl [1, 0] rfl)
abbrev rm_X1_split (MC MS : Nat) : Room := { frames := 8, cells := MC, slots := MS, locals := 157 }
set_option maxHeartbeats 4000000 in
theorem wk_X1_split_204 {p : Program} {l : Launch} {e : Env} {s : State} {m : MethodId} {args : Array Value} {below : List Frame} {meth : Method} {c : Code} {D : va_G} {dA : Nat → ClassId} {ev : Nat → Nat} {h0 : Hp} {sz : Nat} {MC MS : Nat} (C : CxM p s m meth c args (AX dA h0 sz) "LeastSolutions" cX1_split 7 (some .int)) (hst : l.stackTraces = false) (hZ : ZX (AX dA h0 sz) s s.heap) (htab : ∀ x ∈ c.exceptionTable.toList, False) {Qr : Int32 → Hp → Prop} {Xr : String → Hp → Prop} {K186 : Nat → Nat → Int32 → Nat → Int32 → Hp → Nat → Nat → Prop} (hK186 : ∀ (a0 : Nat) (v2 : Nat) (v4 : Int32) (v5 : Nat) (v6 : Int32) (h : Hp) (mc ms : Nat) (cells slots : Nat) (H : Heap) (locs : List Loc) (ls : Array Slot), K186 a0 v2 v4 v5 v6 h mc ms → wX D dA ev (AX dA h0 sz) s h H locs → cells + mc ≤ MC ∧ slots + ms ≤ MS → lv_has ls 7 [(0, .ref a0), (2, .ref v2), (4, .int v4), (5, .ref v5), (6, .int v6)] → W p l e (rm_X1_split MC MS) s m args below meth c H locs cells slots (vx_MQ below (va_Qi Qr (BX D dA (AX dA h0 sz)) (AX dA h0 sz)) (XP D dA (AX dA h0 sz) Xr) args s MC MS (AX dA h0 sz)) (F0 m 186 ls [])) : ∀ (n : Nat) (a0 : Nat) (v2 : Nat) (v4 : Int32) (v5 : Nat) (v6 : Int32) (h : Hp) (mc ms : Nat) (cells slots : Nat) (H : Heap) (locs : List Loc) (ls : Array Slot), wp_X1_split_204 ev Qr Xr K186 n a0 v2 v4 v5 v6 h mc ms → wX D dA ev (AX dA h0 sz) s h H locs → cells + mc ≤ MC ∧ slots + ms ≤ MS → lv_has ls 7 [(0, .ref a0), (2, .ref v2), (4, .int v4), (5, .ref v5), (6, .int v6)] → W p l e (rm_X1_split MC MS) s m args below meth c H locs cells slots (vx_MQ below (va_Qi Qr (BX D dA (AX dA h0 sz)) (AX dA h0 sz)) (XP D dA (AX dA h0 sz) Xr) args s MC MS (AX dA h0 sz)) (F0 m 204 ls []) := by
  intro n
  induction n with
  | zero => intro a0 v2 v4 v5 v6 h mc ms cells slots H locs ls hw; exact hw.elim
  | succ n204 ih =>
    intro a0 v2 v4 v5 v6 h mc ms cells slots H locs ls hw hM hbud hl
    have hx := C.1
    have hb := C.2.1
    have hown := C.2.2.2.2.2.1
    have hts := C.2.2.2.2.2.2.1
    unfold wp_X1_split_204 at hw
    refine lv_aload hx hb dX1_split_204 (lv_at hl 3 rfl) ?_
    refine lv_iload hx hb dX1_split_206 (lv_at hl 4 rfl) ?_
    have o3 := hw.1
    replace hw := hw.2
    refine rX_goq C hM (runX_V C hM hl.1 6 1 (As := [.int v6]) rfl (by decide) o3 (mt_X7_get l D dA ev _ h v5 v6  _ hw) (lw_V q809 q810 q811 q87 q812) rfl rfl (by decide +kernel) ⟨Nat.le_of_ble_eq_true rfl, Nat.le_of_ble_eq_true rfl⟩ rfl (Nat.le_of_ble_eq_true rfl) rfl dX1_split_208 ⟨by show cells + 0 ≤ MC; omega, by show slots + 0 ≤ MS; omega⟩) (fun r2 h1 H locs hw hM => ?_)
    have o5 := hw.1
    replace hw := hw.2
    refine rX_castS (r := r2) C hM 10 rfl (by decide) q813 o5 dX1_split_211 ?_
    refine lv_aload_n hx hb dX1_split_214 rfl (lv_at hl 1 rfl) ?_
    obtain ⟨b6, eb, hw⟩ := hw
    subst eb
    have o9 := hw.1
    replace hw := hw.2
    refine rX_goi C hM (runX_V C hM hl.1 10 1 (As := [.ref v2]) rfl (by decide) o9 (mt_X11_isIn l D dA ev _ h1 b6 v2  _ hw) (lw_V q814 q815 q816 q104 q817) rfl rfl (by decide +kernel) ⟨Nat.le_of_ble_eq_true rfl, Nat.le_of_ble_eq_true rfl⟩ rfl (Nat.le_of_ble_eq_true rfl) rfl dX1_split_215 ⟨by show cells + 0 ≤ MC; omega, by show slots + 0 ≤ MS; omega⟩) (fun x8 h7 H locs hw hM => ?_)
    refine lv_if_eq (tgt := 249) hx hb dX1_split_218 (by decide) (fun hc => ?_) (fun hc => ?_)
    · replace hw := hw.1 hc
      obtain ⟨x11, ex11⟩ : ∃ y : Int32, y = v6 + 1 := ⟨_, rfl⟩
      replace hw := hw x11 ex11
      refine lv_iinc (v := x11) (lv' := [(6, .int x11), (0, .ref a0), (2, .ref v2), (4, .int v4), (5, .ref v5)]) hx hb dX1_split_249 hl (k := 4) rfl (by rw [ex11]; rfl) (by decide) rfl (fun ls hl => ?_)
      refine lv_goto (tgt := 186) hx hb dX1_split_252 (by decide) ?_
      exact hK186 a0 v2 v4 v5 x11 h7 mc ms _ _ _ _ ls hw hM hbud (lv_sub hl [1, 2, 3, 4, 0] rfl)
    · replace hw := hw.2 hc
      refine lv_aload hx hb dX1_split_221 (lv_at hl 3 rfl) ?_
      refine lv_iload hx hb dX1_split_223 (lv_at hl 4 rfl) ?_
      have o14 := hw.1
      replace hw := hw.2
      refine rX_goq C hM (runX_V C hM hl.1 6 1 (As := [.int v6]) rfl (by decide) o14 (mt_X7_get l D dA ev _ h7 v5 v6  _ hw) (lw_V q809 q810 q811 q87 q812) rfl rfl (by decide +kernel) ⟨Nat.le_of_ble_eq_true rfl, Nat.le_of_ble_eq_true rfl⟩ rfl (Nat.le_of_ble_eq_true rfl) rfl dX1_split_225 ⟨by show cells + 0 ≤ MC; omega, by show slots + 0 ≤ MS; omega⟩) (fun r13 h12 H locs hw hM => ?_)
      have o16 := hw.1
      replace hw := hw.2
      refine rX_castS (r := r13) C hM 10 rfl (by decide) q813 o16 dX1_split_228 ?_
      refine lv_aload_n hx hb dX1_split_231 rfl (lv_at hl 1 rfl) ?_
      obtain ⟨b17, eb, hw⟩ := hw
      subst eb
      refine rX_gov C hM (runX_S C hM hl.1 2 (As := [.ref b17, .ref v2]) (mt_X1_take l D dA ev _ h12 b17 v2  _ hw) (lw_S q818 q819 q75 q820) rfl rfl (by decide +kernel) ⟨Nat.le_of_ble_eq_true rfl, Nat.le_of_ble_eq_true rfl⟩ rfl (Nat.le_of_ble_eq_true rfl) rfl dX1_split_232 ⟨by show cells + 0 ≤ MC; omega, by show slots + 0 ≤ MS; omega⟩) (fun h18 H locs hw hM => ?_)
      refine lv_aload_n hx hb dX1_split_235 rfl (lv_at hl 0 rfl) ?_
      have o20 := hw.1
      replace hw := hw.2
      obtain ⟨b21, ebb21, hw⟩ := hw
      refine rX_getRs C hM 0 11 rfl in_X1 (by decide) (by decide) rfl q474 o20 ebb21 dX1_split_236 ?_
      refine lv_iload hx hb dX1_split_239 (lv_at hl 4 rfl) ?_
      refine lv_dup2_11 hx hb dX1_split_241 rfl rfl ?_
      have o22 := hw.1
      replace hw := hw.2
      have o23 := hw.1
      replace hw := hw.2
      refine rX_iald C hM o22 o23 dX1_split_242 ?_
      refine lv_iconst (v := 1) hx hb dX1_split_243 (by decide) ?_
      refine lv_iadd hx hb dX1_split_244 ?_
      have o25 := hw.1
      replace hw := hw.2
      have o26 := hw.1
      replace hw := hw.2
      refine rX_iast C hM o25 o26 dX1_split_245 (fun h24 H locs eσ hM => ?_)
      replace hw := hw h24 eσ
      clear eσ
      refine lv_goto (tgt := 204) hx hb dX1_split_246 (by decide) ?_
      exact ih a0 v2 v4 v5 v6 h24 mc ms _ _ _ _ ls hw hM hbud (lv_sub hl [0, 1, 2, 3, 4] rfl)
set_option maxHeartbeats 4000000 in
theorem wk_X1_split_186 {p : Program} {l : Launch} {e : Env} {s : State} {m : MethodId} {args : Array Value} {below : List Frame} {meth : Method} {c : Code} {D : va_G} {dA : Nat → ClassId} {ev : Nat → Nat} {h0 : Hp} {sz : Nat} {MC MS : Nat} (C : CxM p s m meth c args (AX dA h0 sz) "LeastSolutions" cX1_split 7 (some .int)) (hst : l.stackTraces = false) (hZ : ZX (AX dA h0 sz) s s.heap) (htab : ∀ x ∈ c.exceptionTable.toList, False) {Qr : Int32 → Hp → Prop} {Xr : String → Hp → Prop} : ∀ (n : Nat) (a0 : Nat) (v2 : Nat) (v4 : Int32) (v5 : Nat) (v6 : Int32) (h : Hp) (mc ms : Nat) (cells slots : Nat) (H : Heap) (locs : List Loc) (ls : Array Slot), wp_X1_split_186 ev Qr Xr n a0 v2 v4 v5 v6 h mc ms → wX D dA ev (AX dA h0 sz) s h H locs → cells + mc ≤ MC ∧ slots + ms ≤ MS → lv_has ls 7 [(0, .ref a0), (2, .ref v2), (4, .int v4), (5, .ref v5), (6, .int v6)] → W p l e (rm_X1_split MC MS) s m args below meth c H locs cells slots (vx_MQ below (va_Qi Qr (BX D dA (AX dA h0 sz)) (AX dA h0 sz)) (XP D dA (AX dA h0 sz) Xr) args s MC MS (AX dA h0 sz)) (F0 m 186 ls []) := by
  intro n
  induction n with
  | zero => intro a0 v2 v4 v5 v6 h mc ms cells slots H locs ls hw; exact hw.elim
  | succ n186 ih =>
    intro a0 v2 v4 v5 v6 h mc ms cells slots H locs ls hw hM hbud hl
    have hx := C.1
    have hb := C.2.1
    have hown := C.2.2.2.2.2.1
    have hts := C.2.2.2.2.2.2.1
    unfold wp_X1_split_186 at hw
    refine lv_iload hx hb dX1_split_186 (lv_at hl 4 rfl) ?_
    refine lv_aload hx hb dX1_split_188 (lv_at hl 3 rfl) ?_
    have o3 := hw.1
    replace hw := hw.2
    refine rX_goi C hM (runX_V C hM hl.1 6 0 (As := []) rfl (by decide) o3 (mt_X7_size l D dA ev _ h v5  _ hw) (lw_V q821 q822 q823 q87 q824) rfl rfl (by decide +kernel) ⟨Nat.le_of_ble_eq_true rfl, Nat.le_of_ble_eq_true rfl⟩ rfl (Nat.le_of_ble_eq_true rfl) rfl dX1_split_190 ⟨by show cells + 0 ≤ MC; omega, by show slots + 0 ≤ MS; omega⟩) (fun x2 h1 H locs hw hM => ?_)
    refine lv_icmp_ge (tgt := 255) hx hb dX1_split_193 (by decide) (fun hc => ?_) (fun hc => ?_)
    · replace hw := hw.1 hc
      refine lv_aload_n hx hb dX1_split_255 rfl (lv_at hl 0 rfl) ?_
      refine lv_iconst (v := 1) hx hb dX1_split_256 (by decide) ?_
      have o6 := hw.1
      replace hw := hw.2
      refine rX_putI C hM 0 12 rfl in_X1 (by decide) (by decide) rfl rfl q475 o6 tyX1 tyX1_ok nmX1 rfl (isB_n isB_1) (isB_f isB_1) dX1_split_257 (fun h5 H locs eσ hM => ?_)
      replace hw := hw h5 eσ
      clear eσ
      refine lv_iload hx hb dX1_split_260 (lv_at hl 2 rfl) ?_
      exact vx_ret (rX_iret C hM ⟨by show cells ≤ MC; omega, by show slots ≤ MS; omega⟩ hw dX1_split_262)
    · replace hw := hw.2 hc
      refine lv_aload_n hx hb dX1_split_196 rfl (lv_at hl 0 rfl) ?_
      have o7 := hw.1
      replace hw := hw.2
      obtain ⟨b8, ebb8, hw⟩ := hw
      refine rX_getRs C hM 0 11 rfl in_X1 (by decide) (by decide) rfl q474 o7 ebb8 dX1_split_197 ?_
      refine lv_iload hx hb dX1_split_200 (lv_at hl 4 rfl) ?_
      refine lv_iconst (v := 0) hx hb dX1_split_202 (by decide) ?_
      have o10 := hw.1
      replace hw := hw.2
      have o11 := hw.1
      replace hw := hw.2
      refine rX_iast C hM o10 o11 dX1_split_203 (fun h9 H locs eσ hM => ?_)
      replace hw := hw h9 eσ
      clear eσ
      obtain ⟨n204, hw⟩ := hw
      exact wk_X1_split_204 C hst hZ htab ih n204 a0 v2 v4 v5 v6 h9 mc ms _ _ _ _ ls hw hM hbud (lv_sub hl [0, 1, 2, 3, 4] rfl)
set_option maxHeartbeats 4000000 in
theorem wk_X1_split_137 {p : Program} {l : Launch} {e : Env} {s : State} {m : MethodId} {args : Array Value} {below : List Frame} {meth : Method} {c : Code} {D : va_G} {dA : Nat → ClassId} {ev : Nat → Nat} {h0 : Hp} {sz : Nat} {MC MS : Nat} (C : CxM p s m meth c args (AX dA h0 sz) "LeastSolutions" cX1_split 7 (some .int)) (hst : l.stackTraces = false) (hZ : ZX (AX dA h0 sz) s s.heap) (htab : ∀ x ∈ c.exceptionTable.toList, False) {Qr : Int32 → Hp → Prop} {Xr : String → Hp → Prop} : ∀ (n : Nat) (a0 : Nat) (v2 : Nat) (v3 : Nat) (v4 : Int32) (h : Hp) (mc ms : Nat) (cells slots : Nat) (H : Heap) (locs : List Loc) (ls : Array Slot), wp_X1_split_137 ev Qr Xr n a0 v2 v3 v4 h mc ms → wX D dA ev (AX dA h0 sz) s h H locs → cells + mc ≤ MC ∧ slots + ms ≤ MS → lv_has ls 7 [(0, .ref a0), (2, .ref v2), (3, .ref v3), (4, .int v4)] → W p l e (rm_X1_split MC MS) s m args below meth c H locs cells slots (vx_MQ below (va_Qi Qr (BX D dA (AX dA h0 sz)) (AX dA h0 sz)) (XP D dA (AX dA h0 sz) Xr) args s MC MS (AX dA h0 sz)) (F0 m 137 ls []) := by
  intro n
  induction n with
  | zero => intro a0 v2 v3 v4 h mc ms cells slots H locs ls hw; exact hw.elim
  | succ n137 ih =>
    intro a0 v2 v3 v4 h mc ms cells slots H locs ls hw hM hbud hl
    have hx := C.1
    have hb := C.2.1
    have hown := C.2.2.2.2.2.1
    have hts := C.2.2.2.2.2.2.1
    unfold wp_X1_split_137 at hw
    refine lv_aload_n hx hb dX1_split_137 rfl (lv_at hl 2 rfl) ?_
    refine lv_iload hx hb dX1_split_138 (lv_at hl 3 rfl) ?_
    have o3 := hw.1
    replace hw := hw.2
    refine rX_goq C hM (runX_V C hM hl.1 6 1 (As := [.int v4]) rfl (by decide) o3 (mt_X7_get l D dA ev _ h v3 v4  _ hw) (lw_V q809 q810 q811 q87 q812) rfl rfl (by decide +kernel) ⟨Nat.le_of_ble_eq_true rfl, Nat.le_of_ble_eq_true rfl⟩ rfl (Nat.le_of_ble_eq_true rfl) rfl dX1_split_140 ⟨by show cells + 0 ≤ MC; omega, by show slots + 0 ≤ MS; omega⟩) (fun r2 h1 H locs hw hM => ?_)
    have o5 := hw.1
    replace hw := hw.2
    refine rX_castS (r := r2) C hM 10 rfl (by decide) q813 o5 dX1_split_143 ?_
    refine lv_aload_n hx hb dX1_split_146 rfl (lv_at hl 1 rfl) ?_
    obtain ⟨b6, eb, hw⟩ := hw
    subst eb
    have o9 := hw.1
    replace hw := hw.2
    refine rX_goi C hM (runX_V C hM hl.1 10 1 (As := [.ref v2]) rfl (by decide) o9 (mt_X11_isIn l D dA ev _ h1 b6 v2  _ hw) (lw_V q814 q815 q816 q104 q817) rfl rfl (by decide +kernel) ⟨Nat.le_of_ble_eq_true rfl, Nat.le_of_ble_eq_true rfl⟩ rfl (Nat.le_of_ble_eq_true rfl) rfl dX1_split_147 ⟨by show cells + 0 ≤ MC; omega, by show slots + 0 ≤ MS; omega⟩) (fun x8 h7 H locs hw hM => ?_)
    refine lv_if_ne (tgt := 159) hx hb dX1_split_150 (by decide) (fun hc => ?_) (fun hc => ?_)
    · replace hw := hw.1 hc
      refine lv_aload_n hx hb dX1_split_159 rfl (lv_at hl 2 rfl) ?_
      refine lv_iload hx hb dX1_split_160 (lv_at hl 3 rfl) ?_
      have o13 := hw.1
      replace hw := hw.2
      refine rX_goq C hM (runX_V C hM hl.1 6 1 (As := [.int v4]) rfl (by decide) o13 (mt_X7_get l D dA ev _ h7 v3 v4  _ hw) (lw_V q809 q810 q811 q87 q812) rfl rfl (by decide +kernel) ⟨Nat.le_of_ble_eq_true rfl, Nat.le_of_ble_eq_true rfl⟩ rfl (Nat.le_of_ble_eq_true rfl) rfl dX1_split_162 ⟨by show cells + 0 ≤ MC; omega, by show slots + 0 ≤ MS; omega⟩) (fun r12 h11 H locs hw hM => ?_)
      have o15 := hw.1
      replace hw := hw.2
      refine rX_castS (r := r12) C hM 10 rfl (by decide) q813 o15 dX1_split_165 ?_
      refine lv_aload_n hx hb dX1_split_168 rfl (lv_at hl 1 rfl) ?_
      obtain ⟨b16, eb, hw⟩ := hw
      subst eb
      refine rX_gov C hM (runX_S C hM hl.1 2 (As := [.ref b16, .ref v2]) (mt_X1_take l D dA ev _ h11 b16 v2  _ hw) (lw_S q818 q819 q75 q820) rfl rfl (by decide +kernel) ⟨Nat.le_of_ble_eq_true rfl, Nat.le_of_ble_eq_true rfl⟩ rfl (Nat.le_of_ble_eq_true rfl) rfl dX1_split_169 ⟨by show cells + 0 ≤ MC; omega, by show slots + 0 ≤ MS; omega⟩) (fun h17 H locs hw hM => ?_)
      refine lv_aload_n hx hb dX1_split_172 rfl (lv_at hl 0 rfl) ?_
      have o19 := hw.1
      replace hw := hw.2
      obtain ⟨b20, ebb20, hw⟩ := hw
      refine rX_getRs C hM 0 7 rfl in_X1 (by decide) (by decide) rfl q470 o19 ebb20 dX1_split_173 ?_
      refine lv_iconst (v := 0) hx hb dX1_split_176 (by decide) ?_
      have o21 := hw.1
      replace hw := hw.2
      have o22 := hw.1
      replace hw := hw.2
      obtain ⟨b23, ebb23, hw⟩ := hw
      refine rX_aalds C hM 7 (by decide) (by decide) o21 o22 ebb23 dX1_split_177 ?_
      have o24 := hw.1
      replace hw := hw.2
      obtain ⟨b25, ebb25, hw⟩ := hw
      refine rX_getRsN C hM 8 0 rfl in_X9 (by decide) (by decide) rfl q453 o24 ebb25 dX1_split_178 ?_
      refine lv_astore (lv' := [(5, .ref b25), (0, .ref a0), (2, .ref v2), (3, .ref v3), (4, .int v4)]) hx hb dX1_split_181 hl (by decide) rfl (fun ls hl => ?_)
      refine lv_iconst (v := 0) hx hb dX1_split_183 (by decide) ?_
      refine lv_istore (lv' := [(6, .int 0), (5, .ref b25), (0, .ref a0), (2, .ref v2), (3, .ref v3), (4, .int v4)]) hx hb dX1_split_184 hl (by decide) rfl (fun ls hl => ?_)
      obtain ⟨n186, hw⟩ := hw
      exact wk_X1_split_186 C hst hZ htab  n186 a0 v2 v4 b25 0 h17 mc ms _ _ _ _ ls hw hM hbud (lv_sub hl [2, 3, 5, 1, 0] rfl)
    · replace hw := hw.2 hc
      obtain ⟨x26, ex26⟩ : ∃ y : Int32, y = v4 + 1 := ⟨_, rfl⟩
      replace hw := hw x26 ex26
      refine lv_iinc (v := x26) (lv' := [(4, .int x26), (0, .ref a0), (2, .ref v2), (3, .ref v3)]) hx hb dX1_split_153 hl (k := 3) rfl (by rw [ex26]; rfl) (by decide) rfl (fun ls hl => ?_)
      refine lv_goto (tgt := 137) hx hb dX1_split_156 (by decide) ?_
      exact ih a0 v2 v3 x26 h7 mc ms _ _ _ _ ls hw hM hbud (lv_sub hl [1, 2, 3, 0] rfl)
set_option maxHeartbeats 4000000 in
theorem wk_X1_split_105 {p : Program} {l : Launch} {e : Env} {s : State} {m : MethodId} {args : Array Value} {below : List Frame} {meth : Method} {c : Code} {D : va_G} {dA : Nat → ClassId} {ev : Nat → Nat} {h0 : Hp} {sz : Nat} {MC MS : Nat} (C : CxM p s m meth c args (AX dA h0 sz) "LeastSolutions" cX1_split 7 (some .int)) (hst : l.stackTraces = false) (hZ : ZX (AX dA h0 sz) s s.heap) (htab : ∀ x ∈ c.exceptionTable.toList, False) {Qr : Int32 → Hp → Prop} {Xr : String → Hp → Prop} : ∀ (a0 : Nat) (h : Hp) (mc ms : Nat) (cells slots : Nat) (H : Heap) (locs : List Loc) (ls : Array Slot), wp_X1_split_105 ev Qr Xr a0 h mc ms → wX D dA ev (AX dA h0 sz) s h H locs → cells + mc ≤ MC ∧ slots + ms ≤ MS → lv_has ls 7 [(0, .ref a0)] → W p l e (rm_X1_split MC MS) s m args below meth c H locs cells slots (vx_MQ below (va_Qi Qr (BX D dA (AX dA h0 sz)) (AX dA h0 sz)) (XP D dA (AX dA h0 sz) Xr) args s MC MS (AX dA h0 sz)) (F0 m 105 ls []) := by
  intro a0 h mc ms cells slots H locs ls hw hM hbud hl
  have hx := C.1
  have hb := C.2.1
  have hown := C.2.2.2.2.2.1
  have hts := C.2.2.2.2.2.2.1
  unfold wp_X1_split_105 at hw
  refine lv_iconst (v := (-1)) hx hb dX1_split_105 (by decide) ?_
  exact vx_ret (rX_iret C hM ⟨by show cells ≤ MC; omega, by show slots ≤ MS; omega⟩ hw dX1_split_106)
set_option maxHeartbeats 4000000 in
theorem wk_X1_split_56 {p : Program} {l : Launch} {e : Env} {s : State} {m : MethodId} {args : Array Value} {below : List Frame} {meth : Method} {c : Code} {D : va_G} {dA : Nat → ClassId} {ev : Nat → Nat} {h0 : Hp} {sz : Nat} {MC MS : Nat} (C : CxM p s m meth c args (AX dA h0 sz) "LeastSolutions" cX1_split 7 (some .int)) (hst : l.stackTraces = false) (hZ : ZX (AX dA h0 sz) s s.heap) (htab : ∀ x ∈ c.exceptionTable.toList, False) {Qr : Int32 → Hp → Prop} {Xr : String → Hp → Prop} : ∀ (n : Nat) (a0 : Nat) (v1 : Int32) (v2 : Nat) (v3 : Int32) (v4 : Int32) (h : Hp) (mc ms : Nat) (cells slots : Nat) (H : Heap) (locs : List Loc) (ls : Array Slot), wp_X1_split_56 ev Qr Xr n a0 v1 v2 v3 v4 h mc ms → wX D dA ev (AX dA h0 sz) s h H locs → cells + mc ≤ MC ∧ slots + ms ≤ MS → lv_has ls 7 [(0, .ref a0), (1, .int v1), (2, .ref v2), (3, .int v3), (4, .int v4)] → W p l e (rm_X1_split MC MS) s m args below meth c H locs cells slots (vx_MQ below (va_Qi Qr (BX D dA (AX dA h0 sz)) (AX dA h0 sz)) (XP D dA (AX dA h0 sz) Xr) args s MC MS (AX dA h0 sz)) (F0 m 56 ls []) := by
  intro n
  induction n with
  | zero => intro a0 v1 v2 v3 v4 h mc ms cells slots H locs ls hw; exact hw.elim
  | succ n56 ih =>
    intro a0 v1 v2 v3 v4 h mc ms cells slots H locs ls hw hM hbud hl
    have hx := C.1
    have hb := C.2.1
    have hown := C.2.2.2.2.2.1
    have hts := C.2.2.2.2.2.2.1
    unfold wp_X1_split_56 at hw
    refine lv_iload hx hb dX1_split_56 (lv_at hl 4 rfl) ?_
    refine lv_iload_n hx hb dX1_split_58 rfl (lv_at hl 3 rfl) ?_
    refine lv_icmp_ge (tgt := 79) hx hb dX1_split_59 (by decide) (fun hc => ?_) (fun hc => ?_)
    · replace hw := hw.1 hc
      refine lv_iload_n hx hb dX1_split_79 rfl (lv_at hl 1 rfl) ?_
      refine lv_aload_n hx hb dX1_split_80 rfl (lv_at hl 0 rfl) ?_
      have o1 := hw.1
      replace hw := hw.2
      obtain ⟨b2, ebb2, hw⟩ := hw
      refine rX_getRs C hM 0 7 rfl in_X1 (by decide) (by decide) rfl q470 o1 ebb2 dX1_split_81 ?_
      refine lv_iconst (v := 0) hx hb dX1_split_84 (by decide) ?_
      have o3 := hw.1
      replace hw := hw.2
      have o4 := hw.1
      replace hw := hw.2
      obtain ⟨b5, ebb5, hw⟩ := hw
      refine rX_aalds C hM 7 (by decide) (by decide) o3 o4 ebb5 dX1_split_85 ?_
      have o6 := hw.1
      replace hw := hw.2
      refine rX_getIN C hM 8 1 rfl in_X9 (by decide) (by decide) rfl q455 o6 dX1_split_86 ?_
      refine lv_icmp_gt (tgt := 105) hx hb dX1_split_89 (by decide) (fun hc => ?_) (fun hc => ?_)
      · replace hw := hw.1 hc
        exact wk_X1_split_105 C hst hZ htab  a0 h mc ms _ _ _ _ ls hw hM hbud (lv_sub hl [0] rfl)
      · replace hw := hw.2 hc
        refine lv_iload_n hx hb dX1_split_92 rfl (lv_at hl 1 rfl) ?_
        refine lv_aload_n hx hb dX1_split_93 rfl (lv_at hl 0 rfl) ?_
        have o7 := hw.1
        replace hw := hw.2
        obtain ⟨b8, ebb8, hw⟩ := hw
        refine rX_getRs C hM 0 7 rfl in_X1 (by decide) (by decide) rfl q470 o7 ebb8 dX1_split_94 ?_
        refine lv_iconst (v := 1) hx hb dX1_split_97 (by decide) ?_
        have o9 := hw.1
        replace hw := hw.2
        have o10 := hw.1
        replace hw := hw.2
        obtain ⟨b11, ebb11, hw⟩ := hw
        refine rX_aalds C hM 7 (by decide) (by decide) o9 o10 ebb11 dX1_split_98 ?_
        have o12 := hw.1
        replace hw := hw.2
        refine rX_getIN C hM 8 1 rfl in_X9 (by decide) (by decide) rfl q455 o12 dX1_split_99 ?_
        refine lv_icmp_le (tgt := 107) hx hb dX1_split_102 (by decide) (fun hc => ?_) (fun hc => ?_)
        · replace hw := hw.1 hc
          refine lv_bipush (v := 6) hx hb dX1_split_107 (by decide) ?_
          obtain ⟨mc14, ms15, emc14, ems15, hw⟩ := hw
          refine rX_newi C hM (N := 6) q257 (by decide) (by decide) (by decide) (by show cells + 1 ≤ MC; omega) (by show slots + 6 ≤ MS; omega) dX1_split_109 (fun q16 h17 H hqq16 eσ hM => ?_)
          replace hw := hw q16 hqq16 h17 eσ
          clear eσ
          have hbud : cells + 1 + mc14 ≤ MC ∧ slots + 6 + ms15 ≤ MS := ⟨by omega, by omega⟩
          refine lv_astore_n (lv' := [(2, .ref q16), (0, .ref a0), (1, .int v1), (3, .int v3), (4, .int v4)]) hx hb dX1_split_111 rfl hl (by decide) rfl (fun ls hl => ?_)
          refine lv_aload_n hx hb dX1_split_112 rfl (lv_at hl 1 rfl) ?_
          have o18 := hw.1
          replace hw := hw.2
          obtain ⟨b19, ebb19, hw⟩ := hw
          refine rX_getRs C hM 0 10 rfl in_X1 (by decide) (by decide) rfl q473 o18 ebb19 dX1_split_113 ?_
          refine lv_iconst (v := 0) hx hb dX1_split_116 (by decide) ?_
          refine lv_aload_n hx hb dX1_split_117 rfl (lv_at hl 0 rfl) ?_
          refine lv_iconst (v := 0) hx hb dX1_split_118 (by decide) ?_
          refine lv_bipush (v := 6) hx hb dX1_split_119 (by decide) ?_
          have o21 := hw.1
          replace hw := hw.2
          have o22 := hw.1
          replace hw := hw.2
          have o23 := hw.1
          replace hw := hw.2
          refine rX_copyi C hM hl.1 q808 q758 q757 q99 o21 o22 o23 (Nat.le_of_ble_eq_true rfl) (Nat.le_of_ble_eq_true rfl) dX1_split_121 (fun h20 H locs eσ hM => ?_)
          replace hw := hw h20 eσ
          clear eσ
          refine lv_aload_n hx hb dX1_split_124 rfl (lv_at hl 1 rfl) ?_
          have o24 := hw.1
          replace hw := hw.2
          obtain ⟨b25, ebb25, hw⟩ := hw
          refine rX_getRs C hM 0 7 rfl in_X1 (by decide) (by decide) rfl q470 o24 ebb25 dX1_split_125 ?_
          refine lv_iconst (v := 1) hx hb dX1_split_128 (by decide) ?_
          have o26 := hw.1
          replace hw := hw.2
          have o27 := hw.1
          replace hw := hw.2
          obtain ⟨b28, ebb28, hw⟩ := hw
          refine rX_aalds C hM 7 (by decide) (by decide) o26 o27 ebb28 dX1_split_129 ?_
          have o29 := hw.1
          replace hw := hw.2
          obtain ⟨b30, ebb30, hw⟩ := hw
          refine rX_getRsN C hM 8 0 rfl in_X9 (by decide) (by decide) rfl q453 o29 ebb30 dX1_split_130 ?_
          refine lv_astore_n (lv' := [(3, .ref b30), (2, .ref q16), (0, .ref a0), (1, .int v1), (4, .int v4)]) hx hb dX1_split_133 rfl hl (by decide) rfl (fun ls hl => ?_)
          refine lv_iconst (v := 0) hx hb dX1_split_134 (by decide) ?_
          refine lv_istore (lv' := [(4, .int 0), (3, .ref b30), (2, .ref q16), (0, .ref a0), (1, .int v1)]) hx hb dX1_split_135 hl (by decide) rfl (fun ls hl => ?_)
          obtain ⟨n137, hw⟩ := hw
          exact wk_X1_split_137 C hst hZ htab  n137 a0 q16 b30 0 h20 mc14 ms15 _ _ _ _ ls hw hM hbud (lv_sub hl [3, 2, 1, 0] rfl)
        · replace hw := hw.2 hc
          exact wk_X1_split_105 C hst hZ htab  a0 h mc ms _ _ _ _ ls hw hM hbud (lv_sub hl [0] rfl)
    · replace hw := hw.2 hc
      refine lv_aload_n hx hb dX1_split_62 rfl (lv_at hl 2 rfl) ?_
      refine lv_iload hx hb dX1_split_63 (lv_at hl 4 rfl) ?_
      have o31 := hw.1
      replace hw := hw.2
      have o32 := hw.1
      replace hw := hw.2
      refine rX_iald C hM o31 o32 dX1_split_65 ?_
      refine lv_topi (fun x33 ex33 => ?_)
      replace hw := hw x33 ex33
      refine lv_istore (lv' := [(5, .int x33), (0, .ref a0), (1, .int v1), (2, .ref v2), (3, .int v3), (4, .int v4)]) hx hb dX1_split_66 hl (by decide) rfl (fun ls hl => ?_)
      refine lv_iload_n hx hb dX1_split_68 rfl (lv_at hl 2 rfl) ?_
      refine lv_iload hx hb dX1_split_69 (lv_at hl 0 rfl) ?_
      refine lv_iadd hx hb dX1_split_71 ?_
      refine lv_topi (fun x34 ex34 => ?_)
      replace hw := hw x34 ex34
      refine lv_istore_n (lv' := [(1, .int x34), (5, .int x33), (0, .ref a0), (2, .ref v2), (3, .int v3), (4, .int v4)]) hx hb dX1_split_72 rfl hl (by decide) rfl (fun ls hl => ?_)
      obtain ⟨x35, ex35⟩ : ∃ y : Int32, y = v4 + 1 := ⟨_, rfl⟩
      replace hw := hw x35 ex35
      refine lv_iinc (v := x35) (lv' := [(4, .int x35), (1, .int x34), (5, .int x33), (0, .ref a0), (2, .ref v2), (3, .int v3)]) hx hb dX1_split_73 hl (k := 5) rfl (by rw [ex35]; rfl) (by decide) rfl (fun ls hl => ?_)
      refine lv_goto (tgt := 56) hx hb dX1_split_76 (by decide) ?_
      exact ih a0 x34 v2 v3 x35 h mc ms _ _ _ _ ls hw hM hbud (lv_sub hl [3, 1, 4, 5, 0] rfl)
set_option maxHeartbeats 4000000 in
theorem wk_X1_split_41 {p : Program} {l : Launch} {e : Env} {s : State} {m : MethodId} {args : Array Value} {below : List Frame} {meth : Method} {c : Code} {D : va_G} {dA : Nat → ClassId} {ev : Nat → Nat} {h0 : Hp} {sz : Nat} {MC MS : Nat} (C : CxM p s m meth c args (AX dA h0 sz) "LeastSolutions" cX1_split 7 (some .int)) (hst : l.stackTraces = false) (hZ : ZX (AX dA h0 sz) s s.heap) (htab : ∀ x ∈ c.exceptionTable.toList, False) {Qr : Int32 → Hp → Prop} {Xr : String → Hp → Prop} : ∀ (a0 : Nat) (h : Hp) (mc ms : Nat) (cells slots : Nat) (H : Heap) (locs : List Loc) (ls : Array Slot), wp_X1_split_41 ev Qr Xr a0 h mc ms → wX D dA ev (AX dA h0 sz) s h H locs → cells + mc ≤ MC ∧ slots + ms ≤ MS → lv_has ls 7 [(0, .ref a0)] → W p l e (rm_X1_split MC MS) s m args below meth c H locs cells slots (vx_MQ below (va_Qi Qr (BX D dA (AX dA h0 sz)) (AX dA h0 sz)) (XP D dA (AX dA h0 sz) Xr) args s MC MS (AX dA h0 sz)) (F0 m 41 ls []) := by
  intro a0 h mc ms cells slots H locs ls hw hM hbud hl
  have hx := C.1
  have hb := C.2.1
  have hown := C.2.2.2.2.2.1
  have hts := C.2.2.2.2.2.2.1
  unfold wp_X1_split_41 at hw
  refine lv_iconst (v := (-1)) hx hb dX1_split_41 (by decide) ?_
  exact vx_ret (rX_iret C hM ⟨by show cells ≤ MC; omega, by show slots ≤ MS; omega⟩ hw dX1_split_42)
set_option maxHeartbeats 4000000 in
/-- LeastSolutions.split()I -/
theorem mt_X1_split (l : Launch) (hst : l.stackTraces = false) (D : va_G) (dA : Nat → ClassId) (ev : Nat → Nat) (sz : Nat) (h : Hp) (a0 : Nat) (MC MS : Nat) (Qr : Int32 → Hp → Prop) (Xr : String → Hp → Prop) (hw : wp_X1_split ev h a0 MC MS Qr Xr) : vx_Met l yX1_split (ws_ yX1_split cX1_split 7 (some .int)) (rm_X1_split MC MS) (PcZ D dA ev h sz [.ref a0]) (va_Qi Qr (BX D dA (AX dA h sz)) (AX dA h sz)) (XP D dA (AX dA h sz) Xr) MC MS (AX dA h sz) := by
  refine vx_ofW (cc := cX1_split) (maxL := 7) (ret := (some .int)) (by decide) rfl ?_
  intro p e s m args below meth c s₁ B hml htab hv
  obtain ⟨rfl, ⟨hsz, hP, hK, hD0, hE⟩, hZ⟩ := hv
  subst hsz
  have hts0 := atoms_spec (ws := ws_ yX1_split cX1_split 7 (some .int)) B.pre
  have C : CxM p s m meth c _ (AX dA h s.heap.size) "LeastSolutions" cX1_split 7 (some .int) := ⟨B.exec, B.bytes, B.returns, B.notSynchronized, hml, findClass_of_methodNamed B.named, fun w h => hts0 w (List.mem_cons_of_mem _ h), fun q h => Or.inr h⟩
  have hM : wX D dA ev (AX dA h s.heap.size) s h s.heap [] := ⟨hK, hP, hD0.self, va_S.rf, hE⟩
  have hx := C.1
  have hb := C.2.1
  have hown := C.2.2.2.2.2.1
  have hts := C.2.2.2.2.2.2.1
  have hl := lv_entry ([.ref a0]) (n := 7) (Nat.le_of_ble_eq_true rfl)
  rw [lg_entry_eq]
  generalize (lg_sl ([.ref a0]) ++ List.replicate (7 - (lg_sl ([.ref a0])).length) Slot.unset).toArray = ls at hl ⊢
  have hl : lv_has ls 7 [(0, .ref a0)] := hl
  have hbud : 0 + MC ≤ MC ∧ 0 + MS ≤ MS := ⟨by omega, by omega⟩
  unfold wp_X1_split at hw
  refine lv_aload_n hx hb dX1_split_0 rfl (lv_at hl 0 rfl) ?_
  have o1 := hw.1
  replace hw := hw.2
  refine rX_getI C hM 0 8 rfl in_X1 (by decide) (by decide) rfl q471 o1 dX1_split_1 ?_
  refine lv_if_eq (tgt := 41) hx hb dX1_split_4 (by decide) (fun hc => ?_) (fun hc => ?_)
  · replace hw := hw.1 hc
    exact wk_X1_split_41 C hst hZ htab  a0 h MC MS _ _ _ _ ls hw hM hbud (lv_sub hl [0] rfl)
  · replace hw := hw.2 hc
    refine lv_aload_n hx hb dX1_split_7 rfl (lv_at hl 0 rfl) ?_
    have o2 := hw.1
    replace hw := hw.2
    obtain ⟨b3, ebb3, hw⟩ := hw
    refine rX_getRs C hM 0 7 rfl in_X1 (by decide) (by decide) rfl q470 o2 ebb3 dX1_split_8 ?_
    refine lv_iconst (v := 0) hx hb dX1_split_11 (by decide) ?_
    have o4 := hw.1
    replace hw := hw.2
    have o5 := hw.1
    replace hw := hw.2
    obtain ⟨b6, ebb6, hw⟩ := hw
    refine rX_aalds C hM 7 (by decide) (by decide) o4 o5 ebb6 dX1_split_12 ?_
    have o9 := hw.1
    replace hw := hw.2
    refine rX_goi C hM (runX_V C hM hl.1 8 0 (As := []) rfl (by decide) o9 (mt_X9_isThere l D dA ev _ h b6  _ hw) (lw_V q781 q782 q783 q92 q784) rfl rfl (by decide +kernel) ⟨Nat.le_of_ble_eq_true rfl, Nat.le_of_ble_eq_true rfl⟩ rfl (Nat.le_of_ble_eq_true rfl) rfl dX1_split_13 ⟨by show 0 + 0 ≤ MC; omega, by show 0 + 0 ≤ MS; omega⟩) (fun x8 h7 H locs hw hM => ?_)
    refine lv_if_eq (tgt := 41) hx hb dX1_split_16 (by decide) (fun hc => ?_) (fun hc => ?_)
    · replace hw := hw.1 hc
      exact wk_X1_split_41 C hst hZ htab  a0 h7 MC MS _ _ _ _ ls hw hM hbud (lv_sub hl [0] rfl)
    · replace hw := hw.2 hc
      refine lv_aload_n hx hb dX1_split_19 rfl (lv_at hl 0 rfl) ?_
      have o11 := hw.1
      replace hw := hw.2
      obtain ⟨b12, ebb12, hw⟩ := hw
      refine rX_getRs C hM 0 7 rfl in_X1 (by decide) (by decide) rfl q470 o11 ebb12 dX1_split_20 ?_
      refine lv_iconst (v := 1) hx hb dX1_split_23 (by decide) ?_
      have o13 := hw.1
      replace hw := hw.2
      have o14 := hw.1
      replace hw := hw.2
      obtain ⟨b15, ebb15, hw⟩ := hw
      refine rX_aalds C hM 7 (by decide) (by decide) o13 o14 ebb15 dX1_split_24 ?_
      have o18 := hw.1
      replace hw := hw.2
      refine rX_goi C hM (runX_V C hM hl.1 8 0 (As := []) rfl (by decide) o18 (mt_X9_isThere l D dA ev _ h7 b15  _ hw) (lw_V q781 q782 q783 q92 q784) rfl rfl (by decide +kernel) ⟨Nat.le_of_ble_eq_true rfl, Nat.le_of_ble_eq_true rfl⟩ rfl (Nat.le_of_ble_eq_true rfl) rfl dX1_split_25 ⟨by show 0 + 0 ≤ MC; omega, by show 0 + 0 ≤ MS; omega⟩) (fun x17 h16 H locs hw hM => ?_)
      refine lv_if_eq (tgt := 41) hx hb dX1_split_28 (by decide) (fun hc => ?_) (fun hc => ?_)
      · replace hw := hw.1 hc
        exact wk_X1_split_41 C hst hZ htab  a0 h16 MC MS _ _ _ _ ls hw hM hbud (lv_sub hl [0] rfl)
      · replace hw := hw.2 hc
        refine lv_aload_n hx hb dX1_split_31 rfl (lv_at hl 0 rfl) ?_
        obtain ⟨c20, d21, mc22, ms23, emc22, ems23, hw⟩ := hw
        have o26 := hw.1
        replace hw := hw.2
        refine rZ_goi C hM (runZ_V C hM hZ hl.1 0 0 (As := []) rfl (by decide) o26 (mt_X1_holds l hst D dA ev _ h16 a0  c20 d21 _ _ hw) (lw_V q785 q786 q787 q75 q788) rfl rfl (by decide +kernel) ⟨Nat.le_of_ble_eq_true rfl, Nat.le_of_ble_eq_true rfl⟩ rfl (Nat.le_of_ble_eq_true rfl) rfl dX1_split_32 ⟨by show 0 + c20 ≤ MC; omega, by show 0 + d21 ≤ MS; omega⟩) (fun E ce q9 h27 H locs hw hM g1 g2 g3 => rZ_out C hM (fun x hx => (htab x hx).elim) ⟨by show 0 + c20 ≤ MC; omega, by show 0 + d21 ≤ MS; omega⟩ hw g1 g2 g3) (fun x25 h24 H locs hw hM => ?_)
        have hbud : 0 + c20 + mc22 ≤ MC ∧ 0 + d21 + ms23 ≤ MS := ⟨by omega, by omega⟩
        refine lv_iconst (v := 5) hx hb dX1_split_35 (by decide) ?_
        refine lv_iand hx hb dX1_split_36 ?_
        refine lv_iconst (v := 5) hx hb dX1_split_37 (by decide) ?_
        refine lv_icmp_eq (tgt := 43) hx hb dX1_split_38 (by decide) (fun hc => ?_) (fun hc => ?_)
        · replace hw := hw.1 hc
          refine lv_iconst (v := 0) hx hb dX1_split_43 (by decide) ?_
          refine lv_istore_n (lv' := [(1, .int 0), (0, .ref a0)]) hx hb dX1_split_44 rfl hl (by decide) rfl (fun ls hl => ?_)
          refine lv_aload_n hx hb dX1_split_45 rfl (lv_at hl 1 rfl) ?_
          have o28 := hw.1
          replace hw := hw.2
          obtain ⟨b29, ebb29, hw⟩ := hw
          refine rX_getRs C hM 0 10 rfl in_X1 (by decide) (by decide) rfl q473 o28 ebb29 dX1_split_46 ?_
          refine lv_astore_n (lv' := [(2, .ref b29), (1, .int 0), (0, .ref a0)]) hx hb dX1_split_49 rfl hl (by decide) rfl (fun ls hl => ?_)
          refine lv_aload_n hx hb dX1_split_50 rfl (lv_at hl 0 rfl) ?_
          have o30 := hw.1
          replace hw := hw.2
          refine rX_alen C hM 0 (by decide) o30 dX1_split_51 ?_
          refine lv_topi (fun x31 ex31 => ?_)
          replace hw := hw x31 ex31
          refine lv_istore_n (lv' := [(3, .int x31), (2, .ref b29), (1, .int 0), (0, .ref a0)]) hx hb dX1_split_52 rfl hl (by decide) rfl (fun ls hl => ?_)
          refine lv_iconst (v := 0) hx hb dX1_split_53 (by decide) ?_
          refine lv_istore (lv' := [(4, .int 0), (3, .int x31), (2, .ref b29), (1, .int 0), (0, .ref a0)]) hx hb dX1_split_54 hl (by decide) rfl (fun ls hl => ?_)
          obtain ⟨n56, hw⟩ := hw
          exact wk_X1_split_56 C hst hZ htab  n56 a0 0 b29 x31 0 h24 mc22 ms23 _ _ _ _ ls hw hM hbud (lv_sub hl [4, 3, 2, 1, 0] rfl)
        · replace hw := hw.2 hc
          exact wk_X1_split_41 C hst hZ htab  a0 h24 mc22 ms23 _ _ _ _ ls hw hM hbud (lv_sub hl [0] rfl)
abbrev rm_X0_number (MC MS : Nat) : Room := { frames := 7, cells := MC, slots := MS, locals := 132 }
set_option maxHeartbeats 4000000 in
/-- LeastSolutionsLaw.number(LLeastSolutions;II[J)I -/
theorem mt_X0_number (l : Launch) (hst : l.stackTraces = false) (D : va_G) (dA : Nat → ClassId) (ev : Nat → Nat) (sz : Nat) (h : Hp) (p0 : Nat) (p1 : Int32) (p2 : Int32) (p3 : Nat) (MC MS : Nat) (Qr : Int32 → Hp → Prop) (Xr : String → Hp → Prop) (hw : wp_X0_number ev h p0 p1 p2 p3 MC MS Qr Xr) : vx_Met l yX0_number (wsW_ yX0_number cX0_number 5 (some .int) [(0, 10, 13, 13)]) (rm_X0_number MC MS) (PcZ D dA ev h sz [.ref p0, .int p1, .int p2, .ref p3]) (va_Qi Qr (BX D dA (AX dA h sz)) (AX dA h sz)) (XP D dA (AX dA h sz) Xr) MC MS (AX dA h sz) := by
  refine vx_ofWH (cc := cX0_number) (maxL := 5) (ret := (some .int)) (hh := [(0, 10, 13, 13)]) (by decide) rfl ?_
  intro p e s m args below meth c s₁ B hml hv
  obtain ⟨rfl, ⟨hsz, hP, hK, hD0, hE⟩, hZ⟩ := hv
  subst hsz
  have hts0 := atoms_spec (ws := wsW_ yX0_number cX0_number 5 (some .int) [(0, 10, 13, 13)]) B.pre
  have C : CxM p s m meth c _ (AX dA h s.heap.size) "LeastSolutionsLaw" cX0_number 5 (some .int) := ⟨B.exec, B.bytes, B.returns, B.notSynchronized, hml, findClass_of_methodNamed B.named, fun w h => hts0 w (List.mem_cons_of_mem _ h), fun q h => Or.inr h⟩
  have htab := vx_table (x := yX0_number) B (hts0 _ List.mem_cons_self)
  have hM : wX D dA ev (AX dA h s.heap.size) s h s.heap [] := ⟨hK, hP, hD0.self, va_S.rf, hE⟩
  have hx := C.1
  have hb := C.2.1
  have hown := C.2.2.2.2.2.1
  have hts := C.2.2.2.2.2.2.1
  have hl := lv_entry ([.ref p0, .int p1, .int p2, .ref p3]) (n := 5) (Nat.le_of_ble_eq_true rfl)
  rw [lg_entry_eq]
  generalize (lg_sl ([.ref p0, .int p1, .int p2, .ref p3]) ++ List.replicate (5 - (lg_sl ([.ref p0, .int p1, .int p2, .ref p3])).length) Slot.unset).toArray = ls at hl ⊢
  have hl : lv_has ls 5 [(0, .ref p0), (1, .int p1), (2, .int p2), (3, .ref p3)] := hl
  have hbud : 0 + MC ≤ MC ∧ 0 + MS ≤ MS := ⟨by omega, by omega⟩
  unfold wp_X0_number at hw
  refine lv_aload_n hx hb dX0_number_0 rfl (lv_at hl 3 rfl) ?_
  refine lv_iconst (v := 0) hx hb dX0_number_1 (by decide) ?_
  refine lv_aload_n hx hb dX0_number_2 rfl (lv_at hl 0 rfl) ?_
  refine lv_iload_n hx hb dX0_number_3 rfl (lv_at hl 1 rfl) ?_
  refine lv_iload_n hx hb dX0_number_4 rfl (lv_at hl 2 rfl) ?_
  obtain ⟨c1, d2, mc3, ms4, emc3, ems4, hw⟩ := hw
  have o7 := hw.1
  replace hw := hw.2
  refine rZ_goi C hM (runZ_V C hM hZ hl.1 0 2 (As := [.int p1, .int p2]) rfl (by decide) o7 (mt_X1_number l hst D dA ev _ h p0 p1 p2  c1 d2 _ _ hw) (lw_V q872 q873 q874 q75 q875) rfl rfl (by decide +kernel) ⟨Nat.le_of_ble_eq_true rfl, Nat.le_of_ble_eq_true rfl⟩ rfl (Nat.le_of_ble_eq_true rfl) rfl dX0_number_5 ⟨by show 0 + c1 ≤ MC; omega, by show 0 + d2 ≤ MS; omega⟩) (fun E ce q9 h8 H locs hw hM g1 g2 g3 => ?_) (fun x6 h5 H locs hw hM => ?_)
  · skip
    have hbud : 0 + c1 + mc3 ≤ MC ∧ 0 + d2 + ms4 ≤ MS := ⟨by omega, by omega⟩
    by_cases hc0 : E = eIOB
    · replace hw := hw.1 hc0 q9
      subst hc0
      refine rZ_catch C hM [] (0, 10, 13, 13) [] htab (fun _ h => nomatch h) ⟨by decide, by decide⟩ (by decide) q840 q878 g1 g2 g3 ?_
      refine lv_astore (lv' := [(4, .ref q9), (0, .ref p0), (1, .int p1), (2, .int p2), (3, .ref p3)]) hx hb dX0_number_13 hl (by decide) rfl (fun ls hl => ?_)
      refine lv_iconst (v := 1) hx hb dX0_number_15 (by decide) ?_
      exact vx_ret (rX_iret C hM ⟨by show 0 + c1 ≤ MC; omega, by show 0 + d2 ≤ MS; omega⟩ hw dX0_number_16)
    · replace hw := hw.2 hc0
      exact hw.elim
  have hbud : 0 + c1 + mc3 ≤ MC ∧ 0 + d2 + ms4 ≤ MS := ⟨by omega, by omega⟩
  · skip
    refine lv_i2l hx hb dX0_number_8 rfl ?_
    have o10 := hw.1
    replace hw := hw.2
    have o11 := hw.1
    replace hw := hw.2
    refine rX_last C hM o10 o11 dX0_number_9 (fun h9 H locs eσ hM => ?_)
    replace hw := hw h9 eσ
    clear eσ
    refine lv_goto (tgt := 17) hx hb dX0_number_10 (by decide) ?_
    refine lv_iconst (v := 0) hx hb dX0_number_17 (by decide) ?_
    exact vx_ret (rX_iret C hM ⟨by show 0 + c1 ≤ MC; omega, by show 0 + d2 ≤ MS; omega⟩ hw dX0_number_18)
abbrev rm_X0_solvable (MC MS : Nat) : Room := { frames := 8, cells := MC, slots := MS, locals := 150 }
set_option maxHeartbeats 4000000 in
/-- LeastSolutionsLaw.solvable(LLeastSolutions;[J)I -/
theorem mt_X0_solvable (l : Launch) (hst : l.stackTraces = false) (D : va_G) (dA : Nat → ClassId) (ev : Nat → Nat) (sz : Nat) (h : Hp) (p0 : Nat) (p1 : Nat) (MC MS : Nat) (Qr : Int32 → Hp → Prop) (Xr : String → Hp → Prop) (hw : wp_X0_solvable ev h p0 p1 MC MS Qr Xr) : vx_Met l yX0_solvable (wsW_ yX0_solvable cX0_solvable 3 (some .int) [(0, 8, 11, 19)]) (rm_X0_solvable MC MS) (PcZ D dA ev h sz [.ref p0, .ref p1]) (va_Qi Qr (BX D dA (AX dA h sz)) (AX dA h sz)) (XP D dA (AX dA h sz) Xr) MC MS (AX dA h sz) := by
  refine vx_ofWH (cc := cX0_solvable) (maxL := 3) (ret := (some .int)) (hh := [(0, 8, 11, 19)]) (by decide) rfl ?_
  intro p e s m args below meth c s₁ B hml hv
  obtain ⟨rfl, ⟨hsz, hP, hK, hD0, hE⟩, hZ⟩ := hv
  subst hsz
  have hts0 := atoms_spec (ws := wsW_ yX0_solvable cX0_solvable 3 (some .int) [(0, 8, 11, 19)]) B.pre
  have C : CxM p s m meth c _ (AX dA h s.heap.size) "LeastSolutionsLaw" cX0_solvable 3 (some .int) := ⟨B.exec, B.bytes, B.returns, B.notSynchronized, hml, findClass_of_methodNamed B.named, fun w h => hts0 w (List.mem_cons_of_mem _ h), fun q h => Or.inr h⟩
  have htab := vx_table (x := yX0_solvable) B (hts0 _ List.mem_cons_self)
  have hM : wX D dA ev (AX dA h s.heap.size) s h s.heap [] := ⟨hK, hP, hD0.self, va_S.rf, hE⟩
  have hx := C.1
  have hb := C.2.1
  have hown := C.2.2.2.2.2.1
  have hts := C.2.2.2.2.2.2.1
  have hl := lv_entry ([.ref p0, .ref p1]) (n := 3) (Nat.le_of_ble_eq_true rfl)
  rw [lg_entry_eq]
  generalize (lg_sl ([.ref p0, .ref p1]) ++ List.replicate (3 - (lg_sl ([.ref p0, .ref p1])).length) Slot.unset).toArray = ls at hl ⊢
  have hl : lv_has ls 3 [(0, .ref p0), (1, .ref p1)] := hl
  have hbud : 0 + MC ≤ MC ∧ 0 + MS ≤ MS := ⟨by omega, by omega⟩
  unfold wp_X0_solvable at hw
  refine lv_aload_n hx hb dX0_solvable_0 rfl (lv_at hl 1 rfl) ?_
  refine lv_iconst (v := 0) hx hb dX0_solvable_1 (by decide) ?_
  refine lv_aload_n hx hb dX0_solvable_2 rfl (lv_at hl 0 rfl) ?_
  obtain ⟨c1, d2, mc3, ms4, emc3, ems4, hw⟩ := hw
  have o7 := hw.1
  replace hw := hw.2
  refine rZ_goi C hM (runZ_V C hM hZ hl.1 0 0 (As := []) rfl (by decide) o7 (mt_X1_solvable l hst D dA ev _ h p0  c1 d2 _ _ hw) (lw_V q895 q896 q897 q75 q898) rfl rfl (by decide +kernel) ⟨Nat.le_of_ble_eq_true rfl, Nat.le_of_ble_eq_true rfl⟩ rfl (Nat.le_of_ble_eq_true rfl) rfl dX0_solvable_3 ⟨by show 0 + c1 ≤ MC; omega, by show 0 + d2 ≤ MS; omega⟩) (fun E ce q9 h8 H locs hw hM g1 g2 g3 => ?_) (fun x6 h5 H locs hw hM => ?_)
  · skip
    have hbud : 0 + c1 + mc3 ≤ MC ∧ 0 + d2 + ms4 ≤ MS := ⟨by omega, by omega⟩
    by_cases hc0 : E = eISE
    · replace hw := hw.1 hc0 q9
      subst hc0
      refine rZ_catch C hM [] (0, 8, 11, 19) [] htab (fun _ h => nomatch h) ⟨by decide, by decide⟩ (by decide) q894 q795 g1 g2 g3 ?_
      refine lv_astore_n (lv' := [(2, .ref q9), (0, .ref p0), (1, .ref p1)]) hx hb dX0_solvable_11 rfl hl (by decide) rfl (fun ls hl => ?_)
      refine lv_iconst (v := 1) hx hb dX0_solvable_12 (by decide) ?_
      exact vx_ret (rX_iret C hM ⟨by show 0 + c1 ≤ MC; omega, by show 0 + d2 ≤ MS; omega⟩ hw dX0_solvable_13)
    · replace hw := hw.2 hc0
      exact hw.elim
  have hbud : 0 + c1 + mc3 ≤ MC ∧ 0 + d2 + ms4 ≤ MS := ⟨by omega, by omega⟩
  · skip
    refine lv_i2l hx hb dX0_solvable_6 rfl ?_
    have o10 := hw.1
    replace hw := hw.2
    have o11 := hw.1
    replace hw := hw.2
    refine rX_last C hM o10 o11 dX0_solvable_7 (fun h9 H locs eσ hM => ?_)
    replace hw := hw h9 eσ
    clear eσ
    refine lv_goto (tgt := 14) hx hb dX0_solvable_8 (by decide) ?_
    refine lv_iconst (v := 0) hx hb dX0_solvable_14 (by decide) ?_
    exact vx_ret (rX_iret C hM ⟨by show 0 + c1 ≤ MC; omega, by show 0 + d2 ≤ MS; omega⟩ hw dX0_solvable_15)
abbrev rm_X0_kernel (MC MS : Nat) : Room := { frames := 8, cells := MC, slots := MS, locals := 150 }
set_option maxHeartbeats 4000000 in
/-- LeastSolutionsLaw.kernel(LLeastSolutions;[J)I -/
theorem mt_X0_kernel (l : Launch) (hst : l.stackTraces = false) (D : va_G) (dA : Nat → ClassId) (ev : Nat → Nat) (sz : Nat) (h : Hp) (p0 : Nat) (p1 : Nat) (MC MS : Nat) (Qr : Int32 → Hp → Prop) (Xr : String → Hp → Prop) (hw : wp_X0_kernel ev h p0 p1 MC MS Qr Xr) : vx_Met l yX0_kernel (wsW_ yX0_kernel cX0_kernel 3 (some .int) [(0, 8, 11, 19)]) (rm_X0_kernel MC MS) (PcZ D dA ev h sz [.ref p0, .ref p1]) (va_Qi Qr (BX D dA (AX dA h sz)) (AX dA h sz)) (XP D dA (AX dA h sz) Xr) MC MS (AX dA h sz) := by
  refine vx_ofWH (cc := cX0_kernel) (maxL := 3) (ret := (some .int)) (hh := [(0, 8, 11, 19)]) (by decide) rfl ?_
  intro p e s m args below meth c s₁ B hml hv
  obtain ⟨rfl, ⟨hsz, hP, hK, hD0, hE⟩, hZ⟩ := hv
  subst hsz
  have hts0 := atoms_spec (ws := wsW_ yX0_kernel cX0_kernel 3 (some .int) [(0, 8, 11, 19)]) B.pre
  have C : CxM p s m meth c _ (AX dA h s.heap.size) "LeastSolutionsLaw" cX0_kernel 3 (some .int) := ⟨B.exec, B.bytes, B.returns, B.notSynchronized, hml, findClass_of_methodNamed B.named, fun w h => hts0 w (List.mem_cons_of_mem _ h), fun q h => Or.inr h⟩
  have htab := vx_table (x := yX0_kernel) B (hts0 _ List.mem_cons_self)
  have hM : wX D dA ev (AX dA h s.heap.size) s h s.heap [] := ⟨hK, hP, hD0.self, va_S.rf, hE⟩
  have hx := C.1
  have hb := C.2.1
  have hown := C.2.2.2.2.2.1
  have hts := C.2.2.2.2.2.2.1
  have hl := lv_entry ([.ref p0, .ref p1]) (n := 3) (Nat.le_of_ble_eq_true rfl)
  rw [lg_entry_eq]
  generalize (lg_sl ([.ref p0, .ref p1]) ++ List.replicate (3 - (lg_sl ([.ref p0, .ref p1])).length) Slot.unset).toArray = ls at hl ⊢
  have hl : lv_has ls 3 [(0, .ref p0), (1, .ref p1)] := hl
  have hbud : 0 + MC ≤ MC ∧ 0 + MS ≤ MS := ⟨by omega, by omega⟩
  unfold wp_X0_kernel at hw
  refine lv_aload_n hx hb dX0_kernel_0 rfl (lv_at hl 1 rfl) ?_
  refine lv_iconst (v := 0) hx hb dX0_kernel_1 (by decide) ?_
  refine lv_aload_n hx hb dX0_kernel_2 rfl (lv_at hl 0 rfl) ?_
  obtain ⟨c1, d2, mc3, ms4, emc3, ems4, hw⟩ := hw
  have o7 := hw.1
  replace hw := hw.2
  refine rZ_goi C hM (runZ_V C hM hZ hl.1 0 0 (As := []) rfl (by decide) o7 (mt_X1_kernel l hst D dA ev _ h p0  c1 d2 _ _ hw) (lw_V q902 q903 q904 q75 q905) rfl rfl (by decide +kernel) ⟨Nat.le_of_ble_eq_true rfl, Nat.le_of_ble_eq_true rfl⟩ rfl (Nat.le_of_ble_eq_true rfl) rfl dX0_kernel_3 ⟨by show 0 + c1 ≤ MC; omega, by show 0 + d2 ≤ MS; omega⟩) (fun E ce q9 h8 H locs hw hM g1 g2 g3 => ?_) (fun x6 h5 H locs hw hM => ?_)
  · skip
    have hbud : 0 + c1 + mc3 ≤ MC ∧ 0 + d2 + ms4 ≤ MS := ⟨by omega, by omega⟩
    by_cases hc0 : E = eISE
    · replace hw := hw.1 hc0 q9
      subst hc0
      refine rZ_catch C hM [] (0, 8, 11, 19) [] htab (fun _ h => nomatch h) ⟨by decide, by decide⟩ (by decide) q894 q795 g1 g2 g3 ?_
      refine lv_astore_n (lv' := [(2, .ref q9), (0, .ref p0), (1, .ref p1)]) hx hb dX0_kernel_11 rfl hl (by decide) rfl (fun ls hl => ?_)
      refine lv_iconst (v := 1) hx hb dX0_kernel_12 (by decide) ?_
      exact vx_ret (rX_iret C hM ⟨by show 0 + c1 ≤ MC; omega, by show 0 + d2 ≤ MS; omega⟩ hw dX0_kernel_13)
    · replace hw := hw.2 hc0
      exact hw.elim
  have hbud : 0 + c1 + mc3 ≤ MC ∧ 0 + d2 + ms4 ≤ MS := ⟨by omega, by omega⟩
  · skip
    refine lv_i2l hx hb dX0_kernel_6 rfl ?_
    have o10 := hw.1
    replace hw := hw.2
    have o11 := hw.1
    replace hw := hw.2
    refine rX_last C hM o10 o11 dX0_kernel_7 (fun h9 H locs eσ hM => ?_)
    replace hw := hw h9 eσ
    clear eσ
    refine lv_goto (tgt := 14) hx hb dX0_kernel_8 (by decide) ?_
    refine lv_iconst (v := 0) hx hb dX0_kernel_14 (by decide) ?_
    exact vx_ret (rX_iret C hM ⟨by show 0 + c1 ≤ MC; omega, by show 0 + d2 ≤ MS; omega⟩ hw dX0_kernel_15)
abbrev rm_X0_kernelAt (MC MS : Nat) : Room := { frames := 7, cells := MC, slots := MS, locals := 132 }
set_option maxHeartbeats 4000000 in
/-- LeastSolutionsLaw.kernelAt(LLeastSolutions;II[J)I -/
theorem mt_X0_kernelAt (l : Launch) (hst : l.stackTraces = false) (D : va_G) (dA : Nat → ClassId) (ev : Nat → Nat) (sz : Nat) (h : Hp) (p0 : Nat) (p1 : Int32) (p2 : Int32) (p3 : Nat) (MC MS : Nat) (Qr : Int32 → Hp → Prop) (Xr : String → Hp → Prop) (hw : wp_X0_kernelAt ev h p0 p1 p2 p3 MC MS Qr Xr) : vx_Met l yX0_kernelAt (wsW_ yX0_kernelAt cX0_kernelAt 5 (some .int) [(0, 9, 12, 13)]) (rm_X0_kernelAt MC MS) (PcZ D dA ev h sz [.ref p0, .int p1, .int p2, .ref p3]) (va_Qi Qr (BX D dA (AX dA h sz)) (AX dA h sz)) (XP D dA (AX dA h sz) Xr) MC MS (AX dA h sz) := by
  refine vx_ofWH (cc := cX0_kernelAt) (maxL := 5) (ret := (some .int)) (hh := [(0, 9, 12, 13)]) (by decide) rfl ?_
  intro p e s m args below meth c s₁ B hml hv
  obtain ⟨rfl, ⟨hsz, hP, hK, hD0, hE⟩, hZ⟩ := hv
  subst hsz
  have hts0 := atoms_spec (ws := wsW_ yX0_kernelAt cX0_kernelAt 5 (some .int) [(0, 9, 12, 13)]) B.pre
  have C : CxM p s m meth c _ (AX dA h s.heap.size) "LeastSolutionsLaw" cX0_kernelAt 5 (some .int) := ⟨B.exec, B.bytes, B.returns, B.notSynchronized, hml, findClass_of_methodNamed B.named, fun w h => hts0 w (List.mem_cons_of_mem _ h), fun q h => Or.inr h⟩
  have htab := vx_table (x := yX0_kernelAt) B (hts0 _ List.mem_cons_self)
  have hM : wX D dA ev (AX dA h s.heap.size) s h s.heap [] := ⟨hK, hP, hD0.self, va_S.rf, hE⟩
  have hx := C.1
  have hb := C.2.1
  have hown := C.2.2.2.2.2.1
  have hts := C.2.2.2.2.2.2.1
  have hl := lv_entry ([.ref p0, .int p1, .int p2, .ref p3]) (n := 5) (Nat.le_of_ble_eq_true rfl)
  rw [lg_entry_eq]
  generalize (lg_sl ([.ref p0, .int p1, .int p2, .ref p3]) ++ List.replicate (5 - (lg_sl ([.ref p0, .int p1, .int p2, .ref p3])).length) Slot.unset).toArray = ls at hl ⊢
  have hl : lv_has ls 5 [(0, .ref p0), (1, .int p1), (2, .int p2), (3, .ref p3)] := hl
  have hbud : 0 + MC ≤ MC ∧ 0 + MS ≤ MS := ⟨by omega, by omega⟩
  unfold wp_X0_kernelAt at hw
  refine lv_aload_n hx hb dX0_kernelAt_0 rfl (lv_at hl 3 rfl) ?_
  refine lv_iconst (v := 0) hx hb dX0_kernelAt_1 (by decide) ?_
  refine lv_aload_n hx hb dX0_kernelAt_2 rfl (lv_at hl 0 rfl) ?_
  refine lv_iload_n hx hb dX0_kernelAt_3 rfl (lv_at hl 1 rfl) ?_
  refine lv_iload_n hx hb dX0_kernelAt_4 rfl (lv_at hl 2 rfl) ?_
  obtain ⟨c1, d2, mc3, ms4, emc3, ems4, hw⟩ := hw
  have o7 := hw.1
  replace hw := hw.2
  refine rZ_gol C hM (runZ_V C hM hZ hl.1 0 2 (As := [.int p1, .int p2]) rfl (by decide) o7 (mt_X1_kernelAt l hst D dA ev _ h p0 p1 p2  c1 d2 _ _ hw) (lw_V q913 q914 q915 q75 q916) rfl rfl (by decide +kernel) ⟨Nat.le_of_ble_eq_true rfl, Nat.le_of_ble_eq_true rfl⟩ rfl (Nat.le_of_ble_eq_true rfl) rfl dX0_kernelAt_5 ⟨by show 0 + c1 ≤ MC; omega, by show 0 + d2 ≤ MS; omega⟩) (fun E ce q9 h8 H locs hw hM g1 g2 g3 => ?_) (fun y6 h5 H locs hw hM => ?_)
  · skip
    have hbud : 0 + c1 + mc3 ≤ MC ∧ 0 + d2 + ms4 ≤ MS := ⟨by omega, by omega⟩
    by_cases hc0 : E = eIOB
    · replace hw := hw.1 hc0 q9
      subst hc0
      refine rZ_catch C hM [] (0, 9, 12, 13) [] htab (fun _ h => nomatch h) ⟨by decide, by decide⟩ (by decide) q840 q878 g1 g2 g3 ?_
      refine lv_astore (lv' := [(4, .ref q9), (0, .ref p0), (1, .int p1), (2, .int p2), (3, .ref p3)]) hx hb dX0_kernelAt_12 hl (by decide) rfl (fun ls hl => ?_)
      refine lv_iconst (v := 1) hx hb dX0_kernelAt_14 (by decide) ?_
      exact vx_ret (rX_iret C hM ⟨by show 0 + c1 ≤ MC; omega, by show 0 + d2 ≤ MS; omega⟩ hw dX0_kernelAt_15)
    · replace hw := hw.2 hc0
      exact hw.elim
  have hbud : 0 + c1 + mc3 ≤ MC ∧ 0 + d2 + ms4 ≤ MS := ⟨by omega, by omega⟩
  · skip
    have o10 := hw.1
    replace hw := hw.2
    have o11 := hw.1
    replace hw := hw.2
    refine rX_last C hM o10 o11 dX0_kernelAt_8 (fun h9 H locs eσ hM => ?_)
    replace hw := hw h9 eσ
    clear eσ
    refine lv_goto (tgt := 16) hx hb dX0_kernelAt_9 (by decide) ?_
    refine lv_iconst (v := 0) hx hb dX0_kernelAt_16 (by decide) ?_
    exact vx_ret (rX_iret C hM ⟨by show 0 + c1 ≤ MC; omega, by show 0 + d2 ≤ MS; omega⟩ hw dX0_kernelAt_17)
abbrev rm_X0_work (MC MS : Nat) : Room := { frames := 13, cells := MC, slots := MS, locals := 341 }
set_option maxHeartbeats 4000000 in
/-- LeastSolutionsLaw.work(LLeastSolutions;II[J)I -/
theorem mt_X0_work (l : Launch) (hst : l.stackTraces = false) (D : va_G) (dA : Nat → ClassId) (ev : Nat → Nat) (sz : Nat) (h : Hp) (p0 : Nat) (p1 : Int32) (p2 : Int32) (p3 : Nat) (MC MS : Nat) (Qr : Int32 → Hp → Prop) (Xr : String → Hp → Prop) (hw : wp_X0_work ev h p0 p1 p2 p3 MC MS Qr Xr) : vx_Met l yX0_work (wsW_ yX0_work cX0_work 5 (some .int) [(0, 10, 13, 31), (0, 10, 17, 19)]) (rm_X0_work MC MS) (PcZ D dA ev h sz [.ref p0, .int p1, .int p2, .ref p3]) (va_Qi Qr (BX D dA (AX dA h sz)) (AX dA h sz)) (XP D dA (AX dA h sz) Xr) MC MS (AX dA h sz) := by
  refine vx_ofWH (cc := cX0_work) (maxL := 5) (ret := (some .int)) (hh := [(0, 10, 13, 31), (0, 10, 17, 19)]) (by decide) rfl ?_
  intro p e s m args below meth c s₁ B hml hv
  obtain ⟨rfl, ⟨hsz, hP, hK, hD0, hE⟩, hZ⟩ := hv
  subst hsz
  have hts0 := atoms_spec (ws := wsW_ yX0_work cX0_work 5 (some .int) [(0, 10, 13, 31), (0, 10, 17, 19)]) B.pre
  have C : CxM p s m meth c _ (AX dA h s.heap.size) "LeastSolutionsLaw" cX0_work 5 (some .int) := ⟨B.exec, B.bytes, B.returns, B.notSynchronized, hml, findClass_of_methodNamed B.named, fun w h => hts0 w (List.mem_cons_of_mem _ h), fun q h => Or.inr h⟩
  have htab := vx_table (x := yX0_work) B (hts0 _ List.mem_cons_self)
  have hM : wX D dA ev (AX dA h s.heap.size) s h s.heap [] := ⟨hK, hP, hD0.self, va_S.rf, hE⟩
  have hx := C.1
  have hb := C.2.1
  have hown := C.2.2.2.2.2.1
  have hts := C.2.2.2.2.2.2.1
  have hl := lv_entry ([.ref p0, .int p1, .int p2, .ref p3]) (n := 5) (Nat.le_of_ble_eq_true rfl)
  rw [lg_entry_eq]
  generalize (lg_sl ([.ref p0, .int p1, .int p2, .ref p3]) ++ List.replicate (5 - (lg_sl ([.ref p0, .int p1, .int p2, .ref p3])).length) Slot.unset).toArray = ls at hl ⊢
  have hl : lv_has ls 5 [(0, .ref p0), (1, .int p1), (2, .int p2), (3, .ref p3)] := hl
  have hbud : 0 + MC ≤ MC ∧ 0 + MS ≤ MS := ⟨by omega, by omega⟩
  unfold wp_X0_work at hw
  refine lv_aload_n hx hb dX0_work_0 rfl (lv_at hl 3 rfl) ?_
  refine lv_iconst (v := 0) hx hb dX0_work_1 (by decide) ?_
  refine lv_aload_n hx hb dX0_work_2 rfl (lv_at hl 0 rfl) ?_
  refine lv_iload_n hx hb dX0_work_3 rfl (lv_at hl 1 rfl) ?_
  refine lv_iload_n hx hb dX0_work_4 rfl (lv_at hl 2 rfl) ?_
  obtain ⟨c1, d2, mc3, ms4, emc3, ems4, hw⟩ := hw
  have o7 := hw.1
  replace hw := hw.2
  refine rZ_goi C hM (runZ_V C hM hZ hl.1 0 2 (As := [.int p1, .int p2]) rfl (by decide) o7 (mt_X1_work l hst D dA ev _ h p0 p1 p2  c1 d2 _ _ hw) (lw_V q925 q926 q927 q75 q928) rfl rfl (by decide +kernel) ⟨Nat.le_of_ble_eq_true rfl, Nat.le_of_ble_eq_true rfl⟩ rfl (Nat.le_of_ble_eq_true rfl) rfl dX0_work_5 ⟨by show 0 + c1 ≤ MC; omega, by show 0 + d2 ≤ MS; omega⟩) (fun E ce q9 h8 H locs hw hM g1 g2 g3 => ?_) (fun x6 h5 H locs hw hM => ?_)
  · skip
    have hbud : 0 + c1 + mc3 ≤ MC ∧ 0 + d2 + ms4 ≤ MS := ⟨by omega, by omega⟩
    by_cases hc0 : E = eIAE
    · replace hw := hw.1 hc0 q9
      subst hc0
      refine rZ_catch C hM [] (0, 10, 13, 31) [(0, 10, 17, 19)] htab (fun _ h => nomatch h) ⟨by decide, by decide⟩ (by decide) q924 q161 g1 g2 g3 ?_
      refine lv_astore (lv' := [(4, .ref q9), (0, .ref p0), (1, .int p1), (2, .int p2), (3, .ref p3)]) hx hb dX0_work_13 hl (by decide) rfl (fun ls hl => ?_)
      refine lv_iconst (v := 1) hx hb dX0_work_15 (by decide) ?_
      exact vx_ret (rX_iret C hM ⟨by show 0 + c1 ≤ MC; omega, by show 0 + d2 ≤ MS; omega⟩ hw dX0_work_16)
    · replace hw := hw.2 hc0
      by_cases hc1 : E = eISE
      · replace hw := hw.1 hc1 q9
        subst hc1
        refine rZ_catch C hM [(0, 10, 13, 31)] (0, 10, 17, 19) [] htab (List.forall_mem_cons.mpr ⟨⟨by decide, eIAE, q924, hZ.2.2.1⟩, (fun _ h => nomatch h)⟩) ⟨by decide, by decide⟩ (by decide) q894 q795 g1 g2 g3 ?_
        refine lv_astore (lv' := [(4, .ref q9), (0, .ref p0), (1, .int p1), (2, .int p2), (3, .ref p3)]) hx hb dX0_work_17 hl (by decide) rfl (fun ls hl => ?_)
        refine lv_iconst (v := 2) hx hb dX0_work_19 (by decide) ?_
        exact vx_ret (rX_iret C hM ⟨by show 0 + c1 ≤ MC; omega, by show 0 + d2 ≤ MS; omega⟩ hw dX0_work_20)
      · replace hw := hw.2 hc1
        exact hw.elim
  have hbud : 0 + c1 + mc3 ≤ MC ∧ 0 + d2 + ms4 ≤ MS := ⟨by omega, by omega⟩
  · skip
    refine lv_i2l hx hb dX0_work_8 rfl ?_
    have o10 := hw.1
    replace hw := hw.2
    have o11 := hw.1
    replace hw := hw.2
    refine rX_last C hM o10 o11 dX0_work_9 (fun h9 H locs eσ hM => ?_)
    replace hw := hw h9 eσ
    clear eσ
    refine lv_goto (tgt := 21) hx hb dX0_work_10 (by decide) ?_
    refine lv_iconst (v := 0) hx hb dX0_work_21 (by decide) ?_
    exact vx_ret (rX_iret C hM ⟨by show 0 + c1 ≤ MC; omega, by show 0 + d2 ≤ MS; omega⟩ hw dX0_work_22)
abbrev rm_X0_at (MC MS : Nat) : Room := { frames := 7, cells := MC, slots := MS, locals := 134 }
set_option maxHeartbeats 4000000 in
/-- LeastSolutionsLaw.at(LLeastSolutions;III[J)I -/
theorem mt_X0_at (l : Launch) (hst : l.stackTraces = false) (D : va_G) (dA : Nat → ClassId) (ev : Nat → Nat) (sz : Nat) (h : Hp) (p0 : Nat) (p1 : Int32) (p2 : Int32) (p3 : Int32) (p4 : Nat) (MC MS : Nat) (Qr : Int32 → Hp → Prop) (Xr : String → Hp → Prop) (hw : wp_X0_at ev h p0 p1 p2 p3 p4 MC MS Qr Xr) : vx_Met l yX0_at (wsW_ yX0_at cX0_at 6 (some .int) [(0, 12, 15, 13)]) (rm_X0_at MC MS) (PcZ D dA ev h sz [.ref p0, .int p1, .int p2, .int p3, .ref p4]) (va_Qi Qr (BX D dA (AX dA h sz)) (AX dA h sz)) (XP D dA (AX dA h sz) Xr) MC MS (AX dA h sz) := by
  refine vx_ofWH (cc := cX0_at) (maxL := 6) (ret := (some .int)) (hh := [(0, 12, 15, 13)]) (by decide) rfl ?_
  intro p e s m args below meth c s₁ B hml hv
  obtain ⟨rfl, ⟨hsz, hP, hK, hD0, hE⟩, hZ⟩ := hv
  subst hsz
  have hts0 := atoms_spec (ws := wsW_ yX0_at cX0_at 6 (some .int) [(0, 12, 15, 13)]) B.pre
  have C : CxM p s m meth c _ (AX dA h s.heap.size) "LeastSolutionsLaw" cX0_at 6 (some .int) := ⟨B.exec, B.bytes, B.returns, B.notSynchronized, hml, findClass_of_methodNamed B.named, fun w h => hts0 w (List.mem_cons_of_mem _ h), fun q h => Or.inr h⟩
  have htab := vx_table (x := yX0_at) B (hts0 _ List.mem_cons_self)
  have hM : wX D dA ev (AX dA h s.heap.size) s h s.heap [] := ⟨hK, hP, hD0.self, va_S.rf, hE⟩
  have hx := C.1
  have hb := C.2.1
  have hown := C.2.2.2.2.2.1
  have hts := C.2.2.2.2.2.2.1
  have hl := lv_entry ([.ref p0, .int p1, .int p2, .int p3, .ref p4]) (n := 6) (Nat.le_of_ble_eq_true rfl)
  rw [lg_entry_eq]
  generalize (lg_sl ([.ref p0, .int p1, .int p2, .int p3, .ref p4]) ++ List.replicate (6 - (lg_sl ([.ref p0, .int p1, .int p2, .int p3, .ref p4])).length) Slot.unset).toArray = ls at hl ⊢
  have hl : lv_has ls 6 [(0, .ref p0), (1, .int p1), (2, .int p2), (3, .int p3), (4, .ref p4)] := hl
  have hbud : 0 + MC ≤ MC ∧ 0 + MS ≤ MS := ⟨by omega, by omega⟩
  unfold wp_X0_at at hw
  refine lv_aload hx hb dX0_at_0 (lv_at hl 4 rfl) ?_
  refine lv_iconst (v := 0) hx hb dX0_at_2 (by decide) ?_
  refine lv_aload_n hx hb dX0_at_3 rfl (lv_at hl 0 rfl) ?_
  refine lv_iload_n hx hb dX0_at_4 rfl (lv_at hl 1 rfl) ?_
  refine lv_iload_n hx hb dX0_at_5 rfl (lv_at hl 2 rfl) ?_
  refine lv_iload_n hx hb dX0_at_6 rfl (lv_at hl 3 rfl) ?_
  obtain ⟨c1, d2, mc3, ms4, emc3, ems4, hw⟩ := hw
  have o7 := hw.1
  replace hw := hw.2
  refine rZ_goi C hM (runZ_V C hM hZ hl.1 0 3 (As := [.int p1, .int p2, .int p3]) rfl (by decide) o7 (mt_X1_at l hst D dA ev _ h p0 p1 p2 p3  c1 d2 _ _ hw) (lw_V q1316 q1317 q1318 q75 q1319) rfl rfl (by decide +kernel) ⟨Nat.le_of_ble_eq_true rfl, Nat.le_of_ble_eq_true rfl⟩ rfl (Nat.le_of_ble_eq_true rfl) rfl dX0_at_7 ⟨by show 0 + c1 ≤ MC; omega, by show 0 + d2 ≤ MS; omega⟩) (fun E ce q9 h8 H locs hw hM g1 g2 g3 => ?_) (fun x6 h5 H locs hw hM => ?_)
  · skip
    have hbud : 0 + c1 + mc3 ≤ MC ∧ 0 + d2 + ms4 ≤ MS := ⟨by omega, by omega⟩
    by_cases hc0 : E = eIOB
    · replace hw := hw.1 hc0 q9
      subst hc0
      refine rZ_catch C hM [] (0, 12, 15, 13) [] htab (fun _ h => nomatch h) ⟨by decide, by decide⟩ (by decide) q840 q878 g1 g2 g3 ?_
      refine lv_astore (lv' := [(5, .ref q9), (0, .ref p0), (1, .int p1), (2, .int p2), (3, .int p3), (4, .ref p4)]) hx hb dX0_at_15 hl (by decide) rfl (fun ls hl => ?_)
      refine lv_iconst (v := 1) hx hb dX0_at_17 (by decide) ?_
      exact vx_ret (rX_iret C hM ⟨by show 0 + c1 ≤ MC; omega, by show 0 + d2 ≤ MS; omega⟩ hw dX0_at_18)
    · replace hw := hw.2 hc0
      exact hw.elim
  have hbud : 0 + c1 + mc3 ≤ MC ∧ 0 + d2 + ms4 ≤ MS := ⟨by omega, by omega⟩
  · skip
    refine lv_i2l hx hb dX0_at_10 rfl ?_
    have o10 := hw.1
    replace hw := hw.2
    have o11 := hw.1
    replace hw := hw.2
    refine rX_last C hM o10 o11 dX0_at_11 (fun h9 H locs eσ hM => ?_)
    replace hw := hw h9 eσ
    clear eσ
    refine lv_goto (tgt := 19) hx hb dX0_at_12 (by decide) ?_
    refine lv_iconst (v := 0) hx hb dX0_at_19 (by decide) ?_
    exact vx_ret (rX_iret C hM ⟨by show 0 + c1 ≤ MC; omega, by show 0 + d2 ≤ MS; omega⟩ hw dX0_at_20)
abbrev rm_X0_tell (MC MS : Nat) : Room := { frames := 8, cells := MC, slots := MS, locals := 152 }
set_option maxHeartbeats 4000000 in
/-- LeastSolutionsLaw.tell(LLeastSolutions;II)I -/
theorem mt_X0_tell (l : Launch) (hst : l.stackTraces = false) (D : va_G) (dA : Nat → ClassId) (ev : Nat → Nat) (sz : Nat) (h : Hp) (p0 : Nat) (p1 : Int32) (p2 : Int32) (MC MS : Nat) (Qr : Int32 → Hp → Prop) (Xr : String → Hp → Prop) (hw : wp_X0_tell ev h p0 p1 p2 MC MS Qr Xr) : vx_Met l yX0_tell (wsW_ yX0_tell cX0_tell 4 (some .int) [(0, 6, 9, 13), (0, 6, 12, 31)]) (rm_X0_tell MC MS) (PcZ D dA ev h sz [.ref p0, .int p1, .int p2]) (va_Qi Qr (BX D dA (AX dA h sz)) (AX dA h sz)) (XP D dA (AX dA h sz) Xr) MC MS (AX dA h sz) := by
  refine vx_ofWH (cc := cX0_tell) (maxL := 4) (ret := (some .int)) (hh := [(0, 6, 9, 13), (0, 6, 12, 31)]) (by decide) rfl ?_
  intro p e s m args below meth c s₁ B hml hv
  obtain ⟨rfl, ⟨hsz, hP, hK, hD0, hE⟩, hZ⟩ := hv
  subst hsz
  have hts0 := atoms_spec (ws := wsW_ yX0_tell cX0_tell 4 (some .int) [(0, 6, 9, 13), (0, 6, 12, 31)]) B.pre
  have C : CxM p s m meth c _ (AX dA h s.heap.size) "LeastSolutionsLaw" cX0_tell 4 (some .int) := ⟨B.exec, B.bytes, B.returns, B.notSynchronized, hml, findClass_of_methodNamed B.named, fun w h => hts0 w (List.mem_cons_of_mem _ h), fun q h => Or.inr h⟩
  have htab := vx_table (x := yX0_tell) B (hts0 _ List.mem_cons_self)
  have hM : wX D dA ev (AX dA h s.heap.size) s h s.heap [] := ⟨hK, hP, hD0.self, va_S.rf, hE⟩
  have hx := C.1
  have hb := C.2.1
  have hown := C.2.2.2.2.2.1
  have hts := C.2.2.2.2.2.2.1
  have hl := lv_entry ([.ref p0, .int p1, .int p2]) (n := 4) (Nat.le_of_ble_eq_true rfl)
  rw [lg_entry_eq]
  generalize (lg_sl ([.ref p0, .int p1, .int p2]) ++ List.replicate (4 - (lg_sl ([.ref p0, .int p1, .int p2])).length) Slot.unset).toArray = ls at hl ⊢
  have hl : lv_has ls 4 [(0, .ref p0), (1, .int p1), (2, .int p2)] := hl
  have hbud : 0 + MC ≤ MC ∧ 0 + MS ≤ MS := ⟨by omega, by omega⟩
  unfold wp_X0_tell at hw
  refine lv_aload_n hx hb dX0_tell_0 rfl (lv_at hl 0 rfl) ?_
  refine lv_iload_n hx hb dX0_tell_1 rfl (lv_at hl 1 rfl) ?_
  refine lv_iload_n hx hb dX0_tell_2 rfl (lv_at hl 2 rfl) ?_
  obtain ⟨c1, d2, mc3, ms4, emc3, ems4, hw⟩ := hw
  have o6 := hw.1
  replace hw := hw.2
  refine rZ_gov C hM (runZ_V C hM hZ hl.1 0 2 (As := [.int p1, .int p2]) rfl (by decide) o6 (mt_X1_tell l hst D dA ev _ h p0 p1 p2  c1 d2 _ _ hw) (lw_V q1323 q1324 q1325 q75 q1326) rfl rfl (by decide +kernel) ⟨Nat.le_of_ble_eq_true rfl, Nat.le_of_ble_eq_true rfl⟩ rfl (Nat.le_of_ble_eq_true rfl) rfl dX0_tell_3 ⟨by show 0 + c1 ≤ MC; omega, by show 0 + d2 ≤ MS; omega⟩) (fun E ce q9 h7 H locs hw hM g1 g2 g3 => ?_) (fun h5 H locs hw hM => ?_)
  · skip
    have hbud : 0 + c1 + mc3 ≤ MC ∧ 0 + d2 + ms4 ≤ MS := ⟨by omega, by omega⟩
    by_cases hc0 : E = eIOB
    · replace hw := hw.1 hc0 q9
      subst hc0
      refine rZ_catch C hM [] (0, 6, 9, 13) [(0, 6, 12, 31)] htab (fun _ h => nomatch h) ⟨by decide, by decide⟩ (by decide) q840 q878 g1 g2 g3 ?_
      refine lv_astore_n (lv' := [(3, .ref q9), (0, .ref p0), (1, .int p1), (2, .int p2)]) hx hb dX0_tell_9 rfl hl (by decide) rfl (fun ls hl => ?_)
      refine lv_iconst (v := 1) hx hb dX0_tell_10 (by decide) ?_
      exact vx_ret (rX_iret C hM ⟨by show 0 + c1 ≤ MC; omega, by show 0 + d2 ≤ MS; omega⟩ hw dX0_tell_11)
    · replace hw := hw.2 hc0
      by_cases hc1 : E = eIAE
      · replace hw := hw.1 hc1 q9
        subst hc1
        refine rZ_catch C hM [(0, 6, 9, 13)] (0, 6, 12, 31) [] htab (List.forall_mem_cons.mpr ⟨⟨by decide, eIOB, q840, hZ.2.2.2.1⟩, (fun _ h => nomatch h)⟩) ⟨by decide, by decide⟩ (by decide) q924 q161 g1 g2 g3 ?_
        refine lv_astore_n (lv' := [(3, .ref q9), (0, .ref p0), (1, .int p1), (2, .int p2)]) hx hb dX0_tell_12 rfl hl (by decide) rfl (fun ls hl => ?_)
        refine lv_iconst (v := 2) hx hb dX0_tell_13 (by decide) ?_
        exact vx_ret (rX_iret C hM ⟨by show 0 + c1 ≤ MC; omega, by show 0 + d2 ≤ MS; omega⟩ hw dX0_tell_14)
      · replace hw := hw.2 hc1
        exact hw.elim
  have hbud : 0 + c1 + mc3 ≤ MC ∧ 0 + d2 + ms4 ≤ MS := ⟨by omega, by omega⟩
  · skip
    refine lv_goto (tgt := 15) hx hb dX0_tell_6 (by decide) ?_
    refine lv_iconst (v := 0) hx hb dX0_tell_15 (by decide) ?_
    exact vx_ret (rX_iret C hM ⟨by show 0 + c1 ≤ MC; omega, by show 0 + d2 ≤ MS; omega⟩ hw dX0_tell_16)
abbrev rm_X0_holds (MC MS : Nat) : Room := { frames := 8, cells := MC, slots := MS, locals := 157 }
set_option maxHeartbeats 4000000 in
/-- LeastSolutionsLaw.holds(LLeastSolutions;[J)I -/
theorem mt_X0_holds (l : Launch) (hst : l.stackTraces = false) (D : va_G) (dA : Nat → ClassId) (ev : Nat → Nat) (sz : Nat) (h : Hp) (p0 : Nat) (p1 : Nat) (MC MS : Nat) (Qr : Int32 → Hp → Prop) (Xr : String → Hp → Prop) (hw : wp_X0_holds ev h p0 p1 MC MS Qr Xr) : vx_Met l yX0_holds (wsW_ yX0_holds cX0_holds 3 (some .int) [(0, 8, 11, 19)]) (rm_X0_holds MC MS) (PcZ D dA ev h sz [.ref p0, .ref p1]) (va_Qi Qr (BX D dA (AX dA h sz)) (AX dA h sz)) (XP D dA (AX dA h sz) Xr) MC MS (AX dA h sz) := by
  refine vx_ofWH (cc := cX0_holds) (maxL := 3) (ret := (some .int)) (hh := [(0, 8, 11, 19)]) (by decide) rfl ?_
  intro p e s m args below meth c s₁ B hml hv
  obtain ⟨rfl, ⟨hsz, hP, hK, hD0, hE⟩, hZ⟩ := hv
  subst hsz
  have hts0 := atoms_spec (ws := wsW_ yX0_holds cX0_holds 3 (some .int) [(0, 8, 11, 19)]) B.pre
  have C : CxM p s m meth c _ (AX dA h s.heap.size) "LeastSolutionsLaw" cX0_holds 3 (some .int) := ⟨B.exec, B.bytes, B.returns, B.notSynchronized, hml, findClass_of_methodNamed B.named, fun w h => hts0 w (List.mem_cons_of_mem _ h), fun q h => Or.inr h⟩
  have htab := vx_table (x := yX0_holds) B (hts0 _ List.mem_cons_self)
  have hM : wX D dA ev (AX dA h s.heap.size) s h s.heap [] := ⟨hK, hP, hD0.self, va_S.rf, hE⟩
  have hx := C.1
  have hb := C.2.1
  have hown := C.2.2.2.2.2.1
  have hts := C.2.2.2.2.2.2.1
  have hl := lv_entry ([.ref p0, .ref p1]) (n := 3) (Nat.le_of_ble_eq_true rfl)
  rw [lg_entry_eq]
  generalize (lg_sl ([.ref p0, .ref p1]) ++ List.replicate (3 - (lg_sl ([.ref p0, .ref p1])).length) Slot.unset).toArray = ls at hl ⊢
  have hl : lv_has ls 3 [(0, .ref p0), (1, .ref p1)] := hl
  have hbud : 0 + MC ≤ MC ∧ 0 + MS ≤ MS := ⟨by omega, by omega⟩
  unfold wp_X0_holds at hw
  refine lv_aload_n hx hb dX0_holds_0 rfl (lv_at hl 1 rfl) ?_
  refine lv_iconst (v := 0) hx hb dX0_holds_1 (by decide) ?_
  refine lv_aload_n hx hb dX0_holds_2 rfl (lv_at hl 0 rfl) ?_
  obtain ⟨c1, d2, mc3, ms4, emc3, ems4, hw⟩ := hw
  have o7 := hw.1
  replace hw := hw.2
  refine rZ_goi C hM (runZ_V C hM hZ hl.1 0 0 (As := []) rfl (by decide) o7 (mt_X1_holds l hst D dA ev _ h p0  c1 d2 _ _ hw) (lw_V q1333 q786 q787 q75 q788) rfl rfl (by decide +kernel) ⟨Nat.le_of_ble_eq_true rfl, Nat.le_of_ble_eq_true rfl⟩ rfl (Nat.le_of_ble_eq_true rfl) rfl dX0_holds_3 ⟨by show 0 + c1 ≤ MC; omega, by show 0 + d2 ≤ MS; omega⟩) (fun E ce q9 h8 H locs hw hM g1 g2 g3 => ?_) (fun x6 h5 H locs hw hM => ?_)
  · skip
    have hbud : 0 + c1 + mc3 ≤ MC ∧ 0 + d2 + ms4 ≤ MS := ⟨by omega, by omega⟩
    by_cases hc0 : E = eISE
    · replace hw := hw.1 hc0 q9
      subst hc0
      refine rZ_catch C hM [] (0, 8, 11, 19) [] htab (fun _ h => nomatch h) ⟨by decide, by decide⟩ (by decide) q894 q795 g1 g2 g3 ?_
      refine lv_astore_n (lv' := [(2, .ref q9), (0, .ref p0), (1, .ref p1)]) hx hb dX0_holds_11 rfl hl (by decide) rfl (fun ls hl => ?_)
      refine lv_iconst (v := 1) hx hb dX0_holds_12 (by decide) ?_
      exact vx_ret (rX_iret C hM ⟨by show 0 + c1 ≤ MC; omega, by show 0 + d2 ≤ MS; omega⟩ hw dX0_holds_13)
    · replace hw := hw.2 hc0
      exact hw.elim
  have hbud : 0 + c1 + mc3 ≤ MC ∧ 0 + d2 + ms4 ≤ MS := ⟨by omega, by omega⟩
  · skip
    refine lv_i2l hx hb dX0_holds_6 rfl ?_
    have o10 := hw.1
    replace hw := hw.2
    have o11 := hw.1
    replace hw := hw.2
    refine rX_last C hM o10 o11 dX0_holds_7 (fun h9 H locs eσ hM => ?_)
    replace hw := hw h9 eσ
    clear eσ
    refine lv_goto (tgt := 14) hx hb dX0_holds_8 (by decide) ?_
    refine lv_iconst (v := 0) hx hb dX0_holds_14 (by decide) ?_
    exact vx_ret (rX_iret C hM ⟨by show 0 + c1 ≤ MC; omega, by show 0 + d2 ≤ MS; omega⟩ hw dX0_holds_15)
abbrev rm_X0_cost (MC MS : Nat) : Room := { frames := 8, cells := MC, slots := MS, locals := 152 }
set_option maxHeartbeats 4000000 in
/-- LeastSolutionsLaw.cost(LLeastSolutions;II)I -/
theorem mt_X0_cost (l : Launch) (hst : l.stackTraces = false) (D : va_G) (dA : Nat → ClassId) (ev : Nat → Nat) (sz : Nat) (h : Hp) (p0 : Nat) (p1 : Int32) (p2 : Int32) (MC MS : Nat) (Qr : Int32 → Hp → Prop) (Xr : String → Hp → Prop) (hw : wp_X0_cost ev h p0 p1 p2 MC MS Qr Xr) : vx_Met l yX0_cost (wsW_ yX0_cost cX0_cost 4 (some .int) [(0, 6, 9, 13), (0, 6, 12, 31)]) (rm_X0_cost MC MS) (PcZ D dA ev h sz [.ref p0, .int p1, .int p2]) (va_Qi Qr (BX D dA (AX dA h sz)) (AX dA h sz)) (XP D dA (AX dA h sz) Xr) MC MS (AX dA h sz) := by
  refine vx_ofWH (cc := cX0_cost) (maxL := 4) (ret := (some .int)) (hh := [(0, 6, 9, 13), (0, 6, 12, 31)]) (by decide) rfl ?_
  intro p e s m args below meth c s₁ B hml hv
  obtain ⟨rfl, ⟨hsz, hP, hK, hD0, hE⟩, hZ⟩ := hv
  subst hsz
  have hts0 := atoms_spec (ws := wsW_ yX0_cost cX0_cost 4 (some .int) [(0, 6, 9, 13), (0, 6, 12, 31)]) B.pre
  have C : CxM p s m meth c _ (AX dA h s.heap.size) "LeastSolutionsLaw" cX0_cost 4 (some .int) := ⟨B.exec, B.bytes, B.returns, B.notSynchronized, hml, findClass_of_methodNamed B.named, fun w h => hts0 w (List.mem_cons_of_mem _ h), fun q h => Or.inr h⟩
  have htab := vx_table (x := yX0_cost) B (hts0 _ List.mem_cons_self)
  have hM : wX D dA ev (AX dA h s.heap.size) s h s.heap [] := ⟨hK, hP, hD0.self, va_S.rf, hE⟩
  have hx := C.1
  have hb := C.2.1
  have hown := C.2.2.2.2.2.1
  have hts := C.2.2.2.2.2.2.1
  have hl := lv_entry ([.ref p0, .int p1, .int p2]) (n := 4) (Nat.le_of_ble_eq_true rfl)
  rw [lg_entry_eq]
  generalize (lg_sl ([.ref p0, .int p1, .int p2]) ++ List.replicate (4 - (lg_sl ([.ref p0, .int p1, .int p2])).length) Slot.unset).toArray = ls at hl ⊢
  have hl : lv_has ls 4 [(0, .ref p0), (1, .int p1), (2, .int p2)] := hl
  have hbud : 0 + MC ≤ MC ∧ 0 + MS ≤ MS := ⟨by omega, by omega⟩
  unfold wp_X0_cost at hw
  refine lv_aload_n hx hb dX0_cost_0 rfl (lv_at hl 0 rfl) ?_
  refine lv_iload_n hx hb dX0_cost_1 rfl (lv_at hl 1 rfl) ?_
  refine lv_iload_n hx hb dX0_cost_2 rfl (lv_at hl 2 rfl) ?_
  obtain ⟨c1, d2, mc3, ms4, emc3, ems4, hw⟩ := hw
  have o6 := hw.1
  replace hw := hw.2
  refine rZ_gov C hM (runZ_V C hM hZ hl.1 0 2 (As := [.int p1, .int p2]) rfl (by decide) o6 (mt_X1_cost l hst D dA ev _ h p0 p1 p2  c1 d2 _ _ hw) (lw_V q1337 q1338 q1339 q75 q1340) rfl rfl (by decide +kernel) ⟨Nat.le_of_ble_eq_true rfl, Nat.le_of_ble_eq_true rfl⟩ rfl (Nat.le_of_ble_eq_true rfl) rfl dX0_cost_3 ⟨by show 0 + c1 ≤ MC; omega, by show 0 + d2 ≤ MS; omega⟩) (fun E ce q9 h7 H locs hw hM g1 g2 g3 => ?_) (fun h5 H locs hw hM => ?_)
  · skip
    have hbud : 0 + c1 + mc3 ≤ MC ∧ 0 + d2 + ms4 ≤ MS := ⟨by omega, by omega⟩
    by_cases hc0 : E = eIOB
    · replace hw := hw.1 hc0 q9
      subst hc0
      refine rZ_catch C hM [] (0, 6, 9, 13) [(0, 6, 12, 31)] htab (fun _ h => nomatch h) ⟨by decide, by decide⟩ (by decide) q840 q878 g1 g2 g3 ?_
      refine lv_astore_n (lv' := [(3, .ref q9), (0, .ref p0), (1, .int p1), (2, .int p2)]) hx hb dX0_cost_9 rfl hl (by decide) rfl (fun ls hl => ?_)
      refine lv_iconst (v := 1) hx hb dX0_cost_10 (by decide) ?_
      exact vx_ret (rX_iret C hM ⟨by show 0 + c1 ≤ MC; omega, by show 0 + d2 ≤ MS; omega⟩ hw dX0_cost_11)
    · replace hw := hw.2 hc0
      by_cases hc1 : E = eIAE
      · replace hw := hw.1 hc1 q9
        subst hc1
        refine rZ_catch C hM [(0, 6, 9, 13)] (0, 6, 12, 31) [] htab (List.forall_mem_cons.mpr ⟨⟨by decide, eIOB, q840, hZ.2.2.2.1⟩, (fun _ h => nomatch h)⟩) ⟨by decide, by decide⟩ (by decide) q924 q161 g1 g2 g3 ?_
        refine lv_astore_n (lv' := [(3, .ref q9), (0, .ref p0), (1, .int p1), (2, .int p2)]) hx hb dX0_cost_12 rfl hl (by decide) rfl (fun ls hl => ?_)
        refine lv_iconst (v := 2) hx hb dX0_cost_13 (by decide) ?_
        exact vx_ret (rX_iret C hM ⟨by show 0 + c1 ≤ MC; omega, by show 0 + d2 ≤ MS; omega⟩ hw dX0_cost_14)
      · replace hw := hw.2 hc1
        exact hw.elim
  have hbud : 0 + c1 + mc3 ≤ MC ∧ 0 + d2 + ms4 ≤ MS := ⟨by omega, by omega⟩
  · skip
    refine lv_goto (tgt := 15) hx hb dX0_cost_6 (by decide) ?_
    refine lv_iconst (v := 0) hx hb dX0_cost_15 (by decide) ?_
    exact vx_ret (rX_iret C hM ⟨by show 0 + c1 ≤ MC; omega, by show 0 + d2 ≤ MS; omega⟩ hw dX0_cost_16)
abbrev rm_X0_best (MC MS : Nat) : Room := { frames := 13, cells := MC, slots := MS, locals := 319 }
set_option maxHeartbeats 4000000 in
/-- LeastSolutionsLaw.best(LLeastSolutions;I[J)I -/
theorem mt_X0_best (l : Launch) (hst : l.stackTraces = false) (D : va_G) (dA : Nat → ClassId) (ev : Nat → Nat) (sz : Nat) (h : Hp) (p0 : Nat) (p1 : Int32) (p2 : Nat) (MC MS : Nat) (Qr : Int32 → Hp → Prop) (Xr : String → Hp → Prop) (hw : wp_X0_best ev h p0 p1 p2 MC MS Qr Xr) : vx_Met l yX0_best (wsW_ yX0_best cX0_best 4 (some .int) [(0, 9, 12, 31), (0, 9, 15, 19), (0, 9, 18, 51)]) (rm_X0_best MC MS) (PcZ D dA ev h sz [.ref p0, .int p1, .ref p2]) (va_Qi Qr (BX D dA (AX dA h sz)) (AX dA h sz)) (XP D dA (AX dA h sz) Xr) MC MS (AX dA h sz) := by
  refine vx_ofWH (cc := cX0_best) (maxL := 4) (ret := (some .int)) (hh := [(0, 9, 12, 31), (0, 9, 15, 19), (0, 9, 18, 51)]) (by decide) rfl ?_
  intro p e s m args below meth c s₁ B hml hv
  obtain ⟨rfl, ⟨hsz, hP, hK, hD0, hE⟩, hZ⟩ := hv
  subst hsz
  have hts0 := atoms_spec (ws := wsW_ yX0_best cX0_best 4 (some .int) [(0, 9, 12, 31), (0, 9, 15, 19), (0, 9, 18, 51)]) B.pre
  have C : CxM p s m meth c _ (AX dA h s.heap.size) "LeastSolutionsLaw" cX0_best 4 (some .int) := ⟨B.exec, B.bytes, B.returns, B.notSynchronized, hml, findClass_of_methodNamed B.named, fun w h => hts0 w (List.mem_cons_of_mem _ h), fun q h => Or.inr h⟩
  have htab := vx_table (x := yX0_best) B (hts0 _ List.mem_cons_self)
  have hM : wX D dA ev (AX dA h s.heap.size) s h s.heap [] := ⟨hK, hP, hD0.self, va_S.rf, hE⟩
  have hx := C.1
  have hb := C.2.1
  have hown := C.2.2.2.2.2.1
  have hts := C.2.2.2.2.2.2.1
  have hl := lv_entry ([.ref p0, .int p1, .ref p2]) (n := 4) (Nat.le_of_ble_eq_true rfl)
  rw [lg_entry_eq]
  generalize (lg_sl ([.ref p0, .int p1, .ref p2]) ++ List.replicate (4 - (lg_sl ([.ref p0, .int p1, .ref p2])).length) Slot.unset).toArray = ls at hl ⊢
  have hl : lv_has ls 4 [(0, .ref p0), (1, .int p1), (2, .ref p2)] := hl
  have hbud : 0 + MC ≤ MC ∧ 0 + MS ≤ MS := ⟨by omega, by omega⟩
  unfold wp_X0_best at hw
  refine lv_aload_n hx hb dX0_best_0 rfl (lv_at hl 2 rfl) ?_
  refine lv_iconst (v := 0) hx hb dX0_best_1 (by decide) ?_
  refine lv_aload_n hx hb dX0_best_2 rfl (lv_at hl 0 rfl) ?_
  refine lv_iload_n hx hb dX0_best_3 rfl (lv_at hl 1 rfl) ?_
  obtain ⟨c1, d2, mc3, ms4, emc3, ems4, hw⟩ := hw
  have o7 := hw.1
  replace hw := hw.2
  refine rZ_goi C hM (runZ_V C hM hZ hl.1 0 1 (As := [.int p1]) rfl (by decide) o7 (mt_X1_best l hst D dA ev _ h p0 p1  c1 d2 _ _ hw) (lw_V q1345 q1346 q1347 q75 q1348) rfl rfl (by decide +kernel) ⟨Nat.le_of_ble_eq_true rfl, Nat.le_of_ble_eq_true rfl⟩ rfl (Nat.le_of_ble_eq_true rfl) rfl dX0_best_4 ⟨by show 0 + c1 ≤ MC; omega, by show 0 + d2 ≤ MS; omega⟩) (fun E ce q9 h8 H locs hw hM g1 g2 g3 => ?_) (fun x6 h5 H locs hw hM => ?_)
  · skip
    have hbud : 0 + c1 + mc3 ≤ MC ∧ 0 + d2 + ms4 ≤ MS := ⟨by omega, by omega⟩
    by_cases hc0 : E = eIAE
    · replace hw := hw.1 hc0 q9
      subst hc0
      refine rZ_catch C hM [] (0, 9, 12, 31) [(0, 9, 15, 19), (0, 9, 18, 51)] htab (fun _ h => nomatch h) ⟨by decide, by decide⟩ (by decide) q924 q161 g1 g2 g3 ?_
      refine lv_astore_n (lv' := [(3, .ref q9), (0, .ref p0), (1, .int p1), (2, .ref p2)]) hx hb dX0_best_12 rfl hl (by decide) rfl (fun ls hl => ?_)
      refine lv_iconst (v := 1) hx hb dX0_best_13 (by decide) ?_
      exact vx_ret (rX_iret C hM ⟨by show 0 + c1 ≤ MC; omega, by show 0 + d2 ≤ MS; omega⟩ hw dX0_best_14)
    · replace hw := hw.2 hc0
      by_cases hc1 : E = eISE
      · replace hw := hw.1 hc1 q9
        subst hc1
        refine rZ_catch C hM [(0, 9, 12, 31)] (0, 9, 15, 19) [(0, 9, 18, 51)] htab (List.forall_mem_cons.mpr ⟨⟨by decide, eIAE, q924, hZ.2.2.1⟩, (fun _ h => nomatch h)⟩) ⟨by decide, by decide⟩ (by decide) q894 q795 g1 g2 g3 ?_
        refine lv_astore_n (lv' := [(3, .ref q9), (0, .ref p0), (1, .int p1), (2, .ref p2)]) hx hb dX0_best_15 rfl hl (by decide) rfl (fun ls hl => ?_)
        refine lv_iconst (v := 2) hx hb dX0_best_16 (by decide) ?_
        exact vx_ret (rX_iret C hM ⟨by show 0 + c1 ≤ MC; omega, by show 0 + d2 ≤ MS; omega⟩ hw dX0_best_17)
      · replace hw := hw.2 hc1
        by_cases hc2 : E = eNSE
        · replace hw := hw.1 hc2 q9
          subst hc2
          refine rZ_catch C hM [(0, 9, 12, 31), (0, 9, 15, 19)] (0, 9, 18, 51) [] htab (List.forall_mem_cons.mpr ⟨⟨by decide, eIAE, q924, hZ.2.2.2.2.1⟩, (List.forall_mem_cons.mpr ⟨⟨by decide, eISE, q894, hZ.2.2.2.2.2⟩, (fun _ h => nomatch h)⟩)⟩) ⟨by decide, by decide⟩ (by decide) q1344 q1370 g1 g2 g3 ?_
          refine lv_astore_n (lv' := [(3, .ref q9), (0, .ref p0), (1, .int p1), (2, .ref p2)]) hx hb dX0_best_18 rfl hl (by decide) rfl (fun ls hl => ?_)
          refine lv_iconst (v := 3) hx hb dX0_best_19 (by decide) ?_
          exact vx_ret (rX_iret C hM ⟨by show 0 + c1 ≤ MC; omega, by show 0 + d2 ≤ MS; omega⟩ hw dX0_best_20)
        · replace hw := hw.2 hc2
          exact hw.elim
  have hbud : 0 + c1 + mc3 ≤ MC ∧ 0 + d2 + ms4 ≤ MS := ⟨by omega, by omega⟩
  · skip
    refine lv_i2l hx hb dX0_best_7 rfl ?_
    have o10 := hw.1
    replace hw := hw.2
    have o11 := hw.1
    replace hw := hw.2
    refine rX_last C hM o10 o11 dX0_best_8 (fun h9 H locs eσ hM => ?_)
    replace hw := hw h9 eσ
    clear eσ
    refine lv_goto (tgt := 21) hx hb dX0_best_9 (by decide) ?_
    refine lv_iconst (v := 0) hx hb dX0_best_21 (by decide) ?_
    exact vx_ret (rX_iret C hM ⟨by show 0 + c1 ≤ MC; omega, by show 0 + d2 ≤ MS; omega⟩ hw dX0_best_22)
