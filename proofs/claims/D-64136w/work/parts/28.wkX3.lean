set_option maxRecDepth 100000
abbrev rm_X3_stop : Room := { frames := 0, cells := 0, slots := 0, locals := 0 }
set_option maxHeartbeats 4000000 in
/-- LeastSolutions$Reader.stop(II)V -/
theorem mt_X3_stop (l : Launch) (hst : l.stackTraces = false) (D : va_G) (dA : Nat → ClassId) (ev : Nat → Nat) (sz : Nat) (h : Hp) (a0 : Nat) (p1 : Int32) (p2 : Int32) (Qr : Hp → Prop) (Xr : String → Hp → Prop) (hw : wp_X3_stop ev h a0 p1 p2 Qr Xr) : vx_Met l yX3_stop (ws_ yX3_stop cX3_stop 3 none) rm_X3_stop (PcZ D dA ev h sz [.ref a0, .int p1, .int p2]) (va_Qv Qr (BX D dA (AX dA h sz)) (AX dA h sz)) (XP D dA (AX dA h sz) Xr) 0 0 (AX dA h sz) := by
  refine vx_ofW (cc := cX3_stop) (maxL := 3) (ret := none) (by decide) rfl ?_
  intro p e s m args below meth c s₁ B hml htab hv
  obtain ⟨rfl, ⟨hsz, hP, hK, hD0, hE⟩, hZ⟩ := hv
  subst hsz
  have hts0 := atoms_spec (ws := ws_ yX3_stop cX3_stop 3 none) B.pre
  have C : CxM p s m meth c _ (AX dA h s.heap.size) "LeastSolutions$Reader" cX3_stop 3 none := ⟨B.exec, B.bytes, B.returns, B.notSynchronized, hml, findClass_of_methodNamed B.named, fun w h => hts0 w (List.mem_cons_of_mem _ h), fun q h => Or.inr h⟩
  have hM : wX D dA ev (AX dA h s.heap.size) s h s.heap [] := ⟨hK, hP, hD0.self, va_S.rf, hE⟩
  have hx := C.1
  have hb := C.2.1
  have hown := C.2.2.2.2.2.1
  have hts := C.2.2.2.2.2.2.1
  have hl := lv_entry ([.ref a0, .int p1, .int p2]) (n := 3) (Nat.le_of_ble_eq_true rfl)
  rw [lg_entry_eq]
  generalize (lg_sl ([.ref a0, .int p1, .int p2]) ++ List.replicate (3 - (lg_sl ([.ref a0, .int p1, .int p2])).length) Slot.unset).toArray = ls at hl ⊢
  have hl : lv_has ls 3 [(0, .ref a0), (1, .int p1), (2, .int p2)] := hl
  unfold wp_X3_stop at hw
  refine lv_aload_n hx hb dX3_stop_0 rfl (lv_at hl 0 rfl) ?_
  refine lv_iload_n hx hb dX3_stop_1 rfl (lv_at hl 1 rfl) ?_
  have o2 := hw.1
  replace hw := hw.2
  refine rX_putI C hM 2 8 rfl in_X3 (by decide) (by decide) rfl rfl q233 o2 tyX3 tyX3_ok nmX3 rfl rfl rfl dX3_stop_2 (fun h1 H locs eσ hM => ?_)
  replace hw := hw h1 eσ
  clear eσ
  refine lv_aload_n hx hb dX3_stop_5 rfl (lv_at hl 0 rfl) ?_
  refine lv_iload_n hx hb dX3_stop_6 rfl (lv_at hl 2 rfl) ?_
  have o4 := hw.1
  replace hw := hw.2
  refine rX_putI C hM 2 9 rfl in_X3 (by decide) (by decide) rfl rfl q234 o4 tyX3 tyX3_ok nmX3 rfl rfl rfl dX3_stop_7 (fun h3 H locs eσ hM => ?_)
  replace hw := hw h3 eσ
  clear eσ
  refine lv_aload_n hx hb dX3_stop_10 rfl (lv_at hl 0 rfl) ?_
  have o5 := hw.1
  replace hw := hw.2
  obtain ⟨b6, ebb6, hw⟩ := hw
  refine rX_getRs C hM 2 1 rfl in_X3 (by decide) (by decide) rfl q226 o5 ebb6 dX3_stop_11 ?_
  have o7 := hw.1
  replace hw := hw.2
  exact rZ_athrow C hM (fun x hx => (htab x hx).elim) ⟨Nat.le_refl _, Nat.le_refl _⟩ o7 hw dX3_stop_14
abbrev rm_X3_check : Room := { frames := 1, cells := 0, slots := 0, locals := 22 }
set_option maxHeartbeats 4000000 in
theorem wk_X3_check_17 {p : Program} {l : Launch} {e : Env} {s : State} {m : MethodId} {args : Array Value} {below : List Frame} {meth : Method} {c : Code} {D : va_G} {dA : Nat → ClassId} {ev : Nat → Nat} {h0 : Hp} {sz : Nat} (C : CxM p s m meth c args (AX dA h0 sz) "LeastSolutions$Reader" cX3_check 4 none) (hst : l.stackTraces = false) (hZ : ZX (AX dA h0 sz) s s.heap) (htab : ∀ x ∈ c.exceptionTable.toList, False) {Qr : Hp → Prop} {Xr : String → Hp → Prop} : ∀ (a0 : Nat) (h : Hp) (H : Heap) (locs : List Loc) (ls : Array Slot), wp_X3_check_17 ev Qr Xr a0 h → wX D dA ev (AX dA h0 sz) s h H locs → lv_has ls 4 [(0, .ref a0)] → W p l e rm_X3_check s m args below meth c H locs 0 0 (vx_MQ below (va_Qv Qr (BX D dA (AX dA h0 sz)) (AX dA h0 sz)) (XP D dA (AX dA h0 sz) Xr) args s 0 0 (AX dA h0 sz)) (F0 m 17 ls []) := by
  intro a0 h H locs ls hw hM hl
  have hx := C.1
  have hb := C.2.1
  have hown := C.2.2.2.2.2.1
  have hts := C.2.2.2.2.2.2.1
  unfold wp_X3_check_17 at hw
  exact vx_ret (rX_vret C hM ⟨Nat.le_refl _, Nat.le_refl _⟩ hw dX3_check_17)
set_option maxHeartbeats 4000000 in
/-- LeastSolutions$Reader.check(ZII)V -/
theorem mt_X3_check (l : Launch) (hst : l.stackTraces = false) (D : va_G) (dA : Nat → ClassId) (ev : Nat → Nat) (sz : Nat) (h : Hp) (a0 : Nat) (p1 : Int32) (p2 : Int32) (p3 : Int32) (Qr : Hp → Prop) (Xr : String → Hp → Prop) (hw : wp_X3_check ev h a0 p1 p2 p3 Qr Xr) : vx_Met l yX3_check (ws_ yX3_check cX3_check 4 none) rm_X3_check (PcZ D dA ev h sz [.ref a0, .int p1, .int p2, .int p3]) (va_Qv Qr (BX D dA (AX dA h sz)) (AX dA h sz)) (XP D dA (AX dA h sz) Xr) 0 0 (AX dA h sz) := by
  refine vx_ofW (cc := cX3_check) (maxL := 4) (ret := none) (by decide) rfl ?_
  intro p e s m args below meth c s₁ B hml htab hv
  obtain ⟨rfl, ⟨hsz, hP, hK, hD0, hE⟩, hZ⟩ := hv
  subst hsz
  have hts0 := atoms_spec (ws := ws_ yX3_check cX3_check 4 none) B.pre
  have C : CxM p s m meth c _ (AX dA h s.heap.size) "LeastSolutions$Reader" cX3_check 4 none := ⟨B.exec, B.bytes, B.returns, B.notSynchronized, hml, findClass_of_methodNamed B.named, fun w h => hts0 w (List.mem_cons_of_mem _ h), fun q h => Or.inr h⟩
  have hM : wX D dA ev (AX dA h s.heap.size) s h s.heap [] := ⟨hK, hP, hD0.self, va_S.rf, hE⟩
  have hx := C.1
  have hb := C.2.1
  have hown := C.2.2.2.2.2.1
  have hts := C.2.2.2.2.2.2.1
  have hl := lv_entry ([.ref a0, .int p1, .int p2, .int p3]) (n := 4) (Nat.le_of_ble_eq_true rfl)
  rw [lg_entry_eq]
  generalize (lg_sl ([.ref a0, .int p1, .int p2, .int p3]) ++ List.replicate (4 - (lg_sl ([.ref a0, .int p1, .int p2, .int p3])).length) Slot.unset).toArray = ls at hl ⊢
  have hl : lv_has ls 4 [(0, .ref a0), (1, .int p1), (2, .int p2), (3, .int p3)] := hl
  unfold wp_X3_check at hw
  refine lv_aload_n hx hb dX3_check_0 rfl (lv_at hl 0 rfl) ?_
  have o1 := hw.1
  replace hw := hw.2
  refine rX_getI C hM 2 7 rfl in_X3 (by decide) (by decide) rfl q232 o1 dX3_check_1 ?_
  refine lv_if_eq (tgt := 17) hx hb dX3_check_4 (by decide) (fun hc => ?_) (fun hc => ?_)
  · replace hw := hw.1 hc
    exact wk_X3_check_17 C hst hZ htab  a0 h _ _ ls hw hM (lv_sub hl [0] rfl)
  · replace hw := hw.2 hc
    refine lv_iload_n hx hb dX3_check_7 rfl (lv_at hl 1 rfl) ?_
    refine lv_if_ne (tgt := 17) hx hb dX3_check_8 (by decide) (fun hc => ?_) (fun hc => ?_)
    · replace hw := hw.1 hc
      exact wk_X3_check_17 C hst hZ htab  a0 h _ _ ls hw hM (lv_sub hl [0] rfl)
    · replace hw := hw.2 hc
      refine lv_aload_n hx hb dX3_check_11 rfl (lv_at hl 0 rfl) ?_
      refine lv_iload_n hx hb dX3_check_12 rfl (lv_at hl 2 rfl) ?_
      refine lv_iload_n hx hb dX3_check_13 rfl (lv_at hl 3 rfl) ?_
      have o3 := hw.1
      replace hw := hw.2
      refine rZ_gov C hM (runZ_V C hM hZ hl.1 2 2 (As := [.int p2, .int p3]) rfl (by decide) o3 (mt_X3_stop l hst D dA ev _ h a0 p2 p3  _ _ hw) (lw_V q587 q589 qs8 q79 q590) rfl rfl (by decide +kernel) ⟨Nat.le_of_ble_eq_true rfl, Nat.le_of_ble_eq_true rfl⟩ rfl (Nat.le_of_ble_eq_true rfl) rfl dX3_check_14 ⟨Nat.le_refl _, Nat.le_refl _⟩) (fun E ce q9 h4 H locs hw hM g1 g2 g3 => rZ_out C hM (fun x hx => (htab x hx).elim) ⟨Nat.le_refl _, Nat.le_refl _⟩ hw g1 g2 g3) (fun h2 H locs hw hM => ?_)
      exact wk_X3_check_17 C hst hZ htab  a0 h2 _ _ ls hw hM (lv_sub hl [0] rfl)
abbrev rm_X3_require : Room := { frames := 1, cells := 0, slots := 0, locals := 22 }
set_option maxHeartbeats 4000000 in
theorem wk_X3_require_16 {p : Program} {l : Launch} {e : Env} {s : State} {m : MethodId} {args : Array Value} {below : List Frame} {meth : Method} {c : Code} {D : va_G} {dA : Nat → ClassId} {ev : Nat → Nat} {h0 : Hp} {sz : Nat} (C : CxM p s m meth c args (AX dA h0 sz) "LeastSolutions$Reader" cX3_require 2 none) (hst : l.stackTraces = false) (hZ : ZX (AX dA h0 sz) s s.heap) (htab : ∀ x ∈ c.exceptionTable.toList, False) {Qr : Hp → Prop} {Xr : String → Hp → Prop} : ∀ (a0 : Nat) (h : Hp) (H : Heap) (locs : List Loc) (ls : Array Slot), wp_X3_require_16 ev Qr Xr a0 h → wX D dA ev (AX dA h0 sz) s h H locs → lv_has ls 2 [(0, .ref a0)] → W p l e rm_X3_require s m args below meth c H locs 0 0 (vx_MQ below (va_Qv Qr (BX D dA (AX dA h0 sz)) (AX dA h0 sz)) (XP D dA (AX dA h0 sz) Xr) args s 0 0 (AX dA h0 sz)) (F0 m 16 ls []) := by
  intro a0 h H locs ls hw hM hl
  have hx := C.1
  have hb := C.2.1
  have hown := C.2.2.2.2.2.1
  have hts := C.2.2.2.2.2.2.1
  unfold wp_X3_require_16 at hw
  exact vx_ret (rX_vret C hM ⟨Nat.le_refl _, Nat.le_refl _⟩ hw dX3_require_16)
set_option maxHeartbeats 4000000 in
/-- LeastSolutions$Reader.require(Z)V -/
theorem mt_X3_require (l : Launch) (hst : l.stackTraces = false) (D : va_G) (dA : Nat → ClassId) (ev : Nat → Nat) (sz : Nat) (h : Hp) (a0 : Nat) (p1 : Int32) (Qr : Hp → Prop) (Xr : String → Hp → Prop) (hw : wp_X3_require ev h a0 p1 Qr Xr) : vx_Met l yX3_require (ws_ yX3_require cX3_require 2 none) rm_X3_require (PcZ D dA ev h sz [.ref a0, .int p1]) (va_Qv Qr (BX D dA (AX dA h sz)) (AX dA h sz)) (XP D dA (AX dA h sz) Xr) 0 0 (AX dA h sz) := by
  refine vx_ofW (cc := cX3_require) (maxL := 2) (ret := none) (by decide) rfl ?_
  intro p e s m args below meth c s₁ B hml htab hv
  obtain ⟨rfl, ⟨hsz, hP, hK, hD0, hE⟩, hZ⟩ := hv
  subst hsz
  have hts0 := atoms_spec (ws := ws_ yX3_require cX3_require 2 none) B.pre
  have C : CxM p s m meth c _ (AX dA h s.heap.size) "LeastSolutions$Reader" cX3_require 2 none := ⟨B.exec, B.bytes, B.returns, B.notSynchronized, hml, findClass_of_methodNamed B.named, fun w h => hts0 w (List.mem_cons_of_mem _ h), fun q h => Or.inr h⟩
  have hM : wX D dA ev (AX dA h s.heap.size) s h s.heap [] := ⟨hK, hP, hD0.self, va_S.rf, hE⟩
  have hx := C.1
  have hb := C.2.1
  have hown := C.2.2.2.2.2.1
  have hts := C.2.2.2.2.2.2.1
  have hl := lv_entry ([.ref a0, .int p1]) (n := 2) (Nat.le_of_ble_eq_true rfl)
  rw [lg_entry_eq]
  generalize (lg_sl ([.ref a0, .int p1]) ++ List.replicate (2 - (lg_sl ([.ref a0, .int p1])).length) Slot.unset).toArray = ls at hl ⊢
  have hl : lv_has ls 2 [(0, .ref a0), (1, .int p1)] := hl
  unfold wp_X3_require at hw
  refine lv_iload_n hx hb dX3_require_0 rfl (lv_at hl 1 rfl) ?_
  refine lv_if_ne (tgt := 16) hx hb dX3_require_1 (by decide) (fun hc => ?_) (fun hc => ?_)
  · replace hw := hw.1 hc
    exact wk_X3_require_16 C hst hZ htab  a0 h _ _ ls hw hM (lv_sub hl [0] rfl)
  · replace hw := hw.2 hc
    refine lv_aload_n hx hb dX3_require_4 rfl (lv_at hl 0 rfl) ?_
    refine lv_iconst (v := 1) hx hb dX3_require_5 (by decide) ?_
    refine lv_aload_n hx hb dX3_require_6 rfl (lv_at hl 0 rfl) ?_
    have o1 := hw.1
    replace hw := hw.2
    obtain ⟨b2, ebb2, hw⟩ := hw
    refine rX_getRs C hM 2 0 rfl in_X3 (by decide) (by decide) rfl q225 o1 ebb2 dX3_require_7 ?_
    have o3 := hw.1
    replace hw := hw.2
    refine rX_getIN C hM 1 4 rfl in_X2 (by decide) (by decide) rfl q135 o3 dX3_require_10 ?_
    have o5 := hw.1
    replace hw := hw.2
    refine rZ_gov C hM (runZ_V C hM hZ hl.1 2 2 (As := [.int 1, .int (hI h b2 4)]) rfl (by decide) o5 (mt_X3_stop l hst D dA ev _ h a0 1 (hI h b2 4)  _ _ hw) (lw_V q587 q589 qs8 q79 q590) rfl rfl (by decide +kernel) ⟨Nat.le_of_ble_eq_true rfl, Nat.le_of_ble_eq_true rfl⟩ rfl (Nat.le_of_ble_eq_true rfl) rfl dX3_require_13 ⟨Nat.le_refl _, Nat.le_refl _⟩) (fun E ce q9 h6 H locs hw hM g1 g2 g3 => rZ_out C hM (fun x hx => (htab x hx).elim) ⟨Nat.le_refl _, Nat.le_refl _⟩ hw g1 g2 g3) (fun h4 H locs hw hM => ?_)
    exact wk_X3_require_16 C hst hZ htab  a0 h4 _ _ ls hw hM (lv_sub hl [0] rfl)
abbrev rm_X3_column : Room := { frames := 2, cells := 0, slots := 0, locals := 45 }
set_option maxHeartbeats 4000000 in
theorem wk_X3_column_100 {p : Program} {l : Launch} {e : Env} {s : State} {m : MethodId} {args : Array Value} {below : List Frame} {meth : Method} {c : Code} {D : va_G} {dA : Nat → ClassId} {ev : Nat → Nat} {h0 : Hp} {sz : Nat} (C : CxM p s m meth c args (AX dA h0 sz) "LeastSolutions$Reader" cX3_column 3 (some .int)) (hst : l.stackTraces = false) (hZ : ZX (AX dA h0 sz) s s.heap) (htab : ∀ x ∈ c.exceptionTable.toList, False) {Qr : Int32 → Hp → Prop} {Xr : String → Hp → Prop} : ∀ (a0 : Nat) (v2 : Int32) (h : Hp) (H : Heap) (locs : List Loc) (ls : Array Slot), wp_X3_column_100 ev Qr Xr a0 v2 h → wX D dA ev (AX dA h0 sz) s h H locs → lv_has ls 3 [(0, .ref a0), (2, .int v2)] → W p l e rm_X3_column s m args below meth c H locs 0 0 (vx_MQ below (va_Qi Qr (BX D dA (AX dA h0 sz)) (AX dA h0 sz)) (XP D dA (AX dA h0 sz) Xr) args s 0 0 (AX dA h0 sz)) (F0 m 100 ls []) := by
  intro a0 v2 h H locs ls hw hM hl
  have hx := C.1
  have hb := C.2.1
  have hown := C.2.2.2.2.2.1
  have hts := C.2.2.2.2.2.2.1
  unfold wp_X3_column_100 at hw
  refine lv_iload_n hx hb dX3_column_100 rfl (lv_at hl 1 rfl) ?_
  exact vx_ret (rX_iret C hM ⟨Nat.le_refl _, Nat.le_refl _⟩ hw dX3_column_101)
set_option maxHeartbeats 4000000 in
theorem wk_X3_column_66 {p : Program} {l : Launch} {e : Env} {s : State} {m : MethodId} {args : Array Value} {below : List Frame} {meth : Method} {c : Code} {D : va_G} {dA : Nat → ClassId} {ev : Nat → Nat} {h0 : Hp} {sz : Nat} (C : CxM p s m meth c args (AX dA h0 sz) "LeastSolutions$Reader" cX3_column 3 (some .int)) (hst : l.stackTraces = false) (hZ : ZX (AX dA h0 sz) s s.heap) (htab : ∀ x ∈ c.exceptionTable.toList, False) {Qr : Int32 → Hp → Prop} {Xr : String → Hp → Prop} : ∀ (a0 : Nat) (v1 : Int32) (v2 : Int32) (u0 : Nat) (u1 : Int32) (h : Hp) (H : Heap) (locs : List Loc) (ls : Array Slot), wp_X3_column_66 ev Qr Xr a0 v1 v2 u0 u1 h → wX D dA ev (AX dA h0 sz) s h H locs → lv_has ls 3 [(0, .ref a0), (1, .int v1), (2, .int v2)] → W p l e rm_X3_column s m args below meth c H locs 0 0 (vx_MQ below (va_Qi Qr (BX D dA (AX dA h0 sz)) (AX dA h0 sz)) (XP D dA (AX dA h0 sz) Xr) args s 0 0 (AX dA h0 sz)) (F0 m 66 ls [.int u1, .ref u0]) := by
  intro a0 v1 v2 u0 u1 h H locs ls hw hM hl
  have hx := C.1
  have hb := C.2.1
  have hown := C.2.2.2.2.2.1
  have hts := C.2.2.2.2.2.2.1
  unfold wp_X3_column_66 at hw
  refine lv_iconst (v := 2) hx hb dX3_column_66 (by decide) ?_
  refine lv_aload_n hx hb dX3_column_67 rfl (lv_at hl 0 rfl) ?_
  have o1 := hw.1
  replace hw := hw.2
  obtain ⟨b2, ebb2, hw⟩ := hw
  refine rX_getRs C hM 2 0 rfl in_X3 (by decide) (by decide) rfl q225 o1 ebb2 dX3_column_68 ?_
  have o3 := hw.1
  replace hw := hw.2
  refine rX_getIN C hM 1 4 rfl in_X2 (by decide) (by decide) rfl q135 o3 dX3_column_71 ?_
  have o5 := hw.1
  replace hw := hw.2
  refine rZ_gov C hM (runZ_V C hM hZ hl.1 2 3 (As := [.int u1, .int 2, .int (hI h b2 4)]) rfl (by decide) o5 (mt_X3_check l hst D dA ev _ h u0 u1 2 (hI h b2 4)  _ _ hw) (lw_V q583 q585 qs7 q79 q586) rfl rfl (by decide +kernel) ⟨Nat.le_of_ble_eq_true rfl, Nat.le_of_ble_eq_true rfl⟩ rfl (Nat.le_of_ble_eq_true rfl) rfl dX3_column_74 ⟨Nat.le_refl _, Nat.le_refl _⟩) (fun E ce q9 h6 H locs hw hM g1 g2 g3 => rZ_out C hM (fun x hx => (htab x hx).elim) ⟨Nat.le_refl _, Nat.le_refl _⟩ hw g1 g2 g3) (fun h4 H locs hw hM => ?_)
  refine lv_aload_n hx hb dX3_column_77 rfl (lv_at hl 0 rfl) ?_
  have o7 := hw.1
  replace hw := hw.2
  obtain ⟨b8, ebb8, hw⟩ := hw
  refine rX_getRs C hM 2 6 rfl in_X3 (by decide) (by decide) rfl q231 o7 ebb8 dX3_column_78 ?_
  have o9 := hw.1
  replace hw := hw.2
  obtain ⟨b10, ebb10, hw⟩ := hw
  refine rX_getRsN C hM 3 3 rfl in_X4 (by decide) (by decide) rfl q283 o9 ebb10 dX3_column_81 ?_
  refine lv_aload_n hx hb dX3_column_84 rfl (lv_at hl 0 rfl) ?_
  have o11 := hw.1
  replace hw := hw.2
  obtain ⟨b12, ebb12, hw⟩ := hw
  refine rX_getRs C hM 2 6 rfl in_X3 (by decide) (by decide) rfl q231 o11 ebb12 dX3_column_85 ?_
  refine lv_dup hx hb dX3_column_88 rfl ?_
  have o13 := hw.1
  replace hw := hw.2
  refine rX_getIN C hM 3 2 rfl in_X4 (by decide) (by decide) rfl q279 o13 dX3_column_89 ?_
  refine lv_topi (fun x14 ex14 => ?_)
  replace hw := hw x14 ex14
  refine lv_dup_x1 hx hb dX3_column_92 rfl rfl ?_
  refine lv_iconst (v := 1) hx hb dX3_column_93 (by decide) ?_
  refine lv_iadd hx hb dX3_column_94 ?_
  have o16 := hw.1
  replace hw := hw.2
  refine rX_putIN C hM 3 2 rfl in_X4 (by decide) (by decide) rfl rfl q279 o16 tyX4 tyX4_ok nmX4 rfl rfl rfl dX3_column_95 (fun h15 H locs eσ hM => ?_)
  replace hw := hw h15 eσ
  clear eσ
  refine lv_iload_n hx hb dX3_column_98 rfl (lv_at hl 1 rfl) ?_
  have o18 := hw.1
  replace hw := hw.2
  have o19 := hw.1
  replace hw := hw.2
  refine rX_iast C hM o18 o19 dX3_column_99 (fun h17 H locs eσ hM => ?_)
  replace hw := hw h17 eσ
  clear eσ
  exact wk_X3_column_100 C hst hZ htab  a0 v2 h17 _ _ ls hw hM (lv_sub hl [0, 2] rfl)
set_option maxHeartbeats 4000000 in
theorem wk_X3_column_32 {p : Program} {l : Launch} {e : Env} {s : State} {m : MethodId} {args : Array Value} {below : List Frame} {meth : Method} {c : Code} {D : va_G} {dA : Nat → ClassId} {ev : Nat → Nat} {h0 : Hp} {sz : Nat} (C : CxM p s m meth c args (AX dA h0 sz) "LeastSolutions$Reader" cX3_column 3 (some .int)) (hst : l.stackTraces = false) (hZ : ZX (AX dA h0 sz) s s.heap) (htab : ∀ x ∈ c.exceptionTable.toList, False) {Qr : Int32 → Hp → Prop} {Xr : String → Hp → Prop} : ∀ (a0 : Nat) (v1 : Int32) (v2 : Int32) (h : Hp) (H : Heap) (locs : List Loc) (ls : Array Slot), wp_X3_column_32 ev Qr Xr a0 v1 v2 h → wX D dA ev (AX dA h0 sz) s h H locs → lv_has ls 3 [(0, .ref a0), (1, .int v1), (2, .int v2)] → W p l e rm_X3_column s m args below meth c H locs 0 0 (vx_MQ below (va_Qi Qr (BX D dA (AX dA h0 sz)) (AX dA h0 sz)) (XP D dA (AX dA h0 sz) Xr) args s 0 0 (AX dA h0 sz)) (F0 m 32 ls []) := by
  intro a0 v1 v2 h H locs ls hw hM hl
  have hx := C.1
  have hb := C.2.1
  have hown := C.2.2.2.2.2.1
  have hts := C.2.2.2.2.2.2.1
  unfold wp_X3_column_32 at hw
  refine lv_iload_n hx hb dX3_column_32 rfl (lv_at hl 2 rfl) ?_
  refine lv_aload_n hx hb dX3_column_33 rfl (lv_at hl 0 rfl) ?_
  have o1 := hw.1
  replace hw := hw.2
  obtain ⟨b2, ebb2, hw⟩ := hw
  refine rX_getRs C hM 2 6 rfl in_X3 (by decide) (by decide) rfl q231 o1 ebb2 dX3_column_34 ?_
  have o3 := hw.1
  replace hw := hw.2
  refine rX_getIN C hM 3 2 rfl in_X4 (by decide) (by decide) rfl q279 o3 dX3_column_37 ?_
  refine lv_icmp_ne (tgt := 100) hx hb dX3_column_40 (by decide) (fun hc => ?_) (fun hc => ?_)
  · replace hw := hw.1 hc
    exact wk_X3_column_100 C hst hZ htab  a0 v2 h _ _ ls hw hM (lv_sub hl [0, 2] rfl)
  · replace hw := hw.2 hc
    refine lv_aload_n hx hb dX3_column_43 rfl (lv_at hl 0 rfl) ?_
    refine lv_aload_n hx hb dX3_column_44 rfl (lv_at hl 0 rfl) ?_
    have o4 := hw.1
    replace hw := hw.2
    obtain ⟨b5, ebb5, hw⟩ := hw
    refine rX_getRs C hM 2 6 rfl in_X3 (by decide) (by decide) rfl q231 o4 ebb5 dX3_column_45 ?_
    have o6 := hw.1
    replace hw := hw.2
    refine rX_getIN C hM 3 2 rfl in_X4 (by decide) (by decide) rfl q279 o6 dX3_column_48 ?_
    refine lv_aload_n hx hb dX3_column_51 rfl (lv_at hl 0 rfl) ?_
    have o7 := hw.1
    replace hw := hw.2
    refine rX_getI C hM 2 3 rfl in_X3 (by decide) (by decide) rfl q228 o7 dX3_column_52 ?_
    refine lv_iadd hx hb dX3_column_55 ?_
    refine lv_bipush (v := 6) hx hb dX3_column_56 (by decide) ?_
    refine lv_icmp_ge (tgt := 65) hx hb dX3_column_58 (by decide) (fun hc => ?_) (fun hc => ?_)
    · replace hw := hw.1 hc
      refine lv_iconst (v := 0) hx hb dX3_column_65 (by decide) ?_
      exact wk_X3_column_66 C hst hZ htab  a0 v1 v2 a0 0 h _ _ ls hw hM (lv_sub hl [0, 1, 2] rfl)
    · replace hw := hw.2 hc
      refine lv_iconst (v := 1) hx hb dX3_column_61 (by decide) ?_
      refine lv_goto (tgt := 66) hx hb dX3_column_62 (by decide) ?_
      exact wk_X3_column_66 C hst hZ htab  a0 v1 v2 a0 1 h _ _ ls hw hM (lv_sub hl [0, 1, 2] rfl)
set_option maxHeartbeats 4000000 in
theorem wk_X3_column_2 {p : Program} {l : Launch} {e : Env} {s : State} {m : MethodId} {args : Array Value} {below : List Frame} {meth : Method} {c : Code} {D : va_G} {dA : Nat → ClassId} {ev : Nat → Nat} {h0 : Hp} {sz : Nat} (C : CxM p s m meth c args (AX dA h0 sz) "LeastSolutions$Reader" cX3_column 3 (some .int)) (hst : l.stackTraces = false) (hZ : ZX (AX dA h0 sz) s s.heap) (htab : ∀ x ∈ c.exceptionTable.toList, False) {Qr : Int32 → Hp → Prop} {Xr : String → Hp → Prop} : ∀ (n : Nat) (a0 : Nat) (v1 : Int32) (v2 : Int32) (h : Hp) (H : Heap) (locs : List Loc) (ls : Array Slot), wp_X3_column_2 ev Qr Xr n a0 v1 v2 h → wX D dA ev (AX dA h0 sz) s h H locs → lv_has ls 3 [(0, .ref a0), (1, .int v1), (2, .int v2)] → W p l e rm_X3_column s m args below meth c H locs 0 0 (vx_MQ below (va_Qi Qr (BX D dA (AX dA h0 sz)) (AX dA h0 sz)) (XP D dA (AX dA h0 sz) Xr) args s 0 0 (AX dA h0 sz)) (F0 m 2 ls []) := by
  intro n
  induction n with
  | zero => intro a0 v1 v2 h H locs ls hw; exact hw.elim
  | succ n2 ih =>
    intro a0 v1 v2 h H locs ls hw hM hl
    have hx := C.1
    have hb := C.2.1
    have hown := C.2.2.2.2.2.1
    have hts := C.2.2.2.2.2.2.1
    unfold wp_X3_column_2 at hw
    refine lv_iload_n hx hb dX3_column_2 rfl (lv_at hl 2 rfl) ?_
    refine lv_aload_n hx hb dX3_column_3 rfl (lv_at hl 0 rfl) ?_
    have o1 := hw.1
    replace hw := hw.2
    obtain ⟨b2, ebb2, hw⟩ := hw
    refine rX_getRs C hM 2 6 rfl in_X3 (by decide) (by decide) rfl q231 o1 ebb2 dX3_column_4 ?_
    have o3 := hw.1
    replace hw := hw.2
    refine rX_getIN C hM 3 2 rfl in_X4 (by decide) (by decide) rfl q279 o3 dX3_column_7 ?_
    refine lv_icmp_ge (tgt := 32) hx hb dX3_column_10 (by decide) (fun hc => ?_) (fun hc => ?_)
    · replace hw := hw.1 hc
      exact wk_X3_column_32 C hst hZ htab  a0 v1 v2 h _ _ ls hw hM (lv_sub hl [0, 1, 2] rfl)
    · replace hw := hw.2 hc
      refine lv_aload_n hx hb dX3_column_13 rfl (lv_at hl 0 rfl) ?_
      have o4 := hw.1
      replace hw := hw.2
      obtain ⟨b5, ebb5, hw⟩ := hw
      refine rX_getRs C hM 2 6 rfl in_X3 (by decide) (by decide) rfl q231 o4 ebb5 dX3_column_14 ?_
      have o6 := hw.1
      replace hw := hw.2
      obtain ⟨b7, ebb7, hw⟩ := hw
      refine rX_getRsN C hM 3 3 rfl in_X4 (by decide) (by decide) rfl q283 o6 ebb7 dX3_column_17 ?_
      refine lv_iload_n hx hb dX3_column_20 rfl (lv_at hl 2 rfl) ?_
      have o8 := hw.1
      replace hw := hw.2
      have o9 := hw.1
      replace hw := hw.2
      refine rX_iald C hM o8 o9 dX3_column_21 ?_
      refine lv_iload_n hx hb dX3_column_22 rfl (lv_at hl 1 rfl) ?_
      refine lv_icmp_eq (tgt := 32) hx hb dX3_column_23 (by decide) (fun hc => ?_) (fun hc => ?_)
      · replace hw := hw.1 hc
        exact wk_X3_column_32 C hst hZ htab  a0 v1 v2 h _ _ ls hw hM (lv_sub hl [0, 1, 2] rfl)
      · replace hw := hw.2 hc
        obtain ⟨x10, ex10⟩ : ∃ y : Int32, y = v2 + 1 := ⟨_, rfl⟩
        replace hw := hw x10 ex10
        refine lv_iinc (v := x10) (lv' := [(2, .int x10), (0, .ref a0), (1, .int v1)]) hx hb dX3_column_26 hl (k := 2) rfl (by rw [ex10]; rfl) (by decide) rfl (fun ls hl => ?_)
        refine lv_goto (tgt := 2) hx hb dX3_column_29 (by decide) ?_
        exact ih a0 v1 x10 h _ _ ls hw hM (lv_sub hl [1, 2, 0] rfl)
set_option maxHeartbeats 4000000 in
/-- LeastSolutions$Reader.column(I)I -/
theorem mt_X3_column (l : Launch) (hst : l.stackTraces = false) (D : va_G) (dA : Nat → ClassId) (ev : Nat → Nat) (sz : Nat) (h : Hp) (a0 : Nat) (p1 : Int32) (Qr : Int32 → Hp → Prop) (Xr : String → Hp → Prop) (hw : wp_X3_column ev h a0 p1 Qr Xr) : vx_Met l yX3_column (ws_ yX3_column cX3_column 3 (some .int)) rm_X3_column (PcZ D dA ev h sz [.ref a0, .int p1]) (va_Qi Qr (BX D dA (AX dA h sz)) (AX dA h sz)) (XP D dA (AX dA h sz) Xr) 0 0 (AX dA h sz) := by
  refine vx_ofW (cc := cX3_column) (maxL := 3) (ret := (some .int)) (by decide) rfl ?_
  intro p e s m args below meth c s₁ B hml htab hv
  obtain ⟨rfl, ⟨hsz, hP, hK, hD0, hE⟩, hZ⟩ := hv
  subst hsz
  have hts0 := atoms_spec (ws := ws_ yX3_column cX3_column 3 (some .int)) B.pre
  have C : CxM p s m meth c _ (AX dA h s.heap.size) "LeastSolutions$Reader" cX3_column 3 (some .int) := ⟨B.exec, B.bytes, B.returns, B.notSynchronized, hml, findClass_of_methodNamed B.named, fun w h => hts0 w (List.mem_cons_of_mem _ h), fun q h => Or.inr h⟩
  have hM : wX D dA ev (AX dA h s.heap.size) s h s.heap [] := ⟨hK, hP, hD0.self, va_S.rf, hE⟩
  have hx := C.1
  have hb := C.2.1
  have hown := C.2.2.2.2.2.1
  have hts := C.2.2.2.2.2.2.1
  have hl := lv_entry ([.ref a0, .int p1]) (n := 3) (Nat.le_of_ble_eq_true rfl)
  rw [lg_entry_eq]
  generalize (lg_sl ([.ref a0, .int p1]) ++ List.replicate (3 - (lg_sl ([.ref a0, .int p1])).length) Slot.unset).toArray = ls at hl ⊢
  have hl : lv_has ls 3 [(0, .ref a0), (1, .int p1)] := hl
  unfold wp_X3_column at hw
  refine lv_iconst (v := 0) hx hb dX3_column_0 (by decide) ?_
  refine lv_istore_n (lv' := [(2, .int 0), (0, .ref a0), (1, .int p1)]) hx hb dX3_column_1 rfl hl (by decide) rfl (fun ls hl => ?_)
  obtain ⟨n2, hw⟩ := hw
  exact wk_X3_column_2 C hst hZ htab  n2 a0 p1 0 h _ _ ls hw hM (lv_sub hl [1, 2, 0] rfl)
abbrev rm_X3_term : Room := { frames := 5, cells := 0, slots := 0, locals := 104 }
set_option maxHeartbeats 4000000 in
theorem wk_X3_term_174 {p : Program} {l : Launch} {e : Env} {s : State} {m : MethodId} {args : Array Value} {below : List Frame} {meth : Method} {c : Code} {D : va_G} {dA : Nat → ClassId} {ev : Nat → Nat} {h0 : Hp} {sz : Nat} (C : CxM p s m meth c args (AX dA h0 sz) "LeastSolutions$Reader" cX3_term 5 none) (hst : l.stackTraces = false) (hZ : ZX (AX dA h0 sz) s s.heap) (htab : ∀ x ∈ c.exceptionTable.toList, False) {Qr : Hp → Prop} {Xr : String → Hp → Prop} : ∀ (a0 : Nat) (h : Hp) (H : Heap) (locs : List Loc) (ls : Array Slot), wp_X3_term_174 ev Qr Xr a0 h → wX D dA ev (AX dA h0 sz) s h H locs → lv_has ls 5 [(0, .ref a0)] → W p l e rm_X3_term s m args below meth c H locs 0 0 (vx_MQ below (va_Qv Qr (BX D dA (AX dA h0 sz)) (AX dA h0 sz)) (XP D dA (AX dA h0 sz) Xr) args s 0 0 (AX dA h0 sz)) (F0 m 174 ls []) := by
  intro a0 h H locs ls hw hM hl
  have hx := C.1
  have hb := C.2.1
  have hown := C.2.2.2.2.2.1
  have hts := C.2.2.2.2.2.2.1
  unfold wp_X3_term_174 at hw
  exact vx_ret (rX_vret C hM ⟨Nat.le_refl _, Nat.le_refl _⟩ hw dX3_term_174)
set_option maxHeartbeats 4000000 in
theorem wk_X3_term_152 {p : Program} {l : Launch} {e : Env} {s : State} {m : MethodId} {args : Array Value} {below : List Frame} {meth : Method} {c : Code} {D : va_G} {dA : Nat → ClassId} {ev : Nat → Nat} {h0 : Hp} {sz : Nat} (C : CxM p s m meth c args (AX dA h0 sz) "LeastSolutions$Reader" cX3_term 5 none) (hst : l.stackTraces = false) (hZ : ZX (AX dA h0 sz) s s.heap) (htab : ∀ x ∈ c.exceptionTable.toList, False) {Qr : Hp → Prop} {Xr : String → Hp → Prop} : ∀ (a0 : Nat) (h : Hp) (H : Heap) (locs : List Loc) (ls : Array Slot), wp_X3_term_152 ev Qr Xr a0 h → wX D dA ev (AX dA h0 sz) s h H locs → lv_has ls 5 [(0, .ref a0)] → W p l e rm_X3_term s m args below meth c H locs 0 0 (vx_MQ below (va_Qv Qr (BX D dA (AX dA h0 sz)) (AX dA h0 sz)) (XP D dA (AX dA h0 sz) Xr) args s 0 0 (AX dA h0 sz)) (F0 m 152 ls []) := by
  intro a0 h H locs ls hw hM hl
  have hx := C.1
  have hb := C.2.1
  have hown := C.2.2.2.2.2.1
  have hts := C.2.2.2.2.2.2.1
  unfold wp_X3_term_152 at hw
  refine lv_aload_n hx hb dX3_term_152 rfl (lv_at hl 0 rfl) ?_
  have o1 := hw.1
  replace hw := hw.2
  obtain ⟨b2, ebb2, hw⟩ := hw
  refine rX_getRs C hM 2 0 rfl in_X3 (by decide) (by decide) rfl q225 o1 ebb2 dX3_term_153 ?_
  have o4 := hw.1
  replace hw := hw.2
  refine rX_gov C hM (runX_V C hM hl.1 1 0 (As := []) rfl (by decide) o4 (mt_X2_advance l D dA ev _ h b2  _ hw) (lw_V q596 q540 q541 q76 q542) rfl rfl (by decide +kernel) ⟨Nat.le_of_ble_eq_true rfl, Nat.le_of_ble_eq_true rfl⟩ rfl (Nat.le_of_ble_eq_true rfl) rfl dX3_term_156 ⟨Nat.le_refl _, Nat.le_refl _⟩) (fun h3 H locs hw hM => ?_)
  refine lv_goto (tgt := 174) hx hb dX3_term_159 (by decide) ?_
  exact wk_X3_term_174 C hst hZ htab  a0 h3 _ _ ls hw hM (lv_sub hl [0] rfl)
set_option maxHeartbeats 4000000 in
theorem wk_X3_term_107 {p : Program} {l : Launch} {e : Env} {s : State} {m : MethodId} {args : Array Value} {below : List Frame} {meth : Method} {c : Code} {D : va_G} {dA : Nat → ClassId} {ev : Nat → Nat} {h0 : Hp} {sz : Nat} (C : CxM p s m meth c args (AX dA h0 sz) "LeastSolutions$Reader" cX3_term 5 none) (hst : l.stackTraces = false) (hZ : ZX (AX dA h0 sz) s s.heap) (htab : ∀ x ∈ c.exceptionTable.toList, False) {Qr : Hp → Prop} {Xr : String → Hp → Prop} : ∀ (a0 : Nat) (v1 : Int32) (v2 : Int32) (u0 : Nat) (u1 : Int32) (h : Hp) (H : Heap) (locs : List Loc) (ls : Array Slot), wp_X3_term_107 ev Qr Xr a0 v1 v2 u0 u1 h → wX D dA ev (AX dA h0 sz) s h H locs → lv_has ls 5 [(0, .ref a0), (1, .int v1), (2, .int v2)] → W p l e rm_X3_term s m args below meth c H locs 0 0 (vx_MQ below (va_Qv Qr (BX D dA (AX dA h0 sz)) (AX dA h0 sz)) (XP D dA (AX dA h0 sz) Xr) args s 0 0 (AX dA h0 sz)) (F0 m 107 ls [.int u1, .ref u0]) := by
  intro a0 v1 v2 u0 u1 h H locs ls hw hM hl
  have hx := C.1
  have hb := C.2.1
  have hown := C.2.2.2.2.2.1
  have hts := C.2.2.2.2.2.2.1
  unfold wp_X3_term_107 at hw
  have o2 := hw.1
  replace hw := hw.2
  refine rZ_gov C hM (runZ_V C hM hZ hl.1 2 1 (As := [.int u1]) rfl (by decide) o2 (mt_X3_require l hst D dA ev _ h u0 u1  _ _ hw) (lw_V q604 q606 qs11 q79 q607) rfl rfl (by decide +kernel) ⟨Nat.le_of_ble_eq_true rfl, Nat.le_of_ble_eq_true rfl⟩ rfl (Nat.le_of_ble_eq_true rfl) rfl dX3_term_107 ⟨Nat.le_refl _, Nat.le_refl _⟩) (fun E ce q9 h3 H locs hw hM g1 g2 g3 => rZ_out C hM (fun x hx => (htab x hx).elim) ⟨Nat.le_refl _, Nat.le_refl _⟩ hw g1 g2 g3) (fun h1 H locs hw hM => ?_)
  refine lv_aload_n hx hb dX3_term_110 rfl (lv_at hl 0 rfl) ?_
  have o4 := hw.1
  replace hw := hw.2
  obtain ⟨b5, ebb5, hw⟩ := hw
  refine rX_getRs C hM 2 0 rfl in_X3 (by decide) (by decide) rfl q225 o4 ebb5 dX3_term_111 ?_
  have o6 := hw.1
  replace hw := hw.2
  obtain ⟨b7, ebb7, hw⟩ := hw
  refine rX_getRsN C hM 1 3 rfl in_X2 (by decide) (by decide) rfl q134 o6 ebb7 dX3_term_114 ?_
  refine rX_word C hM 1 (by decide) q603 dX3_term_117 ?_
  refine rX_acmp_ne (tgt := 162) C dX3_term_120 (by decide) (fun hc => ?_) (fun hc => ?_)
  · replace hw := hw.1 hc
    refine lv_aload_n hx hb dX3_term_162 rfl (lv_at hl 0 rfl) ?_
    refine lv_dup hx hb dX3_term_163 rfl ?_
    have o8 := hw.1
    replace hw := hw.2
    refine rX_getI C hM 2 5 rfl in_X3 (by decide) (by decide) rfl q230 o8 dX3_term_164 ?_
    refine lv_iload_n hx hb dX3_term_167 rfl (lv_at hl 1 rfl) ?_
    refine lv_iload_n hx hb dX3_term_168 rfl (lv_at hl 2 rfl) ?_
    refine lv_imul hx hb dX3_term_169 ?_
    refine lv_iadd hx hb dX3_term_170 ?_
    have o10 := hw.1
    replace hw := hw.2
    refine rX_putI C hM 2 5 rfl in_X3 (by decide) (by decide) rfl rfl q230 o10 tyX3 tyX3_ok nmX3 rfl rfl rfl dX3_term_171 (fun h9 H locs eσ hM => ?_)
    replace hw := hw h9 eσ
    clear eσ
    exact wk_X3_term_174 C hst hZ htab  a0 h9 _ _ ls hw hM (lv_sub hl [0] rfl)
  · replace hw := hw.2 hc
    refine lv_aload_n hx hb dX3_term_123 rfl (lv_at hl 0 rfl) ?_
    have o11 := hw.1
    replace hw := hw.2
    refine rX_getI C hM 2 7 rfl in_X3 (by decide) (by decide) rfl q232 o11 dX3_term_124 ?_
    refine lv_if_eq (tgt := 152) hx hb dX3_term_127 (by decide) (fun hc => ?_) (fun hc => ?_)
    · replace hw := hw.1 hc
      exact wk_X3_term_152 C hst hZ htab  a0 h1 _ _ ls hw hM (lv_sub hl [0] rfl)
    · replace hw := hw.2 hc
      refine lv_aload_n hx hb dX3_term_130 rfl (lv_at hl 0 rfl) ?_
      have o12 := hw.1
      replace hw := hw.2
      obtain ⟨b13, ebb13, hw⟩ := hw
      refine rX_getRs C hM 2 4 rfl in_X3 (by decide) (by decide) rfl q229 o12 ebb13 dX3_term_131 ?_
      refine lv_aload_n hx hb dX3_term_134 rfl (lv_at hl 0 rfl) ?_
      refine lv_aload_n hx hb dX3_term_135 rfl (lv_at hl 0 rfl) ?_
      have o14 := hw.1
      replace hw := hw.2
      obtain ⟨b15, ebb15, hw⟩ := hw
      refine rX_getRs C hM 2 0 rfl in_X3 (by decide) (by decide) rfl q225 o14 ebb15 dX3_term_136 ?_
      have o16 := hw.1
      replace hw := hw.2
      refine rX_getIN C hM 1 5 rfl in_X2 (by decide) (by decide) rfl q138 o16 dX3_term_139 ?_
      have o19 := hw.1
      replace hw := hw.2
      refine rZ_goi C hM (runZ_V C hM hZ hl.1 2 1 (As := [.int (hI h1 b15 5)]) rfl (by decide) o19 (mt_X3_column l hst D dA ev _ h1 a0 (hI h1 b15 5)  _ _ hw) (lw_V q608 q610 qs12 q79 q611) rfl rfl (by decide +kernel) ⟨Nat.le_of_ble_eq_true rfl, Nat.le_of_ble_eq_true rfl⟩ rfl (Nat.le_of_ble_eq_true rfl) rfl dX3_term_142 ⟨Nat.le_refl _, Nat.le_refl _⟩) (fun E ce q9 h20 H locs hw hM g1 g2 g3 => rZ_out C hM (fun x hx => (htab x hx).elim) ⟨Nat.le_refl _, Nat.le_refl _⟩ hw g1 g2 g3) (fun x18 h17 H locs hw hM => ?_)
      refine lv_dup2_11 hx hb dX3_term_145 rfl rfl ?_
      have o21 := hw.1
      replace hw := hw.2
      have o22 := hw.1
      replace hw := hw.2
      refine rX_iald C hM o21 o22 dX3_term_146 ?_
      refine lv_iload_n hx hb dX3_term_147 rfl (lv_at hl 1 rfl) ?_
      refine lv_iload_n hx hb dX3_term_148 rfl (lv_at hl 2 rfl) ?_
      refine lv_imul hx hb dX3_term_149 ?_
      refine lv_iadd hx hb dX3_term_150 ?_
      have o24 := hw.1
      replace hw := hw.2
      have o25 := hw.1
      replace hw := hw.2
      refine rX_iast C hM o24 o25 dX3_term_151 (fun h23 H locs eσ hM => ?_)
      replace hw := hw h23 eσ
      clear eσ
      exact wk_X3_term_152 C hst hZ htab  a0 h23 _ _ ls hw hM (lv_sub hl [0] rfl)
set_option maxHeartbeats 4000000 in
theorem wk_X3_term_102 {p : Program} {l : Launch} {e : Env} {s : State} {m : MethodId} {args : Array Value} {below : List Frame} {meth : Method} {c : Code} {D : va_G} {dA : Nat → ClassId} {ev : Nat → Nat} {h0 : Hp} {sz : Nat} (C : CxM p s m meth c args (AX dA h0 sz) "LeastSolutions$Reader" cX3_term 5 none) (hst : l.stackTraces = false) (hZ : ZX (AX dA h0 sz) s s.heap) (htab : ∀ x ∈ c.exceptionTable.toList, False) {Qr : Hp → Prop} {Xr : String → Hp → Prop} : ∀ (a0 : Nat) (v1 : Int32) (v2 : Int32) (u0 : Nat) (h : Hp) (H : Heap) (locs : List Loc) (ls : Array Slot), wp_X3_term_102 ev Qr Xr a0 v1 v2 u0 h → wX D dA ev (AX dA h0 sz) s h H locs → lv_has ls 5 [(0, .ref a0), (1, .int v1), (2, .int v2)] → W p l e rm_X3_term s m args below meth c H locs 0 0 (vx_MQ below (va_Qv Qr (BX D dA (AX dA h0 sz)) (AX dA h0 sz)) (XP D dA (AX dA h0 sz) Xr) args s 0 0 (AX dA h0 sz)) (F0 m 102 ls [.ref u0]) := by
  intro a0 v1 v2 u0 h H locs ls hw hM hl
  have hx := C.1
  have hb := C.2.1
  have hown := C.2.2.2.2.2.1
  have hts := C.2.2.2.2.2.2.1
  unfold wp_X3_term_102 at hw
  refine lv_iconst (v := 1) hx hb dX3_term_102 (by decide) ?_
  refine lv_goto (tgt := 107) hx hb dX3_term_103 (by decide) ?_
  exact wk_X3_term_107 C hst hZ htab  a0 v1 v2 u0 1 h _ _ ls hw hM (lv_sub hl [0, 1, 2] rfl)
set_option maxHeartbeats 4000000 in
theorem wk_X3_term_83 {p : Program} {l : Launch} {e : Env} {s : State} {m : MethodId} {args : Array Value} {below : List Frame} {meth : Method} {c : Code} {D : va_G} {dA : Nat → ClassId} {ev : Nat → Nat} {h0 : Hp} {sz : Nat} (C : CxM p s m meth c args (AX dA h0 sz) "LeastSolutions$Reader" cX3_term 5 none) (hst : l.stackTraces = false) (hZ : ZX (AX dA h0 sz) s s.heap) (htab : ∀ x ∈ c.exceptionTable.toList, False) {Qr : Hp → Prop} {Xr : String → Hp → Prop} : ∀ (a0 : Nat) (v1 : Int32) (v2 : Int32) (v4 : Int32) (h : Hp) (H : Heap) (locs : List Loc) (ls : Array Slot), wp_X3_term_83 ev Qr Xr a0 v1 v2 v4 h → wX D dA ev (AX dA h0 sz) s h H locs → lv_has ls 5 [(0, .ref a0), (1, .int v1), (2, .int v2), (4, .int v4)] → W p l e rm_X3_term s m args below meth c H locs 0 0 (vx_MQ below (va_Qv Qr (BX D dA (AX dA h0 sz)) (AX dA h0 sz)) (XP D dA (AX dA h0 sz) Xr) args s 0 0 (AX dA h0 sz)) (F0 m 83 ls []) := by
  intro a0 v1 v2 v4 h H locs ls hw hM hl
  have hx := C.1
  have hb := C.2.1
  have hown := C.2.2.2.2.2.1
  have hts := C.2.2.2.2.2.2.1
  unfold wp_X3_term_83 at hw
  refine lv_aload_n hx hb dX3_term_83 rfl (lv_at hl 0 rfl) ?_
  refine lv_iload hx hb dX3_term_84 (lv_at hl 3 rfl) ?_
  refine lv_if_eq (tgt := 102) hx hb dX3_term_86 (by decide) (fun hc => ?_) (fun hc => ?_)
  · replace hw := hw.1 hc
    exact wk_X3_term_102 C hst hZ htab  a0 v1 v2 a0 h _ _ ls hw hM (lv_sub hl [0, 1, 2] rfl)
  · replace hw := hw.2 hc
    refine lv_aload_n hx hb dX3_term_89 rfl (lv_at hl 0 rfl) ?_
    have o1 := hw.1
    replace hw := hw.2
    obtain ⟨b2, ebb2, hw⟩ := hw
    refine rX_getRs C hM 2 0 rfl in_X3 (by decide) (by decide) rfl q225 o1 ebb2 dX3_term_90 ?_
    have o3 := hw.1
    replace hw := hw.2
    obtain ⟨b4, ebb4, hw⟩ := hw
    refine rX_getRsN C hM 1 3 rfl in_X2 (by decide) (by decide) rfl q134 o3 ebb4 dX3_term_93 ?_
    refine rX_word C hM 1 (by decide) q603 dX3_term_96 ?_
    refine rX_acmp_ne (tgt := 106) C dX3_term_99 (by decide) (fun hc => ?_) (fun hc => ?_)
    · replace hw := hw.1 hc
      refine lv_iconst (v := 0) hx hb dX3_term_106 (by decide) ?_
      exact wk_X3_term_107 C hst hZ htab  a0 v1 v2 a0 0 h _ _ ls hw hM (lv_sub hl [0, 1, 2] rfl)
    · replace hw := hw.2 hc
      exact wk_X3_term_102 C hst hZ htab  a0 v1 v2 a0 h _ _ ls hw hM (lv_sub hl [0, 1, 2] rfl)
set_option maxHeartbeats 4000000 in
theorem wk_X3_term_69 {p : Program} {l : Launch} {e : Env} {s : State} {m : MethodId} {args : Array Value} {below : List Frame} {meth : Method} {c : Code} {D : va_G} {dA : Nat → ClassId} {ev : Nat → Nat} {h0 : Hp} {sz : Nat} (C : CxM p s m meth c args (AX dA h0 sz) "LeastSolutions$Reader" cX3_term 5 none) (hst : l.stackTraces = false) (hZ : ZX (AX dA h0 sz) s s.heap) (htab : ∀ x ∈ c.exceptionTable.toList, False) {Qr : Hp → Prop} {Xr : String → Hp → Prop} : ∀ (a0 : Nat) (v1 : Int32) (v2 : Int32) (u0 : Int32) (h : Hp) (H : Heap) (locs : List Loc) (ls : Array Slot), wp_X3_term_69 ev Qr Xr a0 v1 v2 u0 h → wX D dA ev (AX dA h0 sz) s h H locs → lv_has ls 5 [(0, .ref a0), (1, .int v1), (2, .int v2)] → W p l e rm_X3_term s m args below meth c H locs 0 0 (vx_MQ below (va_Qv Qr (BX D dA (AX dA h0 sz)) (AX dA h0 sz)) (XP D dA (AX dA h0 sz) Xr) args s 0 0 (AX dA h0 sz)) (F0 m 69 ls [.int u0]) := by
  intro a0 v1 v2 u0 h H locs ls hw hM hl
  have hx := C.1
  have hb := C.2.1
  have hown := C.2.2.2.2.2.1
  have hts := C.2.2.2.2.2.2.1
  unfold wp_X3_term_69 at hw
  refine lv_istore (lv' := [(4, .int u0), (0, .ref a0), (1, .int v1), (2, .int v2)]) hx hb dX3_term_69 hl (by decide) rfl (fun ls hl => ?_)
  refine lv_iload hx hb dX3_term_71 (lv_at hl 0 rfl) ?_
  refine lv_if_eq (tgt := 83) hx hb dX3_term_73 (by decide) (fun hc => ?_) (fun hc => ?_)
  · replace hw := hw.1 hc
    exact wk_X3_term_83 C hst hZ htab  a0 v1 v2 u0 h _ _ ls hw hM (lv_sub hl [1, 2, 3, 0] rfl)
  · replace hw := hw.2 hc
    refine lv_aload_n hx hb dX3_term_76 rfl (lv_at hl 1 rfl) ?_
    have o1 := hw.1
    replace hw := hw.2
    obtain ⟨b2, ebb2, hw⟩ := hw
    refine rX_getRs C hM 2 0 rfl in_X3 (by decide) (by decide) rfl q225 o1 ebb2 dX3_term_77 ?_
    have o4 := hw.1
    replace hw := hw.2
    refine rX_gov C hM (runX_V C hM hl.1 1 0 (As := []) rfl (by decide) o4 (mt_X2_advance l D dA ev _ h b2  _ hw) (lw_V q596 q540 q541 q76 q542) rfl rfl (by decide +kernel) ⟨Nat.le_of_ble_eq_true rfl, Nat.le_of_ble_eq_true rfl⟩ rfl (Nat.le_of_ble_eq_true rfl) rfl dX3_term_80 ⟨Nat.le_refl _, Nat.le_refl _⟩) (fun h3 H locs hw hM => ?_)
    exact wk_X3_term_83 C hst hZ htab  a0 v1 v2 u0 h3 _ _ ls hw hM (lv_sub hl [1, 2, 3, 0] rfl)
set_option maxHeartbeats 4000000 in
theorem wk_X3_term_30 {p : Program} {l : Launch} {e : Env} {s : State} {m : MethodId} {args : Array Value} {below : List Frame} {meth : Method} {c : Code} {D : va_G} {dA : Nat → ClassId} {ev : Nat → Nat} {h0 : Hp} {sz : Nat} (C : CxM p s m meth c args (AX dA h0 sz) "LeastSolutions$Reader" cX3_term 5 none) (hst : l.stackTraces = false) (hZ : ZX (AX dA h0 sz) s s.heap) (htab : ∀ x ∈ c.exceptionTable.toList, False) {Qr : Hp → Prop} {Xr : String → Hp → Prop} : ∀ (a0 : Nat) (v1 : Int32) (v2 : Int32) (v3 : Int32) (u0 : Int32) (h : Hp) (H : Heap) (locs : List Loc) (ls : Array Slot), wp_X3_term_30 ev Qr Xr a0 v1 v2 v3 u0 h → wX D dA ev (AX dA h0 sz) s h H locs → lv_has ls 5 [(0, .ref a0), (1, .int v1), (2, .int v2), (3, .int v3)] → W p l e rm_X3_term s m args below meth c H locs 0 0 (vx_MQ below (va_Qv Qr (BX D dA (AX dA h0 sz)) (AX dA h0 sz)) (XP D dA (AX dA h0 sz) Xr) args s 0 0 (AX dA h0 sz)) (F0 m 30 ls [.int u0]) := by
  intro a0 v1 v2 v3 u0 h H locs ls hw hM hl
  have hx := C.1
  have hb := C.2.1
  have hown := C.2.2.2.2.2.1
  have hts := C.2.2.2.2.2.2.1
  unfold wp_X3_term_30 at hw
  refine lv_istore (lv' := [(4, .int u0), (0, .ref a0), (1, .int v1), (2, .int v2), (3, .int v3)]) hx hb dX3_term_30 hl (by decide) rfl (fun ls hl => ?_)
  refine lv_iload_n hx hb dX3_term_32 rfl (lv_at hl 4 rfl) ?_
  refine lv_if_eq (tgt := 83) hx hb dX3_term_33 (by decide) (fun hc => ?_) (fun hc => ?_)
  · replace hw := hw.1 hc
    exact wk_X3_term_83 C hst hZ htab  a0 v1 v2 u0 h _ _ ls hw hM (lv_sub hl [1, 2, 3, 0] rfl)
  · replace hw := hw.2 hc
    refine lv_aload_n hx hb dX3_term_36 rfl (lv_at hl 1 rfl) ?_
    have o1 := hw.1
    replace hw := hw.2
    obtain ⟨b2, ebb2, hw⟩ := hw
    refine rX_getRs C hM 2 0 rfl in_X3 (by decide) (by decide) rfl q225 o1 ebb2 dX3_term_37 ?_
    have o3 := hw.1
    replace hw := hw.2
    refine rX_getIN C hM 1 5 rfl in_X2 (by decide) (by decide) rfl q138 o3 dX3_term_40 ?_
    refine lv_topi (fun x4 ex4 => ?_)
    replace hw := hw x4 ex4
    refine lv_istore_n (lv' := [(2, .int x4), (4, .int u0), (0, .ref a0), (1, .int v1), (3, .int v3)]) hx hb dX3_term_43 rfl hl (by decide) rfl (fun ls hl => ?_)
    refine lv_aload_n hx hb dX3_term_44 rfl (lv_at hl 2 rfl) ?_
    have o5 := hw.1
    replace hw := hw.2
    obtain ⟨b6, ebb6, hw⟩ := hw
    refine rX_getRs C hM 2 0 rfl in_X3 (by decide) (by decide) rfl q225 o5 ebb6 dX3_term_45 ?_
    have o8 := hw.1
    replace hw := hw.2
    refine rX_gov C hM (runX_V C hM hl.1 1 0 (As := []) rfl (by decide) o8 (mt_X2_advance l D dA ev _ h b6  _ hw) (lw_V q596 q540 q541 q76 q542) rfl rfl (by decide +kernel) ⟨Nat.le_of_ble_eq_true rfl, Nat.le_of_ble_eq_true rfl⟩ rfl (Nat.le_of_ble_eq_true rfl) rfl dX3_term_48 ⟨Nat.le_refl _, Nat.le_refl _⟩) (fun h7 H locs hw hM => ?_)
    refine lv_aload_n hx hb dX3_term_51 rfl (lv_at hl 2 rfl) ?_
    have o10 := hw.1
    replace hw := hw.2
    obtain ⟨b11, ebb11, hw⟩ := hw
    refine rX_getRs C hM 2 0 rfl in_X3 (by decide) (by decide) rfl q225 o10 ebb11 dX3_term_52 ?_
    have o12 := hw.1
    replace hw := hw.2
    obtain ⟨b13, ebb13, hw⟩ := hw
    refine rX_getRsN C hM 1 3 rfl in_X2 (by decide) (by decide) rfl q134 o12 ebb13 dX3_term_55 ?_
    refine rX_word C hM 4 (by decide) q602 dX3_term_58 ?_
    refine rX_acmp_ne (tgt := 68) C dX3_term_61 (by decide) (fun hc => ?_) (fun hc => ?_)
    · replace hw := hw.1 hc
      refine lv_iconst (v := 0) hx hb dX3_term_68 (by decide) ?_
      exact wk_X3_term_69 C hst hZ htab  a0 v1 x4 0 h7 _ _ ls hw hM (lv_sub hl [2, 3, 0] rfl)
    · replace hw := hw.2 hc
      refine lv_iconst (v := 1) hx hb dX3_term_64 (by decide) ?_
      refine lv_goto (tgt := 69) hx hb dX3_term_65 (by decide) ?_
      exact wk_X3_term_69 C hst hZ htab  a0 v1 x4 1 h7 _ _ ls hw hM (lv_sub hl [2, 3, 0] rfl)
set_option maxHeartbeats 4000000 in
theorem wk_X3_term_20 {p : Program} {l : Launch} {e : Env} {s : State} {m : MethodId} {args : Array Value} {below : List Frame} {meth : Method} {c : Code} {D : va_G} {dA : Nat → ClassId} {ev : Nat → Nat} {h0 : Hp} {sz : Nat} (C : CxM p s m meth c args (AX dA h0 sz) "LeastSolutions$Reader" cX3_term 5 none) (hst : l.stackTraces = false) (hZ : ZX (AX dA h0 sz) s s.heap) (htab : ∀ x ∈ c.exceptionTable.toList, False) {Qr : Hp → Prop} {Xr : String → Hp → Prop} : ∀ (a0 : Nat) (v1 : Int32) (v2 : Int32) (u0 : Int32) (h : Hp) (H : Heap) (locs : List Loc) (ls : Array Slot), wp_X3_term_20 ev Qr Xr a0 v1 v2 u0 h → wX D dA ev (AX dA h0 sz) s h H locs → lv_has ls 5 [(0, .ref a0), (1, .int v1), (2, .int v2)] → W p l e rm_X3_term s m args below meth c H locs 0 0 (vx_MQ below (va_Qv Qr (BX D dA (AX dA h0 sz)) (AX dA h0 sz)) (XP D dA (AX dA h0 sz) Xr) args s 0 0 (AX dA h0 sz)) (F0 m 20 ls [.int u0]) := by
  intro a0 v1 v2 u0 h H locs ls hw hM hl
  have hx := C.1
  have hb := C.2.1
  have hown := C.2.2.2.2.2.1
  have hts := C.2.2.2.2.2.2.1
  unfold wp_X3_term_20 at hw
  refine lv_istore_n (lv' := [(3, .int u0), (0, .ref a0), (1, .int v1), (2, .int v2)]) hx hb dX3_term_20 rfl hl (by decide) rfl (fun ls hl => ?_)
  refine lv_iload_n hx hb dX3_term_21 rfl (lv_at hl 0 rfl) ?_
  refine lv_if_ne (tgt := 29) hx hb dX3_term_22 (by decide) (fun hc => ?_) (fun hc => ?_)
  · replace hw := hw.1 hc
    refine lv_iconst (v := 0) hx hb dX3_term_29 (by decide) ?_
    exact wk_X3_term_30 C hst hZ htab  a0 v1 v2 u0 0 h _ _ ls hw hM (lv_sub hl [1, 2, 3, 0] rfl)
  · replace hw := hw.2 hc
    refine lv_iconst (v := 1) hx hb dX3_term_25 (by decide) ?_
    refine lv_goto (tgt := 30) hx hb dX3_term_26 (by decide) ?_
    exact wk_X3_term_30 C hst hZ htab  a0 v1 v2 u0 1 h _ _ ls hw hM (lv_sub hl [1, 2, 3, 0] rfl)
set_option maxHeartbeats 4000000 in
/-- LeastSolutions$Reader.term(I)V -/
theorem mt_X3_term (l : Launch) (hst : l.stackTraces = false) (D : va_G) (dA : Nat → ClassId) (ev : Nat → Nat) (sz : Nat) (h : Hp) (a0 : Nat) (p1 : Int32) (Qr : Hp → Prop) (Xr : String → Hp → Prop) (hw : wp_X3_term ev h a0 p1 Qr Xr) : vx_Met l yX3_term (ws_ yX3_term cX3_term 5 none) rm_X3_term (PcZ D dA ev h sz [.ref a0, .int p1]) (va_Qv Qr (BX D dA (AX dA h sz)) (AX dA h sz)) (XP D dA (AX dA h sz) Xr) 0 0 (AX dA h sz) := by
  refine vx_ofW (cc := cX3_term) (maxL := 5) (ret := none) (by decide) rfl ?_
  intro p e s m args below meth c s₁ B hml htab hv
  obtain ⟨rfl, ⟨hsz, hP, hK, hD0, hE⟩, hZ⟩ := hv
  subst hsz
  have hts0 := atoms_spec (ws := ws_ yX3_term cX3_term 5 none) B.pre
  have C : CxM p s m meth c _ (AX dA h s.heap.size) "LeastSolutions$Reader" cX3_term 5 none := ⟨B.exec, B.bytes, B.returns, B.notSynchronized, hml, findClass_of_methodNamed B.named, fun w h => hts0 w (List.mem_cons_of_mem _ h), fun q h => Or.inr h⟩
  have hM : wX D dA ev (AX dA h s.heap.size) s h s.heap [] := ⟨hK, hP, hD0.self, va_S.rf, hE⟩
  have hx := C.1
  have hb := C.2.1
  have hown := C.2.2.2.2.2.1
  have hts := C.2.2.2.2.2.2.1
  have hl := lv_entry ([.ref a0, .int p1]) (n := 5) (Nat.le_of_ble_eq_true rfl)
  rw [lg_entry_eq]
  generalize (lg_sl ([.ref a0, .int p1]) ++ List.replicate (5 - (lg_sl ([.ref a0, .int p1])).length) Slot.unset).toArray = ls at hl ⊢
  have hl : lv_has ls 5 [(0, .ref a0), (1, .int p1)] := hl
  unfold wp_X3_term at hw
  refine lv_iconst (v := 1) hx hb dX3_term_0 (by decide) ?_
  refine lv_istore_n (lv' := [(2, .int 1), (0, .ref a0), (1, .int p1)]) hx hb dX3_term_1 rfl hl (by decide) rfl (fun ls hl => ?_)
  refine lv_aload_n hx hb dX3_term_2 rfl (lv_at hl 1 rfl) ?_
  have o1 := hw.1
  replace hw := hw.2
  obtain ⟨b2, ebb2, hw⟩ := hw
  refine rX_getRs C hM 2 0 rfl in_X3 (by decide) (by decide) rfl q225 o1 ebb2 dX3_term_3 ?_
  have o3 := hw.1
  replace hw := hw.2
  obtain ⟨b4, ebb4, hw⟩ := hw
  refine rX_getRsN C hM 1 3 rfl in_X2 (by decide) (by decide) rfl q134 o3 ebb4 dX3_term_6 ?_
  refine rX_word C hM 0 (by decide) q601 dX3_term_9 ?_
  refine rX_acmp_ne (tgt := 19) C dX3_term_12 (by decide) (fun hc => ?_) (fun hc => ?_)
  · replace hw := hw.1 hc
    refine lv_iconst (v := 0) hx hb dX3_term_19 (by decide) ?_
    exact wk_X3_term_20 C hst hZ htab  a0 p1 1 0 h _ _ ls hw hM (lv_sub hl [1, 2, 0] rfl)
  · replace hw := hw.2 hc
    refine lv_iconst (v := 1) hx hb dX3_term_15 (by decide) ?_
    refine lv_goto (tgt := 20) hx hb dX3_term_16 (by decide) ?_
    exact wk_X3_term_20 C hst hZ htab  a0 p1 1 1 h _ _ ls hw hM (lv_sub hl [1, 2, 0] rfl)
abbrev rm_X3_sum : Room := { frames := 6, cells := 0, slots := 0, locals := 128 }
set_option maxHeartbeats 4000000 in
theorem wk_X3_sum_89 {p : Program} {l : Launch} {e : Env} {s : State} {m : MethodId} {args : Array Value} {below : List Frame} {meth : Method} {c : Code} {D : va_G} {dA : Nat → ClassId} {ev : Nat → Nat} {h0 : Hp} {sz : Nat} (C : CxM p s m meth c args (AX dA h0 sz) "LeastSolutions$Reader" cX3_sum 4 none) (hst : l.stackTraces = false) (hZ : ZX (AX dA h0 sz) s s.heap) (htab : ∀ x ∈ c.exceptionTable.toList, False) {Qr : Hp → Prop} {Xr : String → Hp → Prop} {K44 : Nat → Int32 → Hp → Prop} (hK44 : ∀ (a0 : Nat) (v1 : Int32) (h : Hp) (H : Heap) (locs : List Loc) (ls : Array Slot), K44 a0 v1 h → wX D dA ev (AX dA h0 sz) s h H locs → lv_has ls 4 [(0, .ref a0), (1, .int v1)] → W p l e rm_X3_sum s m args below meth c H locs 0 0 (vx_MQ below (va_Qv Qr (BX D dA (AX dA h0 sz)) (AX dA h0 sz)) (XP D dA (AX dA h0 sz) Xr) args s 0 0 (AX dA h0 sz)) (F0 m 44 ls [])) : ∀ (a0 : Nat) (v1 : Int32) (u0 : Int32) (h : Hp) (H : Heap) (locs : List Loc) (ls : Array Slot), wp_X3_sum_89 ev Qr Xr K44 a0 v1 u0 h → wX D dA ev (AX dA h0 sz) s h H locs → lv_has ls 4 [(0, .ref a0), (1, .int v1)] → W p l e rm_X3_sum s m args below meth c H locs 0 0 (vx_MQ below (va_Qv Qr (BX D dA (AX dA h0 sz)) (AX dA h0 sz)) (XP D dA (AX dA h0 sz) Xr) args s 0 0 (AX dA h0 sz)) (F0 m 89 ls [.int u0]) := by
  intro a0 v1 u0 h H locs ls hw hM hl
  have hx := C.1
  have hb := C.2.1
  have hown := C.2.2.2.2.2.1
  have hts := C.2.2.2.2.2.2.1
  unfold wp_X3_sum_89 at hw
  refine lv_istore_n (lv' := [(3, .int u0), (0, .ref a0), (1, .int v1)]) hx hb dX3_sum_89 rfl hl (by decide) rfl (fun ls hl => ?_)
  refine lv_aload_n hx hb dX3_sum_90 rfl (lv_at hl 1 rfl) ?_
  have o1 := hw.1
  replace hw := hw.2
  obtain ⟨b2, ebb2, hw⟩ := hw
  refine rX_getRs C hM 2 0 rfl in_X3 (by decide) (by decide) rfl q225 o1 ebb2 dX3_sum_91 ?_
  have o4 := hw.1
  replace hw := hw.2
  refine rX_gov C hM (runX_V C hM hl.1 1 0 (As := []) rfl (by decide) o4 (mt_X2_advance l D dA ev _ h b2  _ hw) (lw_V q596 q540 q541 q76 q542) rfl rfl (by decide +kernel) ⟨Nat.le_of_ble_eq_true rfl, Nat.le_of_ble_eq_true rfl⟩ rfl (Nat.le_of_ble_eq_true rfl) rfl dX3_sum_94 ⟨Nat.le_refl _, Nat.le_refl _⟩) (fun h3 H locs hw hM => ?_)
  refine lv_aload_n hx hb dX3_sum_97 rfl (lv_at hl 1 rfl) ?_
  refine lv_iload_n hx hb dX3_sum_98 rfl (lv_at hl 0 rfl) ?_
  have o7 := hw.1
  replace hw := hw.2
  refine rZ_gov C hM (runZ_V C hM hZ hl.1 2 1 (As := [.int u0]) rfl (by decide) o7 (mt_X3_term l hst D dA ev _ h3 a0 u0  _ _ hw) (lw_V q597 q599 qs10 q79 q600) rfl rfl (by decide +kernel) ⟨Nat.le_of_ble_eq_true rfl, Nat.le_of_ble_eq_true rfl⟩ rfl (Nat.le_of_ble_eq_true rfl) rfl dX3_sum_99 ⟨Nat.le_refl _, Nat.le_refl _⟩) (fun E ce q9 h8 H locs hw hM g1 g2 g3 => rZ_out C hM (fun x hx => (htab x hx).elim) ⟨Nat.le_refl _, Nat.le_refl _⟩ hw g1 g2 g3) (fun h6 H locs hw hM => ?_)
  refine lv_goto (tgt := 44) hx hb dX3_sum_102 (by decide) ?_
  exact hK44 a0 v1 h6 _ _ ls hw hM (lv_sub hl [1, 2] rfl)
set_option maxHeartbeats 4000000 in
theorem wk_X3_sum_70 {p : Program} {l : Launch} {e : Env} {s : State} {m : MethodId} {args : Array Value} {below : List Frame} {meth : Method} {c : Code} {D : va_G} {dA : Nat → ClassId} {ev : Nat → Nat} {h0 : Hp} {sz : Nat} (C : CxM p s m meth c args (AX dA h0 sz) "LeastSolutions$Reader" cX3_sum 4 none) (hst : l.stackTraces = false) (hZ : ZX (AX dA h0 sz) s s.heap) (htab : ∀ x ∈ c.exceptionTable.toList, False) {Qr : Hp → Prop} {Xr : String → Hp → Prop} {K44 : Nat → Int32 → Hp → Prop} (hK44 : ∀ (a0 : Nat) (v1 : Int32) (h : Hp) (H : Heap) (locs : List Loc) (ls : Array Slot), K44 a0 v1 h → wX D dA ev (AX dA h0 sz) s h H locs → lv_has ls 4 [(0, .ref a0), (1, .int v1)] → W p l e rm_X3_sum s m args below meth c H locs 0 0 (vx_MQ below (va_Qv Qr (BX D dA (AX dA h0 sz)) (AX dA h0 sz)) (XP D dA (AX dA h0 sz) Xr) args s 0 0 (AX dA h0 sz)) (F0 m 44 ls [])) : ∀ (a0 : Nat) (v1 : Int32) (h : Hp) (H : Heap) (locs : List Loc) (ls : Array Slot), wp_X3_sum_70 ev Qr Xr K44 a0 v1 h → wX D dA ev (AX dA h0 sz) s h H locs → lv_has ls 4 [(0, .ref a0), (1, .int v1)] → W p l e rm_X3_sum s m args below meth c H locs 0 0 (vx_MQ below (va_Qv Qr (BX D dA (AX dA h0 sz)) (AX dA h0 sz)) (XP D dA (AX dA h0 sz) Xr) args s 0 0 (AX dA h0 sz)) (F0 m 70 ls []) := by
  intro a0 v1 h H locs ls hw hM hl
  have hx := C.1
  have hb := C.2.1
  have hown := C.2.2.2.2.2.1
  have hts := C.2.2.2.2.2.2.1
  unfold wp_X3_sum_70 at hw
  refine lv_aload_n hx hb dX3_sum_70 rfl (lv_at hl 0 rfl) ?_
  have o1 := hw.1
  replace hw := hw.2
  obtain ⟨b2, ebb2, hw⟩ := hw
  refine rX_getRs C hM 2 0 rfl in_X3 (by decide) (by decide) rfl q225 o1 ebb2 dX3_sum_71 ?_
  have o3 := hw.1
  replace hw := hw.2
  obtain ⟨b4, ebb4, hw⟩ := hw
  refine rX_getRsN C hM 1 3 rfl in_X2 (by decide) (by decide) rfl q134 o3 ebb4 dX3_sum_74 ?_
  refine rX_word C hM 2 (by decide) q612 dX3_sum_77 ?_
  refine rX_acmp_ne (tgt := 87) C dX3_sum_80 (by decide) (fun hc => ?_) (fun hc => ?_)
  · replace hw := hw.1 hc
    refine lv_iload_n hx hb dX3_sum_87 rfl (lv_at hl 1 rfl) ?_
    refine lv_ineg hx hb dX3_sum_88 ?_
    exact wk_X3_sum_89 C hst hZ htab hK44 a0 v1 ((-v1)) h _ _ ls hw hM (lv_sub hl [0, 1] rfl)
  · replace hw := hw.2 hc
    refine lv_iload_n hx hb dX3_sum_83 rfl (lv_at hl 1 rfl) ?_
    refine lv_goto (tgt := 89) hx hb dX3_sum_84 (by decide) ?_
    exact wk_X3_sum_89 C hst hZ htab hK44 a0 v1 v1 h _ _ ls hw hM (lv_sub hl [0, 1] rfl)
set_option maxHeartbeats 4000000 in
theorem wk_X3_sum_44 {p : Program} {l : Launch} {e : Env} {s : State} {m : MethodId} {args : Array Value} {below : List Frame} {meth : Method} {c : Code} {D : va_G} {dA : Nat → ClassId} {ev : Nat → Nat} {h0 : Hp} {sz : Nat} (C : CxM p s m meth c args (AX dA h0 sz) "LeastSolutions$Reader" cX3_sum 4 none) (hst : l.stackTraces = false) (hZ : ZX (AX dA h0 sz) s s.heap) (htab : ∀ x ∈ c.exceptionTable.toList, False) {Qr : Hp → Prop} {Xr : String → Hp → Prop} : ∀ (n : Nat) (a0 : Nat) (v1 : Int32) (h : Hp) (H : Heap) (locs : List Loc) (ls : Array Slot), wp_X3_sum_44 ev Qr Xr n a0 v1 h → wX D dA ev (AX dA h0 sz) s h H locs → lv_has ls 4 [(0, .ref a0), (1, .int v1)] → W p l e rm_X3_sum s m args below meth c H locs 0 0 (vx_MQ below (va_Qv Qr (BX D dA (AX dA h0 sz)) (AX dA h0 sz)) (XP D dA (AX dA h0 sz) Xr) args s 0 0 (AX dA h0 sz)) (F0 m 44 ls []) := by
  intro n
  induction n with
  | zero => intro a0 v1 h H locs ls hw; exact hw.elim
  | succ n44 ih =>
    intro a0 v1 h H locs ls hw hM hl
    have hx := C.1
    have hb := C.2.1
    have hown := C.2.2.2.2.2.1
    have hts := C.2.2.2.2.2.2.1
    unfold wp_X3_sum_44 at hw
    refine lv_aload_n hx hb dX3_sum_44 rfl (lv_at hl 0 rfl) ?_
    have o1 := hw.1
    replace hw := hw.2
    obtain ⟨b2, ebb2, hw⟩ := hw
    refine rX_getRs C hM 2 0 rfl in_X3 (by decide) (by decide) rfl q225 o1 ebb2 dX3_sum_45 ?_
    have o3 := hw.1
    replace hw := hw.2
    obtain ⟨b4, ebb4, hw⟩ := hw
    refine rX_getRsN C hM 1 3 rfl in_X2 (by decide) (by decide) rfl q134 o3 ebb4 dX3_sum_48 ?_
    refine rX_word C hM 2 (by decide) q612 dX3_sum_51 ?_
    refine rX_acmp_eq (tgt := 70) C dX3_sum_54 (by decide) (fun hc => ?_) (fun hc => ?_)
    · replace hw := hw.1 hc
      exact wk_X3_sum_70 C hst hZ htab ih a0 v1 h _ _ ls hw hM (lv_sub hl [0, 1] rfl)
    · replace hw := hw.2 hc
      refine lv_aload_n hx hb dX3_sum_57 rfl (lv_at hl 0 rfl) ?_
      have o5 := hw.1
      replace hw := hw.2
      obtain ⟨b6, ebb6, hw⟩ := hw
      refine rX_getRs C hM 2 0 rfl in_X3 (by decide) (by decide) rfl q225 o5 ebb6 dX3_sum_58 ?_
      have o7 := hw.1
      replace hw := hw.2
      obtain ⟨b8, ebb8, hw⟩ := hw
      refine rX_getRsN C hM 1 3 rfl in_X2 (by decide) (by decide) rfl q134 o7 ebb8 dX3_sum_61 ?_
      refine rX_word C hM 3 (by decide) q595 dX3_sum_64 ?_
      refine rX_acmp_ne (tgt := 105) C dX3_sum_67 (by decide) (fun hc => ?_) (fun hc => ?_)
      · replace hw := hw.1 hc
        exact vx_ret (rX_vret C hM ⟨Nat.le_refl _, Nat.le_refl _⟩ hw dX3_sum_105)
      · replace hw := hw.2 hc
        exact wk_X3_sum_70 C hst hZ htab ih a0 v1 h _ _ ls hw hM (lv_sub hl [0, 1] rfl)
set_option maxHeartbeats 4000000 in
theorem wk_X3_sum_41 {p : Program} {l : Launch} {e : Env} {s : State} {m : MethodId} {args : Array Value} {below : List Frame} {meth : Method} {c : Code} {D : va_G} {dA : Nat → ClassId} {ev : Nat → Nat} {h0 : Hp} {sz : Nat} (C : CxM p s m meth c args (AX dA h0 sz) "LeastSolutions$Reader" cX3_sum 4 none) (hst : l.stackTraces = false) (hZ : ZX (AX dA h0 sz) s s.heap) (htab : ∀ x ∈ c.exceptionTable.toList, False) {Qr : Hp → Prop} {Xr : String → Hp → Prop} : ∀ (a0 : Nat) (v1 : Int32) (u0 : Nat) (u1 : Int32) (h : Hp) (H : Heap) (locs : List Loc) (ls : Array Slot), wp_X3_sum_41 ev Qr Xr a0 v1 u0 u1 h → wX D dA ev (AX dA h0 sz) s h H locs → lv_has ls 4 [(0, .ref a0), (1, .int v1)] → W p l e rm_X3_sum s m args below meth c H locs 0 0 (vx_MQ below (va_Qv Qr (BX D dA (AX dA h0 sz)) (AX dA h0 sz)) (XP D dA (AX dA h0 sz) Xr) args s 0 0 (AX dA h0 sz)) (F0 m 41 ls [.int u1, .ref u0]) := by
  intro a0 v1 u0 u1 h H locs ls hw hM hl
  have hx := C.1
  have hb := C.2.1
  have hown := C.2.2.2.2.2.1
  have hts := C.2.2.2.2.2.2.1
  unfold wp_X3_sum_41 at hw
  have o2 := hw.1
  replace hw := hw.2
  refine rZ_gov C hM (runZ_V C hM hZ hl.1 2 1 (As := [.int u1]) rfl (by decide) o2 (mt_X3_term l hst D dA ev _ h u0 u1  _ _ hw) (lw_V q597 q599 qs10 q79 q600) rfl rfl (by decide +kernel) ⟨Nat.le_of_ble_eq_true rfl, Nat.le_of_ble_eq_true rfl⟩ rfl (Nat.le_of_ble_eq_true rfl) rfl dX3_sum_41 ⟨Nat.le_refl _, Nat.le_refl _⟩) (fun E ce q9 h3 H locs hw hM g1 g2 g3 => rZ_out C hM (fun x hx => (htab x hx).elim) ⟨Nat.le_refl _, Nat.le_refl _⟩ hw g1 g2 g3) (fun h1 H locs hw hM => ?_)
  obtain ⟨n44, hw⟩ := hw
  exact wk_X3_sum_44 C hst hZ htab  n44 a0 v1 h1 _ _ ls hw hM (lv_sub hl [0, 1] rfl)
set_option maxHeartbeats 4000000 in
theorem wk_X3_sum_30 {p : Program} {l : Launch} {e : Env} {s : State} {m : MethodId} {args : Array Value} {below : List Frame} {meth : Method} {c : Code} {D : va_G} {dA : Nat → ClassId} {ev : Nat → Nat} {h0 : Hp} {sz : Nat} (C : CxM p s m meth c args (AX dA h0 sz) "LeastSolutions$Reader" cX3_sum 4 none) (hst : l.stackTraces = false) (hZ : ZX (AX dA h0 sz) s s.heap) (htab : ∀ x ∈ c.exceptionTable.toList, False) {Qr : Hp → Prop} {Xr : String → Hp → Prop} : ∀ (a0 : Nat) (v1 : Int32) (v2 : Int32) (h : Hp) (H : Heap) (locs : List Loc) (ls : Array Slot), wp_X3_sum_30 ev Qr Xr a0 v1 v2 h → wX D dA ev (AX dA h0 sz) s h H locs → lv_has ls 4 [(0, .ref a0), (1, .int v1), (2, .int v2)] → W p l e rm_X3_sum s m args below meth c H locs 0 0 (vx_MQ below (va_Qv Qr (BX D dA (AX dA h0 sz)) (AX dA h0 sz)) (XP D dA (AX dA h0 sz) Xr) args s 0 0 (AX dA h0 sz)) (F0 m 30 ls []) := by
  intro a0 v1 v2 h H locs ls hw hM hl
  have hx := C.1
  have hb := C.2.1
  have hown := C.2.2.2.2.2.1
  have hts := C.2.2.2.2.2.2.1
  unfold wp_X3_sum_30 at hw
  refine lv_aload_n hx hb dX3_sum_30 rfl (lv_at hl 0 rfl) ?_
  refine lv_iload_n hx hb dX3_sum_31 rfl (lv_at hl 2 rfl) ?_
  refine lv_if_eq (tgt := 40) hx hb dX3_sum_32 (by decide) (fun hc => ?_) (fun hc => ?_)
  · replace hw := hw.1 hc
    refine lv_iload_n hx hb dX3_sum_40 rfl (lv_at hl 1 rfl) ?_
    exact wk_X3_sum_41 C hst hZ htab  a0 v1 a0 v1 h _ _ ls hw hM (lv_sub hl [0, 1] rfl)
  · replace hw := hw.2 hc
    refine lv_iload_n hx hb dX3_sum_35 rfl (lv_at hl 1 rfl) ?_
    refine lv_ineg hx hb dX3_sum_36 ?_
    refine lv_goto (tgt := 41) hx hb dX3_sum_37 (by decide) ?_
    exact wk_X3_sum_41 C hst hZ htab  a0 v1 a0 ((-v1)) h _ _ ls hw hM (lv_sub hl [0, 1] rfl)
set_option maxHeartbeats 4000000 in
theorem wk_X3_sum_18 {p : Program} {l : Launch} {e : Env} {s : State} {m : MethodId} {args : Array Value} {below : List Frame} {meth : Method} {c : Code} {D : va_G} {dA : Nat → ClassId} {ev : Nat → Nat} {h0 : Hp} {sz : Nat} (C : CxM p s m meth c args (AX dA h0 sz) "LeastSolutions$Reader" cX3_sum 4 none) (hst : l.stackTraces = false) (hZ : ZX (AX dA h0 sz) s s.heap) (htab : ∀ x ∈ c.exceptionTable.toList, False) {Qr : Hp → Prop} {Xr : String → Hp → Prop} : ∀ (a0 : Nat) (v1 : Int32) (u0 : Int32) (h : Hp) (H : Heap) (locs : List Loc) (ls : Array Slot), wp_X3_sum_18 ev Qr Xr a0 v1 u0 h → wX D dA ev (AX dA h0 sz) s h H locs → lv_has ls 4 [(0, .ref a0), (1, .int v1)] → W p l e rm_X3_sum s m args below meth c H locs 0 0 (vx_MQ below (va_Qv Qr (BX D dA (AX dA h0 sz)) (AX dA h0 sz)) (XP D dA (AX dA h0 sz) Xr) args s 0 0 (AX dA h0 sz)) (F0 m 18 ls [.int u0]) := by
  intro a0 v1 u0 h H locs ls hw hM hl
  have hx := C.1
  have hb := C.2.1
  have hown := C.2.2.2.2.2.1
  have hts := C.2.2.2.2.2.2.1
  unfold wp_X3_sum_18 at hw
  refine lv_istore_n (lv' := [(2, .int u0), (0, .ref a0), (1, .int v1)]) hx hb dX3_sum_18 rfl hl (by decide) rfl (fun ls hl => ?_)
  refine lv_iload_n hx hb dX3_sum_19 rfl (lv_at hl 0 rfl) ?_
  refine lv_if_eq (tgt := 30) hx hb dX3_sum_20 (by decide) (fun hc => ?_) (fun hc => ?_)
  · replace hw := hw.1 hc
    exact wk_X3_sum_30 C hst hZ htab  a0 v1 u0 h _ _ ls hw hM (lv_sub hl [1, 2, 0] rfl)
  · replace hw := hw.2 hc
    refine lv_aload_n hx hb dX3_sum_23 rfl (lv_at hl 1 rfl) ?_
    have o1 := hw.1
    replace hw := hw.2
    obtain ⟨b2, ebb2, hw⟩ := hw
    refine rX_getRs C hM 2 0 rfl in_X3 (by decide) (by decide) rfl q225 o1 ebb2 dX3_sum_24 ?_
    have o4 := hw.1
    replace hw := hw.2
    refine rX_gov C hM (runX_V C hM hl.1 1 0 (As := []) rfl (by decide) o4 (mt_X2_advance l D dA ev _ h b2  _ hw) (lw_V q596 q540 q541 q76 q542) rfl rfl (by decide +kernel) ⟨Nat.le_of_ble_eq_true rfl, Nat.le_of_ble_eq_true rfl⟩ rfl (Nat.le_of_ble_eq_true rfl) rfl dX3_sum_27 ⟨Nat.le_refl _, Nat.le_refl _⟩) (fun h3 H locs hw hM => ?_)
    exact wk_X3_sum_30 C hst hZ htab  a0 v1 u0 h3 _ _ ls hw hM (lv_sub hl [1, 2, 0] rfl)
set_option maxHeartbeats 4000000 in
/-- LeastSolutions$Reader.sum(I)V -/
theorem mt_X3_sum (l : Launch) (hst : l.stackTraces = false) (D : va_G) (dA : Nat → ClassId) (ev : Nat → Nat) (sz : Nat) (h : Hp) (a0 : Nat) (p1 : Int32) (Qr : Hp → Prop) (Xr : String → Hp → Prop) (hw : wp_X3_sum ev h a0 p1 Qr Xr) : vx_Met l yX3_sum (ws_ yX3_sum cX3_sum 4 none) rm_X3_sum (PcZ D dA ev h sz [.ref a0, .int p1]) (va_Qv Qr (BX D dA (AX dA h sz)) (AX dA h sz)) (XP D dA (AX dA h sz) Xr) 0 0 (AX dA h sz) := by
  refine vx_ofW (cc := cX3_sum) (maxL := 4) (ret := none) (by decide) rfl ?_
  intro p e s m args below meth c s₁ B hml htab hv
  obtain ⟨rfl, ⟨hsz, hP, hK, hD0, hE⟩, hZ⟩ := hv
  subst hsz
  have hts0 := atoms_spec (ws := ws_ yX3_sum cX3_sum 4 none) B.pre
  have C : CxM p s m meth c _ (AX dA h s.heap.size) "LeastSolutions$Reader" cX3_sum 4 none := ⟨B.exec, B.bytes, B.returns, B.notSynchronized, hml, findClass_of_methodNamed B.named, fun w h => hts0 w (List.mem_cons_of_mem _ h), fun q h => Or.inr h⟩
  have hM : wX D dA ev (AX dA h s.heap.size) s h s.heap [] := ⟨hK, hP, hD0.self, va_S.rf, hE⟩
  have hx := C.1
  have hb := C.2.1
  have hown := C.2.2.2.2.2.1
  have hts := C.2.2.2.2.2.2.1
  have hl := lv_entry ([.ref a0, .int p1]) (n := 4) (Nat.le_of_ble_eq_true rfl)
  rw [lg_entry_eq]
  generalize (lg_sl ([.ref a0, .int p1]) ++ List.replicate (4 - (lg_sl ([.ref a0, .int p1])).length) Slot.unset).toArray = ls at hl ⊢
  have hl : lv_has ls 4 [(0, .ref a0), (1, .int p1)] := hl
  unfold wp_X3_sum at hw
  refine lv_aload_n hx hb dX3_sum_0 rfl (lv_at hl 0 rfl) ?_
  have o1 := hw.1
  replace hw := hw.2
  obtain ⟨b2, ebb2, hw⟩ := hw
  refine rX_getRs C hM 2 0 rfl in_X3 (by decide) (by decide) rfl q225 o1 ebb2 dX3_sum_1 ?_
  have o3 := hw.1
  replace hw := hw.2
  obtain ⟨b4, ebb4, hw⟩ := hw
  refine rX_getRsN C hM 1 3 rfl in_X2 (by decide) (by decide) rfl q134 o3 ebb4 dX3_sum_4 ?_
  refine rX_word C hM 3 (by decide) q595 dX3_sum_7 ?_
  refine rX_acmp_ne (tgt := 17) C dX3_sum_10 (by decide) (fun hc => ?_) (fun hc => ?_)
  · replace hw := hw.1 hc
    refine lv_iconst (v := 0) hx hb dX3_sum_17 (by decide) ?_
    exact wk_X3_sum_18 C hst hZ htab  a0 p1 0 h _ _ ls hw hM (lv_sub hl [0, 1] rfl)
  · replace hw := hw.2 hc
    refine lv_iconst (v := 1) hx hb dX3_sum_13 (by decide) ?_
    refine lv_goto (tgt := 18) hx hb dX3_sum_14 (by decide) ?_
    exact wk_X3_sum_18 C hst hZ htab  a0 p1 1 h _ _ ls hw hM (lv_sub hl [0, 1] rfl)
abbrev rm_X3_keep : Room := { frames := 2, cells := 0, slots := 0, locals := 45 }
set_option maxHeartbeats 4000000 in
theorem wk_X3_keep_127 {p : Program} {l : Launch} {e : Env} {s : State} {m : MethodId} {args : Array Value} {below : List Frame} {meth : Method} {c : Code} {D : va_G} {dA : Nat → ClassId} {ev : Nat → Nat} {h0 : Hp} {sz : Nat} (C : CxM p s m meth c args (AX dA h0 sz) "LeastSolutions$Reader" cX3_keep 6 none) (hst : l.stackTraces = false) (hZ : ZX (AX dA h0 sz) s s.heap) (htab : ∀ x ∈ c.exceptionTable.toList, False) {Qr : Hp → Prop} {Xr : String → Hp → Prop} {K93 : Nat → Int32 → Int32 → Int32 → Int32 → Hp → Prop} (hK93 : ∀ (a0 : Nat) (v2 : Int32) (v3 : Int32) (v4 : Int32) (v5 : Int32) (h : Hp) (H : Heap) (locs : List Loc) (ls : Array Slot), K93 a0 v2 v3 v4 v5 h → wX D dA ev (AX dA h0 sz) s h H locs → lv_has ls 6 [(0, .ref a0), (2, .int v2), (3, .int v3), (4, .int v4), (5, .int v5)] → W p l e rm_X3_keep s m args below meth c H locs 0 0 (vx_MQ below (va_Qv Qr (BX D dA (AX dA h0 sz)) (AX dA h0 sz)) (XP D dA (AX dA h0 sz) Xr) args s 0 0 (AX dA h0 sz)) (F0 m 93 ls [])) : ∀ (a0 : Nat) (v2 : Int32) (v3 : Int32) (v5 : Int32) (u0 : Int32) (u1 : Int32) (h : Hp) (H : Heap) (locs : List Loc) (ls : Array Slot), wp_X3_keep_127 ev Qr Xr K93 a0 v2 v3 v5 u0 u1 h → wX D dA ev (AX dA h0 sz) s h H locs → lv_has ls 6 [(0, .ref a0), (2, .int v2), (3, .int v3), (5, .int v5)] → W p l e rm_X3_keep s m args below meth c H locs 0 0 (vx_MQ below (va_Qv Qr (BX D dA (AX dA h0 sz)) (AX dA h0 sz)) (XP D dA (AX dA h0 sz) Xr) args s 0 0 (AX dA h0 sz)) (F0 m 127 ls [.int u1, .int u0]) := by
  intro a0 v2 v3 v5 u0 u1 h H locs ls hw hM hl
  have hx := C.1
  have hb := C.2.1
  have hown := C.2.2.2.2.2.1
  have hts := C.2.2.2.2.2.2.1
  unfold wp_X3_keep_127 at hw
  refine lv_iand hx hb dX3_keep_127 ?_
  refine lv_topi (fun x1 ex1 => ?_)
  replace hw := hw x1 ex1
  refine lv_istore (lv' := [(4, .int x1), (0, .ref a0), (2, .int v2), (3, .int v3), (5, .int v5)]) hx hb dX3_keep_128 hl (by decide) rfl (fun ls hl => ?_)
  refine lv_aload_n hx hb dX3_keep_130 rfl (lv_at hl 1 rfl) ?_
  have o2 := hw.1
  replace hw := hw.2
  obtain ⟨b3, ebb3, hw⟩ := hw
  refine rX_getRs C hM 2 6 rfl in_X3 (by decide) (by decide) rfl q231 o2 ebb3 dX3_keep_131 ?_
  have o4 := hw.1
  replace hw := hw.2
  obtain ⟨b5, ebb5, hw⟩ := hw
  refine rX_getRsN C hM 3 4 rfl in_X4 (by decide) (by decide) rfl q288 o4 ebb5 dX3_keep_134 ?_
  refine lv_aload_n hx hb dX3_keep_137 rfl (lv_at hl 1 rfl) ?_
  have o6 := hw.1
  replace hw := hw.2
  obtain ⟨b7, ebb7, hw⟩ := hw
  refine rX_getRs C hM 2 6 rfl in_X3 (by decide) (by decide) rfl q231 o6 ebb7 dX3_keep_138 ?_
  have o8 := hw.1
  replace hw := hw.2
  refine rX_getIN C hM 3 0 rfl in_X4 (by decide) (by decide) rfl q270 o8 dX3_keep_141 ?_
  have o9 := hw.1
  replace hw := hw.2
  have o10 := hw.1
  replace hw := hw.2
  obtain ⟨b11, ebb11, hw⟩ := hw
  refine rX_aalds C hM 4 (by decide) (by decide) o9 o10 ebb11 dX3_keep_144 ?_
  refine lv_iload hx hb dX3_keep_145 (lv_at hl 4 rfl) ?_
  refine lv_aload_n hx hb dX3_keep_147 rfl (lv_at hl 1 rfl) ?_
  have o12 := hw.1
  replace hw := hw.2
  obtain ⟨b13, ebb13, hw⟩ := hw
  refine rX_getRs C hM 2 4 rfl in_X3 (by decide) (by decide) rfl q229 o12 ebb13 dX3_keep_148 ?_
  refine lv_iload hx hb dX3_keep_151 (lv_at hl 4 rfl) ?_
  have o14 := hw.1
  replace hw := hw.2
  have o15 := hw.1
  replace hw := hw.2
  refine rX_iald C hM o14 o15 dX3_keep_153 ?_
  have o17 := hw.1
  replace hw := hw.2
  have o18 := hw.1
  replace hw := hw.2
  refine rX_iast C hM o17 o18 dX3_keep_154 (fun h16 H locs eσ hM => ?_)
  replace hw := hw h16 eσ
  clear eσ
  obtain ⟨x19, ex19⟩ : ∃ y : Int32, y = v5 + 1 := ⟨_, rfl⟩
  replace hw := hw x19 ex19
  refine lv_iinc (v := x19) (lv' := [(5, .int x19), (4, .int x1), (0, .ref a0), (2, .int v2), (3, .int v3)]) hx hb dX3_keep_155 hl (k := 4) rfl (by rw [ex19]; rfl) (by decide) rfl (fun ls hl => ?_)
  refine lv_goto (tgt := 93) hx hb dX3_keep_158 (by decide) ?_
  exact hK93 a0 v2 v3 x1 x19 h16 _ _ ls hw hM (lv_sub hl [2, 3, 4, 1, 0] rfl)
set_option maxHeartbeats 4000000 in
theorem wk_X3_keep_93 {p : Program} {l : Launch} {e : Env} {s : State} {m : MethodId} {args : Array Value} {below : List Frame} {meth : Method} {c : Code} {D : va_G} {dA : Nat → ClassId} {ev : Nat → Nat} {h0 : Hp} {sz : Nat} (C : CxM p s m meth c args (AX dA h0 sz) "LeastSolutions$Reader" cX3_keep 6 none) (hst : l.stackTraces = false) (hZ : ZX (AX dA h0 sz) s s.heap) (htab : ∀ x ∈ c.exceptionTable.toList, False) {Qr : Hp → Prop} {Xr : String → Hp → Prop} : ∀ (n : Nat) (a0 : Nat) (v2 : Int32) (v3 : Int32) (v4 : Int32) (v5 : Int32) (h : Hp) (H : Heap) (locs : List Loc) (ls : Array Slot), wp_X3_keep_93 ev Qr Xr n a0 v2 v3 v4 v5 h → wX D dA ev (AX dA h0 sz) s h H locs → lv_has ls 6 [(0, .ref a0), (2, .int v2), (3, .int v3), (4, .int v4), (5, .int v5)] → W p l e rm_X3_keep s m args below meth c H locs 0 0 (vx_MQ below (va_Qv Qr (BX D dA (AX dA h0 sz)) (AX dA h0 sz)) (XP D dA (AX dA h0 sz) Xr) args s 0 0 (AX dA h0 sz)) (F0 m 93 ls []) := by
  intro n
  induction n with
  | zero => intro a0 v2 v3 v4 v5 h H locs ls hw; exact hw.elim
  | succ n93 ih =>
    intro a0 v2 v3 v4 v5 h H locs ls hw hM hl
    have hx := C.1
    have hb := C.2.1
    have hown := C.2.2.2.2.2.1
    have hts := C.2.2.2.2.2.2.1
    unfold wp_X3_keep_93 at hw
    refine lv_iload hx hb dX3_keep_93 (lv_at hl 4 rfl) ?_
    refine lv_aload_n hx hb dX3_keep_95 rfl (lv_at hl 0 rfl) ?_
    have o1 := hw.1
    replace hw := hw.2
    obtain ⟨b2, ebb2, hw⟩ := hw
    refine rX_getRs C hM 2 6 rfl in_X3 (by decide) (by decide) rfl q231 o1 ebb2 dX3_keep_96 ?_
    have o3 := hw.1
    replace hw := hw.2
    refine rX_getIN C hM 3 2 rfl in_X4 (by decide) (by decide) rfl q279 o3 dX3_keep_99 ?_
    refine lv_icmp_ge (tgt := 161) hx hb dX3_keep_102 (by decide) (fun hc => ?_) (fun hc => ?_)
    · replace hw := hw.1 hc
      refine lv_aload_n hx hb dX3_keep_161 rfl (lv_at hl 0 rfl) ?_
      refine lv_iload hx hb dX3_keep_162 (lv_at hl 3 rfl) ?_
      refine lv_iconst (v := 3) hx hb dX3_keep_164 (by decide) ?_
      refine lv_iload_n hx hb dX3_keep_165 rfl (lv_at hl 1 rfl) ?_
      have o5 := hw.1
      replace hw := hw.2
      refine rZ_gov C hM (runZ_V C hM hZ hl.1 2 3 (As := [.int v4, .int 3, .int v2]) rfl (by decide) o5 (mt_X3_check l hst D dA ev _ h a0 v4 3 v2  _ _ hw) (lw_V q583 q585 qs7 q79 q586) rfl rfl (by decide +kernel) ⟨Nat.le_of_ble_eq_true rfl, Nat.le_of_ble_eq_true rfl⟩ rfl (Nat.le_of_ble_eq_true rfl) rfl dX3_keep_166 ⟨Nat.le_refl _, Nat.le_refl _⟩) (fun E ce q9 h6 H locs hw hM g1 g2 g3 => rZ_out C hM (fun x hx => (htab x hx).elim) ⟨Nat.le_refl _, Nat.le_refl _⟩ hw g1 g2 g3) (fun h4 H locs hw hM => ?_)
      refine lv_aload_n hx hb dX3_keep_169 rfl (lv_at hl 0 rfl) ?_
      have o7 := hw.1
      replace hw := hw.2
      obtain ⟨b8, ebb8, hw⟩ := hw
      refine rX_getRs C hM 2 6 rfl in_X3 (by decide) (by decide) rfl q231 o7 ebb8 dX3_keep_170 ?_
      have o9 := hw.1
      replace hw := hw.2
      obtain ⟨b10, ebb10, hw⟩ := hw
      refine rX_getRsN C hM 3 5 rfl in_X4 (by decide) (by decide) rfl q295 o9 ebb10 dX3_keep_173 ?_
      refine lv_aload_n hx hb dX3_keep_176 rfl (lv_at hl 0 rfl) ?_
      have o11 := hw.1
      replace hw := hw.2
      obtain ⟨b12, ebb12, hw⟩ := hw
      refine rX_getRs C hM 2 6 rfl in_X3 (by decide) (by decide) rfl q231 o11 ebb12 dX3_keep_177 ?_
      have o13 := hw.1
      replace hw := hw.2
      refine rX_getIN C hM 3 0 rfl in_X4 (by decide) (by decide) rfl q270 o13 dX3_keep_180 ?_
      refine lv_aload_n hx hb dX3_keep_183 rfl (lv_at hl 0 rfl) ?_
      have o14 := hw.1
      replace hw := hw.2
      refine rX_getI C hM 2 5 rfl in_X3 (by decide) (by decide) rfl q230 o14 dX3_keep_184 ?_
      refine lv_ineg hx hb dX3_keep_187 ?_
      have o16 := hw.1
      replace hw := hw.2
      have o17 := hw.1
      replace hw := hw.2
      refine rX_iast C hM o16 o17 dX3_keep_188 (fun h15 H locs eσ hM => ?_)
      replace hw := hw h15 eσ
      clear eσ
      refine lv_aload_n hx hb dX3_keep_189 rfl (lv_at hl 0 rfl) ?_
      have o18 := hw.1
      replace hw := hw.2
      obtain ⟨b19, ebb19, hw⟩ := hw
      refine rX_getRs C hM 2 2 rfl in_X3 (by decide) (by decide) rfl q227 o18 ebb19 dX3_keep_190 ?_
      refine lv_aload_n hx hb dX3_keep_193 rfl (lv_at hl 0 rfl) ?_
      have o20 := hw.1
      replace hw := hw.2
      obtain ⟨b21, ebb21, hw⟩ := hw
      refine rX_getRs C hM 2 6 rfl in_X3 (by decide) (by decide) rfl q231 o20 ebb21 dX3_keep_194 ?_
      refine lv_dup hx hb dX3_keep_197 rfl ?_
      have o22 := hw.1
      replace hw := hw.2
      refine rX_getIN C hM 3 0 rfl in_X4 (by decide) (by decide) rfl q270 o22 dX3_keep_198 ?_
      refine lv_topi (fun x23 ex23 => ?_)
      replace hw := hw x23 ex23
      refine lv_dup_x1 hx hb dX3_keep_201 rfl rfl ?_
      refine lv_iconst (v := 1) hx hb dX3_keep_202 (by decide) ?_
      refine lv_iadd hx hb dX3_keep_203 ?_
      have o25 := hw.1
      replace hw := hw.2
      refine rX_putIN C hM 3 0 rfl in_X4 (by decide) (by decide) rfl rfl q270 o25 tyX4 tyX4_ok nmX4 rfl rfl rfl dX3_keep_204 (fun h24 H locs eσ hM => ?_)
      replace hw := hw h24 eσ
      clear eσ
      refine lv_iload_n hx hb dX3_keep_207 rfl (lv_at hl 2 rfl) ?_
      have o27 := hw.1
      replace hw := hw.2
      have o28 := hw.1
      replace hw := hw.2
      refine rX_iast C hM o27 o28 dX3_keep_208 (fun h26 H locs eσ hM => ?_)
      replace hw := hw h26 eσ
      clear eσ
      exact vx_ret (rX_vret C hM ⟨Nat.le_refl _, Nat.le_refl _⟩ hw dX3_keep_209)
    · replace hw := hw.2 hc
      refine lv_iload hx hb dX3_keep_105 (lv_at hl 3 rfl) ?_
      refine lv_aload_n hx hb dX3_keep_107 rfl (lv_at hl 0 rfl) ?_
      have o29 := hw.1
      replace hw := hw.2
      obtain ⟨b30, ebb30, hw⟩ := hw
      refine rX_getRs C hM 2 4 rfl in_X3 (by decide) (by decide) rfl q229 o29 ebb30 dX3_keep_108 ?_
      refine lv_iload hx hb dX3_keep_111 (lv_at hl 4 rfl) ?_
      have o31 := hw.1
      replace hw := hw.2
      have o32 := hw.1
      replace hw := hw.2
      refine rX_iald C hM o31 o32 dX3_keep_113 ?_
      refine rX_goi C hM (runX_S C hM hl.1 1 (As := [.int (hA h b30 v5)]) (mt_J7_abs l D dA ev _ h (hA h b30 v5)  _ hw) (lw_S q620 q621 q94 q622) rfl rfl (by decide +kernel) ⟨Nat.le_of_ble_eq_true rfl, Nat.le_of_ble_eq_true rfl⟩ rfl (Nat.le_of_ble_eq_true rfl) rfl dX3_keep_114 ⟨Nat.le_refl _, Nat.le_refl _⟩) (fun x34 h33 H locs hw hM => ?_)
      refine lv_bipush (v := 20) hx hb dX3_keep_117 (by decide) ?_
      refine lv_icmp_gt (tgt := 126) hx hb dX3_keep_119 (by decide) (fun hc => ?_) (fun hc => ?_)
      · replace hw := hw.1 hc
        refine lv_iconst (v := 0) hx hb dX3_keep_126 (by decide) ?_
        exact wk_X3_keep_127 C hst hZ htab ih a0 v2 v3 v5 v4 0 h33 _ _ ls hw hM (lv_sub hl [0, 1, 2, 4] rfl)
      · replace hw := hw.2 hc
        refine lv_iconst (v := 1) hx hb dX3_keep_122 (by decide) ?_
        refine lv_goto (tgt := 127) hx hb dX3_keep_123 (by decide) ?_
        exact wk_X3_keep_127 C hst hZ htab ih a0 v2 v3 v5 v4 1 h33 _ _ ls hw hM (lv_sub hl [0, 1, 2, 4] rfl)
set_option maxHeartbeats 4000000 in
theorem wk_X3_keep_88 {p : Program} {l : Launch} {e : Env} {s : State} {m : MethodId} {args : Array Value} {below : List Frame} {meth : Method} {c : Code} {D : va_G} {dA : Nat → ClassId} {ev : Nat → Nat} {h0 : Hp} {sz : Nat} (C : CxM p s m meth c args (AX dA h0 sz) "LeastSolutions$Reader" cX3_keep 6 none) (hst : l.stackTraces = false) (hZ : ZX (AX dA h0 sz) s s.heap) (htab : ∀ x ∈ c.exceptionTable.toList, False) {Qr : Hp → Prop} {Xr : String → Hp → Prop} : ∀ (a0 : Nat) (v2 : Int32) (v3 : Int32) (u0 : Int32) (h : Hp) (H : Heap) (locs : List Loc) (ls : Array Slot), wp_X3_keep_88 ev Qr Xr a0 v2 v3 u0 h → wX D dA ev (AX dA h0 sz) s h H locs → lv_has ls 6 [(0, .ref a0), (2, .int v2), (3, .int v3)] → W p l e rm_X3_keep s m args below meth c H locs 0 0 (vx_MQ below (va_Qv Qr (BX D dA (AX dA h0 sz)) (AX dA h0 sz)) (XP D dA (AX dA h0 sz) Xr) args s 0 0 (AX dA h0 sz)) (F0 m 88 ls [.int u0]) := by
  intro a0 v2 v3 u0 h H locs ls hw hM hl
  have hx := C.1
  have hb := C.2.1
  have hown := C.2.2.2.2.2.1
  have hts := C.2.2.2.2.2.2.1
  unfold wp_X3_keep_88 at hw
  refine lv_istore (lv' := [(4, .int u0), (0, .ref a0), (2, .int v2), (3, .int v3)]) hx hb dX3_keep_88 hl (by decide) rfl (fun ls hl => ?_)
  refine lv_iconst (v := 0) hx hb dX3_keep_90 (by decide) ?_
  refine lv_istore (lv' := [(5, .int 0), (4, .int u0), (0, .ref a0), (2, .int v2), (3, .int v3)]) hx hb dX3_keep_91 hl (by decide) rfl (fun ls hl => ?_)
  obtain ⟨n93, hw⟩ := hw
  exact wk_X3_keep_93 C hst hZ htab  n93 a0 v2 v3 u0 0 h _ _ ls hw hM (lv_sub hl [2, 3, 4, 1, 0] rfl)
set_option maxHeartbeats 4000000 in
theorem wk_X3_keep_65 {p : Program} {l : Launch} {e : Env} {s : State} {m : MethodId} {args : Array Value} {below : List Frame} {meth : Method} {c : Code} {D : va_G} {dA : Nat → ClassId} {ev : Nat → Nat} {h0 : Hp} {sz : Nat} (C : CxM p s m meth c args (AX dA h0 sz) "LeastSolutions$Reader" cX3_keep 6 none) (hst : l.stackTraces = false) (hZ : ZX (AX dA h0 sz) s s.heap) (htab : ∀ x ∈ c.exceptionTable.toList, False) {Qr : Hp → Prop} {Xr : String → Hp → Prop} : ∀ (a0 : Nat) (v2 : Int32) (v3 : Int32) (u0 : Nat) (u1 : Int32) (h : Hp) (H : Heap) (locs : List Loc) (ls : Array Slot), wp_X3_keep_65 ev Qr Xr a0 v2 v3 u0 u1 h → wX D dA ev (AX dA h0 sz) s h H locs → lv_has ls 6 [(0, .ref a0), (2, .int v2), (3, .int v3)] → W p l e rm_X3_keep s m args below meth c H locs 0 0 (vx_MQ below (va_Qv Qr (BX D dA (AX dA h0 sz)) (AX dA h0 sz)) (XP D dA (AX dA h0 sz) Xr) args s 0 0 (AX dA h0 sz)) (F0 m 65 ls [.int u1, .ref u0]) := by
  intro a0 v2 v3 u0 u1 h H locs ls hw hM hl
  have hx := C.1
  have hb := C.2.1
  have hown := C.2.2.2.2.2.1
  have hts := C.2.2.2.2.2.2.1
  unfold wp_X3_keep_65 at hw
  refine lv_iconst (v := 2) hx hb dX3_keep_65 (by decide) ?_
  refine lv_iload_n hx hb dX3_keep_66 rfl (lv_at hl 1 rfl) ?_
  have o2 := hw.1
  replace hw := hw.2
  refine rZ_gov C hM (runZ_V C hM hZ hl.1 2 3 (As := [.int u1, .int 2, .int v2]) rfl (by decide) o2 (mt_X3_check l hst D dA ev _ h u0 u1 2 v2  _ _ hw) (lw_V q583 q585 qs7 q79 q586) rfl rfl (by decide +kernel) ⟨Nat.le_of_ble_eq_true rfl, Nat.le_of_ble_eq_true rfl⟩ rfl (Nat.le_of_ble_eq_true rfl) rfl dX3_keep_67 ⟨Nat.le_refl _, Nat.le_refl _⟩) (fun E ce q9 h3 H locs hw hM g1 g2 g3 => rZ_out C hM (fun x hx => (htab x hx).elim) ⟨Nat.le_refl _, Nat.le_refl _⟩ hw g1 g2 g3) (fun h1 H locs hw hM => ?_)
  refine lv_aload_n hx hb dX3_keep_70 rfl (lv_at hl 0 rfl) ?_
  have o4 := hw.1
  replace hw := hw.2
  refine rX_getI C hM 2 5 rfl in_X3 (by decide) (by decide) rfl q230 o4 dX3_keep_71 ?_
  refine rX_goi C hM (runX_S C hM hl.1 1 (As := [.int (hI h1 a0 5)]) (mt_J7_abs l D dA ev _ h1 (hI h1 a0 5)  _ hw) (lw_S q620 q621 q94 q622) rfl rfl (by decide +kernel) ⟨Nat.le_of_ble_eq_true rfl, Nat.le_of_ble_eq_true rfl⟩ rfl (Nat.le_of_ble_eq_true rfl) rfl dX3_keep_74 ⟨Nat.le_refl _, Nat.le_refl _⟩) (fun x6 h5 H locs hw hM => ?_)
  refine lv_sipush (v := 200) hx hb dX3_keep_77 (by decide) ?_
  refine lv_icmp_gt (tgt := 87) hx hb dX3_keep_80 (by decide) (fun hc => ?_) (fun hc => ?_)
  · replace hw := hw.1 hc
    refine lv_iconst (v := 0) hx hb dX3_keep_87 (by decide) ?_
    exact wk_X3_keep_88 C hst hZ htab  a0 v2 v3 0 h5 _ _ ls hw hM (lv_sub hl [0, 1, 2] rfl)
  · replace hw := hw.2 hc
    refine lv_iconst (v := 1) hx hb dX3_keep_83 (by decide) ?_
    refine lv_goto (tgt := 88) hx hb dX3_keep_84 (by decide) ?_
    exact wk_X3_keep_88 C hst hZ htab  a0 v2 v3 1 h5 _ _ ls hw hM (lv_sub hl [0, 1, 2] rfl)
set_option maxHeartbeats 4000000 in
theorem wk_X3_keep_38 {p : Program} {l : Launch} {e : Env} {s : State} {m : MethodId} {args : Array Value} {below : List Frame} {meth : Method} {c : Code} {D : va_G} {dA : Nat → ClassId} {ev : Nat → Nat} {h0 : Hp} {sz : Nat} (C : CxM p s m meth c args (AX dA h0 sz) "LeastSolutions$Reader" cX3_keep 6 none) (hst : l.stackTraces = false) (hZ : ZX (AX dA h0 sz) s s.heap) (htab : ∀ x ∈ c.exceptionTable.toList, False) {Qr : Hp → Prop} {Xr : String → Hp → Prop} : ∀ (a0 : Nat) (v2 : Int32) (v3 : Int32) (u0 : Nat) (u1 : Int32) (u2 : Int32) (h : Hp) (H : Heap) (locs : List Loc) (ls : Array Slot), wp_X3_keep_38 ev Qr Xr a0 v2 v3 u0 u1 u2 h → wX D dA ev (AX dA h0 sz) s h H locs → lv_has ls 6 [(0, .ref a0), (2, .int v2), (3, .int v3)] → W p l e rm_X3_keep s m args below meth c H locs 0 0 (vx_MQ below (va_Qv Qr (BX D dA (AX dA h0 sz)) (AX dA h0 sz)) (XP D dA (AX dA h0 sz) Xr) args s 0 0 (AX dA h0 sz)) (F0 m 38 ls [.int u2, .int u1, .ref u0]) := by
  intro a0 v2 v3 u0 u1 u2 h H locs ls hw hM hl
  have hx := C.1
  have hb := C.2.1
  have hown := C.2.2.2.2.2.1
  have hts := C.2.2.2.2.2.2.1
  unfold wp_X3_keep_38 at hw
  refine lv_iadd hx hb dX3_keep_38 ?_
  have o2 := hw.1
  replace hw := hw.2
  refine rX_putI C hM 2 3 rfl in_X3 (by decide) (by decide) rfl rfl q228 o2 tyX3 tyX3_ok nmX3 rfl rfl rfl dX3_keep_39 (fun h1 H locs eσ hM => ?_)
  replace hw := hw h1 eσ
  clear eσ
  refine lv_aload_n hx hb dX3_keep_42 rfl (lv_at hl 0 rfl) ?_
  refine lv_aload_n hx hb dX3_keep_43 rfl (lv_at hl 0 rfl) ?_
  have o3 := hw.1
  replace hw := hw.2
  obtain ⟨b4, ebb4, hw⟩ := hw
  refine rX_getRs C hM 2 6 rfl in_X3 (by decide) (by decide) rfl q231 o3 ebb4 dX3_keep_44 ?_
  have o5 := hw.1
  replace hw := hw.2
  refine rX_getIN C hM 3 2 rfl in_X4 (by decide) (by decide) rfl q279 o5 dX3_keep_47 ?_
  refine lv_aload_n hx hb dX3_keep_50 rfl (lv_at hl 0 rfl) ?_
  have o6 := hw.1
  replace hw := hw.2
  refine rX_getI C hM 2 3 rfl in_X3 (by decide) (by decide) rfl q228 o6 dX3_keep_51 ?_
  refine lv_iadd hx hb dX3_keep_54 ?_
  refine lv_bipush (v := 6) hx hb dX3_keep_55 (by decide) ?_
  refine lv_icmp_gt (tgt := 64) hx hb dX3_keep_57 (by decide) (fun hc => ?_) (fun hc => ?_)
  · replace hw := hw.1 hc
    refine lv_iconst (v := 0) hx hb dX3_keep_64 (by decide) ?_
    exact wk_X3_keep_65 C hst hZ htab  a0 v2 v3 a0 0 h1 _ _ ls hw hM (lv_sub hl [0, 1, 2] rfl)
  · replace hw := hw.2 hc
    refine lv_iconst (v := 1) hx hb dX3_keep_60 (by decide) ?_
    refine lv_goto (tgt := 65) hx hb dX3_keep_61 (by decide) ?_
    exact wk_X3_keep_65 C hst hZ htab  a0 v2 v3 a0 1 h1 _ _ ls hw hM (lv_sub hl [0, 1, 2] rfl)
set_option maxHeartbeats 4000000 in
theorem wk_X3_keep_23 {p : Program} {l : Launch} {e : Env} {s : State} {m : MethodId} {args : Array Value} {below : List Frame} {meth : Method} {c : Code} {D : va_G} {dA : Nat → ClassId} {ev : Nat → Nat} {h0 : Hp} {sz : Nat} (C : CxM p s m meth c args (AX dA h0 sz) "LeastSolutions$Reader" cX3_keep 6 none) (hst : l.stackTraces = false) (hZ : ZX (AX dA h0 sz) s s.heap) (htab : ∀ x ∈ c.exceptionTable.toList, False) {Qr : Hp → Prop} {Xr : String → Hp → Prop} : ∀ (a0 : Nat) (v2 : Int32) (u0 : Int32) (h : Hp) (H : Heap) (locs : List Loc) (ls : Array Slot), wp_X3_keep_23 ev Qr Xr a0 v2 u0 h → wX D dA ev (AX dA h0 sz) s h H locs → lv_has ls 6 [(0, .ref a0), (2, .int v2)] → W p l e rm_X3_keep s m args below meth c H locs 0 0 (vx_MQ below (va_Qv Qr (BX D dA (AX dA h0 sz)) (AX dA h0 sz)) (XP D dA (AX dA h0 sz) Xr) args s 0 0 (AX dA h0 sz)) (F0 m 23 ls [.int u0]) := by
  intro a0 v2 u0 h H locs ls hw hM hl
  have hx := C.1
  have hb := C.2.1
  have hown := C.2.2.2.2.2.1
  have hts := C.2.2.2.2.2.2.1
  unfold wp_X3_keep_23 at hw
  refine lv_istore_n (lv' := [(3, .int u0), (0, .ref a0), (2, .int v2)]) hx hb dX3_keep_23 rfl hl (by decide) rfl (fun ls hl => ?_)
  refine lv_aload_n hx hb dX3_keep_24 rfl (lv_at hl 1 rfl) ?_
  refine lv_dup hx hb dX3_keep_25 rfl ?_
  have o1 := hw.1
  replace hw := hw.2
  refine rX_getI C hM 2 3 rfl in_X3 (by decide) (by decide) rfl q228 o1 dX3_keep_26 ?_
  refine lv_iload_n hx hb dX3_keep_29 rfl (lv_at hl 0 rfl) ?_
  refine lv_if_ne (tgt := 37) hx hb dX3_keep_30 (by decide) (fun hc => ?_) (fun hc => ?_)
  · replace hw := hw.1 hc
    refine lv_iconst (v := 1) hx hb dX3_keep_37 (by decide) ?_
    exact wk_X3_keep_38 C hst hZ htab  a0 v2 u0 a0 ((hI h a0 3)) 1 h _ _ ls hw hM (lv_sub hl [1, 2, 0] rfl)
  · replace hw := hw.2 hc
    refine lv_iconst (v := 0) hx hb dX3_keep_33 (by decide) ?_
    refine lv_goto (tgt := 38) hx hb dX3_keep_34 (by decide) ?_
    exact wk_X3_keep_38 C hst hZ htab  a0 v2 u0 a0 ((hI h a0 3)) 0 h _ _ ls hw hM (lv_sub hl [1, 2, 0] rfl)
set_option maxHeartbeats 4000000 in
/-- LeastSolutions$Reader.keep(LLeastSolutions$Word;I)V -/
theorem mt_X3_keep (l : Launch) (hst : l.stackTraces = false) (D : va_G) (dA : Nat → ClassId) (ev : Nat → Nat) (sz : Nat) (h : Hp) (a0 : Nat) (p1 : Nat) (p2 : Int32) (Qr : Hp → Prop) (Xr : String → Hp → Prop) (hw : wp_X3_keep ev h a0 p1 p2 Qr Xr) : vx_Met l yX3_keep (ws_ yX3_keep cX3_keep 6 none) rm_X3_keep (PcZ D dA ev h sz [.ref a0, .ref p1, .int p2]) (va_Qv Qr (BX D dA (AX dA h sz)) (AX dA h sz)) (XP D dA (AX dA h sz) Xr) 0 0 (AX dA h sz) := by
  refine vx_ofW (cc := cX3_keep) (maxL := 6) (ret := none) (by decide) rfl ?_
  intro p e s m args below meth c s₁ B hml htab hv
  obtain ⟨rfl, ⟨hsz, hP, hK, hD0, hE⟩, hZ⟩ := hv
  subst hsz
  have hts0 := atoms_spec (ws := ws_ yX3_keep cX3_keep 6 none) B.pre
  have C : CxM p s m meth c _ (AX dA h s.heap.size) "LeastSolutions$Reader" cX3_keep 6 none := ⟨B.exec, B.bytes, B.returns, B.notSynchronized, hml, findClass_of_methodNamed B.named, fun w h => hts0 w (List.mem_cons_of_mem _ h), fun q h => Or.inr h⟩
  have hM : wX D dA ev (AX dA h s.heap.size) s h s.heap [] := ⟨hK, hP, hD0.self, va_S.rf, hE⟩
  have hx := C.1
  have hb := C.2.1
  have hown := C.2.2.2.2.2.1
  have hts := C.2.2.2.2.2.2.1
  have hl := lv_entry ([.ref a0, .ref p1, .int p2]) (n := 6) (Nat.le_of_ble_eq_true rfl)
  rw [lg_entry_eq]
  generalize (lg_sl ([.ref a0, .ref p1, .int p2]) ++ List.replicate (6 - (lg_sl ([.ref a0, .ref p1, .int p2])).length) Slot.unset).toArray = ls at hl ⊢
  have hl : lv_has ls 6 [(0, .ref a0), (1, .ref p1), (2, .int p2)] := hl
  unfold wp_X3_keep at hw
  refine lv_aload_n hx hb dX3_keep_0 rfl (lv_at hl 1 rfl) ?_
  refine rX_word C hM 5 (by decide) q613 dX3_keep_1 ?_
  refine rX_acmp_ne (tgt := 11) C dX3_keep_4 (by decide) (fun hc => ?_) (fun hc => ?_)
  · replace hw := hw.1 hc
    refine lv_aload_n hx hb dX3_keep_11 rfl (lv_at hl 1 rfl) ?_
    refine rX_word C hM 6 (by decide) q614 dX3_keep_12 ?_
    refine rX_acmp_ne (tgt := 22) C dX3_keep_15 (by decide) (fun hc => ?_) (fun hc => ?_)
    · replace hw := hw.1 hc
      refine lv_iconst (v := (-1)) hx hb dX3_keep_22 (by decide) ?_
      exact wk_X3_keep_23 C hst hZ htab  a0 p2 (-1) h _ _ ls hw hM (lv_sub hl [0, 2] rfl)
    · replace hw := hw.2 hc
      refine lv_iconst (v := 1) hx hb dX3_keep_18 (by decide) ?_
      refine lv_goto (tgt := 23) hx hb dX3_keep_19 (by decide) ?_
      exact wk_X3_keep_23 C hst hZ htab  a0 p2 1 h _ _ ls hw hM (lv_sub hl [0, 2] rfl)
  · replace hw := hw.2 hc
    refine lv_iconst (v := 0) hx hb dX3_keep_7 (by decide) ?_
    refine lv_goto (tgt := 23) hx hb dX3_keep_8 (by decide) ?_
    exact wk_X3_keep_23 C hst hZ htab  a0 p2 0 h _ _ ls hw hM (lv_sub hl [0, 2] rfl)
abbrev rm_X3_row : Room := { frames := 7, cells := 0, slots := 0, locals := 151 }
set_option maxHeartbeats 4000000 in
theorem wk_X3_row_130 {p : Program} {l : Launch} {e : Env} {s : State} {m : MethodId} {args : Array Value} {below : List Frame} {meth : Method} {c : Code} {D : va_G} {dA : Nat → ClassId} {ev : Nat → Nat} {h0 : Hp} {sz : Nat} (C : CxM p s m meth c args (AX dA h0 sz) "LeastSolutions$Reader" cX3_row 3 none) (hst : l.stackTraces = false) (hZ : ZX (AX dA h0 sz) s s.heap) (htab : ∀ x ∈ c.exceptionTable.toList, False) {Qr : Hp → Prop} {Xr : String → Hp → Prop} : ∀ (a0 : Nat) (h : Hp) (H : Heap) (locs : List Loc) (ls : Array Slot), wp_X3_row_130 ev Qr Xr a0 h → wX D dA ev (AX dA h0 sz) s h H locs → lv_has ls 3 [(0, .ref a0)] → W p l e rm_X3_row s m args below meth c H locs 0 0 (vx_MQ below (va_Qv Qr (BX D dA (AX dA h0 sz)) (AX dA h0 sz)) (XP D dA (AX dA h0 sz) Xr) args s 0 0 (AX dA h0 sz)) (F0 m 130 ls []) := by
  intro a0 h H locs ls hw hM hl
  have hx := C.1
  have hb := C.2.1
  have hown := C.2.2.2.2.2.1
  have hts := C.2.2.2.2.2.2.1
  unfold wp_X3_row_130 at hw
  exact vx_ret (rX_vret C hM ⟨Nat.le_refl _, Nat.le_refl _⟩ hw dX3_row_130)
set_option maxHeartbeats 4000000 in
theorem wk_X3_row_102 {p : Program} {l : Launch} {e : Env} {s : State} {m : MethodId} {args : Array Value} {below : List Frame} {meth : Method} {c : Code} {D : va_G} {dA : Nat → ClassId} {ev : Nat → Nat} {h0 : Hp} {sz : Nat} (C : CxM p s m meth c args (AX dA h0 sz) "LeastSolutions$Reader" cX3_row 3 none) (hst : l.stackTraces = false) (hZ : ZX (AX dA h0 sz) s s.heap) (htab : ∀ x ∈ c.exceptionTable.toList, False) {Qr : Hp → Prop} {Xr : String → Hp → Prop} : ∀ (a0 : Nat) (v1 : Nat) (v2 : Int32) (u0 : Nat) (u1 : Int32) (h : Hp) (H : Heap) (locs : List Loc) (ls : Array Slot), wp_X3_row_102 ev Qr Xr a0 v1 v2 u0 u1 h → wX D dA ev (AX dA h0 sz) s h H locs → lv_has ls 3 [(0, .ref a0), (1, .ref v1), (2, .int v2)] → W p l e rm_X3_row s m args below meth c H locs 0 0 (vx_MQ below (va_Qv Qr (BX D dA (AX dA h0 sz)) (AX dA h0 sz)) (XP D dA (AX dA h0 sz) Xr) args s 0 0 (AX dA h0 sz)) (F0 m 102 ls [.int u1, .ref u0]) := by
  intro a0 v1 v2 u0 u1 h H locs ls hw hM hl
  have hx := C.1
  have hb := C.2.1
  have hown := C.2.2.2.2.2.1
  have hts := C.2.2.2.2.2.2.1
  unfold wp_X3_row_102 at hw
  have o2 := hw.1
  replace hw := hw.2
  refine rZ_gov C hM (runZ_V C hM hZ hl.1 2 1 (As := [.int u1]) rfl (by decide) o2 (mt_X3_require l hst D dA ev _ h u0 u1  _ _ hw) (lw_V q604 q606 qs11 q79 q607) rfl rfl (by decide +kernel) ⟨Nat.le_of_ble_eq_true rfl, Nat.le_of_ble_eq_true rfl⟩ rfl (Nat.le_of_ble_eq_true rfl) rfl dX3_row_102 ⟨Nat.le_refl _, Nat.le_refl _⟩) (fun E ce q9 h3 H locs hw hM g1 g2 g3 => rZ_out C hM (fun x hx => (htab x hx).elim) ⟨Nat.le_refl _, Nat.le_refl _⟩ hw g1 g2 g3) (fun h1 H locs hw hM => ?_)
  refine lv_aload_n hx hb dX3_row_105 rfl (lv_at hl 0 rfl) ?_
  have o4 := hw.1
  replace hw := hw.2
  obtain ⟨b5, ebb5, hw⟩ := hw
  refine rX_getRs C hM 2 0 rfl in_X3 (by decide) (by decide) rfl q225 o4 ebb5 dX3_row_106 ?_
  have o7 := hw.1
  replace hw := hw.2
  refine rX_gov C hM (runX_V C hM hl.1 1 0 (As := []) rfl (by decide) o7 (mt_X2_advance l D dA ev _ h1 b5  _ hw) (lw_V q596 q540 q541 q76 q542) rfl rfl (by decide +kernel) ⟨Nat.le_of_ble_eq_true rfl, Nat.le_of_ble_eq_true rfl⟩ rfl (Nat.le_of_ble_eq_true rfl) rfl dX3_row_109 ⟨Nat.le_refl _, Nat.le_refl _⟩) (fun h6 H locs hw hM => ?_)
  refine lv_aload_n hx hb dX3_row_112 rfl (lv_at hl 0 rfl) ?_
  refine lv_iconst (v := (-1)) hx hb dX3_row_113 (by decide) ?_
  have o10 := hw.1
  replace hw := hw.2
  refine rZ_gov C hM (runZ_V C hM hZ hl.1 2 1 (As := [.int (-1)]) rfl (by decide) o10 (mt_X3_sum l hst D dA ev _ h6 a0 (-1)  _ _ hw) (lw_V q591 q593 qs9 q79 q594) rfl rfl (by decide +kernel) ⟨Nat.le_of_ble_eq_true rfl, Nat.le_of_ble_eq_true rfl⟩ rfl (Nat.le_of_ble_eq_true rfl) rfl dX3_row_114 ⟨Nat.le_refl _, Nat.le_refl _⟩) (fun E ce q9 h11 H locs hw hM g1 g2 g3 => rZ_out C hM (fun x hx => (htab x hx).elim) ⟨Nat.le_refl _, Nat.le_refl _⟩ hw g1 g2 g3) (fun h9 H locs hw hM => ?_)
  refine lv_aload_n hx hb dX3_row_117 rfl (lv_at hl 0 rfl) ?_
  have o12 := hw.1
  replace hw := hw.2
  refine rX_getI C hM 2 7 rfl in_X3 (by decide) (by decide) rfl q232 o12 dX3_row_118 ?_
  refine lv_if_eq (tgt := 130) hx hb dX3_row_121 (by decide) (fun hc => ?_) (fun hc => ?_)
  · replace hw := hw.1 hc
    exact wk_X3_row_130 C hst hZ htab  a0 h9 _ _ ls hw hM (lv_sub hl [0] rfl)
  · replace hw := hw.2 hc
    refine lv_aload_n hx hb dX3_row_124 rfl (lv_at hl 0 rfl) ?_
    refine lv_aload_n hx hb dX3_row_125 rfl (lv_at hl 1 rfl) ?_
    refine lv_iload_n hx hb dX3_row_126 rfl (lv_at hl 2 rfl) ?_
    have o14 := hw.1
    replace hw := hw.2
    refine rZ_gov C hM (runZ_V C hM hZ hl.1 2 2 (As := [.ref v1, .int v2]) rfl (by decide) o14 (mt_X3_keep l hst D dA ev _ h9 a0 v1 v2  _ _ hw) (lw_V q616 q618 qs13 q79 q619) rfl rfl (by decide +kernel) ⟨Nat.le_of_ble_eq_true rfl, Nat.le_of_ble_eq_true rfl⟩ rfl (Nat.le_of_ble_eq_true rfl) rfl dX3_row_127 ⟨Nat.le_refl _, Nat.le_refl _⟩) (fun E ce q9 h15 H locs hw hM g1 g2 g3 => rZ_out C hM (fun x hx => (htab x hx).elim) ⟨Nat.le_refl _, Nat.le_refl _⟩ hw g1 g2 g3) (fun h13 H locs hw hM => ?_)
    exact wk_X3_row_130 C hst hZ htab  a0 h13 _ _ ls hw hM (lv_sub hl [0] rfl)
set_option maxHeartbeats 4000000 in
theorem wk_X3_row_97 {p : Program} {l : Launch} {e : Env} {s : State} {m : MethodId} {args : Array Value} {below : List Frame} {meth : Method} {c : Code} {D : va_G} {dA : Nat → ClassId} {ev : Nat → Nat} {h0 : Hp} {sz : Nat} (C : CxM p s m meth c args (AX dA h0 sz) "LeastSolutions$Reader" cX3_row 3 none) (hst : l.stackTraces = false) (hZ : ZX (AX dA h0 sz) s s.heap) (htab : ∀ x ∈ c.exceptionTable.toList, False) {Qr : Hp → Prop} {Xr : String → Hp → Prop} : ∀ (a0 : Nat) (v1 : Nat) (v2 : Int32) (u0 : Nat) (h : Hp) (H : Heap) (locs : List Loc) (ls : Array Slot), wp_X3_row_97 ev Qr Xr a0 v1 v2 u0 h → wX D dA ev (AX dA h0 sz) s h H locs → lv_has ls 3 [(0, .ref a0), (1, .ref v1), (2, .int v2)] → W p l e rm_X3_row s m args below meth c H locs 0 0 (vx_MQ below (va_Qv Qr (BX D dA (AX dA h0 sz)) (AX dA h0 sz)) (XP D dA (AX dA h0 sz) Xr) args s 0 0 (AX dA h0 sz)) (F0 m 97 ls [.ref u0]) := by
  intro a0 v1 v2 u0 h H locs ls hw hM hl
  have hx := C.1
  have hb := C.2.1
  have hown := C.2.2.2.2.2.1
  have hts := C.2.2.2.2.2.2.1
  unfold wp_X3_row_97 at hw
  refine lv_iconst (v := 1) hx hb dX3_row_97 (by decide) ?_
  refine lv_goto (tgt := 102) hx hb dX3_row_98 (by decide) ?_
  exact wk_X3_row_102 C hst hZ htab  a0 v1 v2 u0 1 h _ _ ls hw hM (lv_sub hl [0, 1, 2] rfl)
set_option maxHeartbeats 4000000 in
theorem wk_X3_row_30 {p : Program} {l : Launch} {e : Env} {s : State} {m : MethodId} {args : Array Value} {below : List Frame} {meth : Method} {c : Code} {D : va_G} {dA : Nat → ClassId} {ev : Nat → Nat} {h0 : Hp} {sz : Nat} (C : CxM p s m meth c args (AX dA h0 sz) "LeastSolutions$Reader" cX3_row 3 none) (hst : l.stackTraces = false) (hZ : ZX (AX dA h0 sz) s s.heap) (htab : ∀ x ∈ c.exceptionTable.toList, False) {Qr : Hp → Prop} {Xr : String → Hp → Prop} : ∀ (n : Nat) (a0 : Nat) (v1 : Int32) (h : Hp) (H : Heap) (locs : List Loc) (ls : Array Slot), wp_X3_row_30 ev Qr Xr n a0 v1 h → wX D dA ev (AX dA h0 sz) s h H locs → lv_has ls 3 [(0, .ref a0), (1, .int v1)] → W p l e rm_X3_row s m args below meth c H locs 0 0 (vx_MQ below (va_Qv Qr (BX D dA (AX dA h0 sz)) (AX dA h0 sz)) (XP D dA (AX dA h0 sz) Xr) args s 0 0 (AX dA h0 sz)) (F0 m 30 ls []) := by
  intro n
  induction n with
  | zero => intro a0 v1 h H locs ls hw; exact hw.elim
  | succ n30 ih =>
    intro a0 v1 h H locs ls hw hM hl
    have hx := C.1
    have hb := C.2.1
    have hown := C.2.2.2.2.2.1
    have hts := C.2.2.2.2.2.2.1
    unfold wp_X3_row_30 at hw
    refine lv_iload_n hx hb dX3_row_30 rfl (lv_at hl 1 rfl) ?_
    refine lv_bipush (v := 6) hx hb dX3_row_31 (by decide) ?_
    refine lv_icmp_ge (tgt := 49) hx hb dX3_row_33 (by decide) (fun hc => ?_) (fun hc => ?_)
    · replace hw := hw.1 hc
      refine lv_aload_n hx hb dX3_row_49 rfl (lv_at hl 0 rfl) ?_
      refine lv_iconst (v := 0) hx hb dX3_row_50 (by decide) ?_
      have o2 := hw.1
      replace hw := hw.2
      refine rX_putI C hM 2 5 rfl in_X3 (by decide) (by decide) rfl rfl q230 o2 tyX3 tyX3_ok nmX3 rfl rfl rfl dX3_row_51 (fun h1 H locs eσ hM => ?_)
      replace hw := hw h1 eσ
      clear eσ
      refine lv_aload_n hx hb dX3_row_54 rfl (lv_at hl 0 rfl) ?_
      refine lv_iconst (v := 1) hx hb dX3_row_55 (by decide) ?_
      have o4 := hw.1
      replace hw := hw.2
      refine rZ_gov C hM (runZ_V C hM hZ hl.1 2 1 (As := [.int 1]) rfl (by decide) o4 (mt_X3_sum l hst D dA ev _ h1 a0 1  _ _ hw) (lw_V q591 q593 qs9 q79 q594) rfl rfl (by decide +kernel) ⟨Nat.le_of_ble_eq_true rfl, Nat.le_of_ble_eq_true rfl⟩ rfl (Nat.le_of_ble_eq_true rfl) rfl dX3_row_56 ⟨Nat.le_refl _, Nat.le_refl _⟩) (fun E ce q9 h5 H locs hw hM g1 g2 g3 => rZ_out C hM (fun x hx => (htab x hx).elim) ⟨Nat.le_refl _, Nat.le_refl _⟩ hw g1 g2 g3) (fun h3 H locs hw hM => ?_)
      refine lv_aload_n hx hb dX3_row_59 rfl (lv_at hl 0 rfl) ?_
      have o6 := hw.1
      replace hw := hw.2
      obtain ⟨b7, ebb7, hw⟩ := hw
      refine rX_getRs C hM 2 0 rfl in_X3 (by decide) (by decide) rfl q225 o6 ebb7 dX3_row_60 ?_
      have o8 := hw.1
      replace hw := hw.2
      obtain ⟨b9, ebb9, hw⟩ := hw
      refine rX_getRsN C hM 1 3 rfl in_X2 (by decide) (by decide) rfl q134 o8 ebb9 dX3_row_63 ?_
      refine lv_astore_n (lv' := [(1, .ref b9), (0, .ref a0)]) hx hb dX3_row_66 rfl hl (by decide) rfl (fun ls hl => ?_)
      refine lv_aload_n hx hb dX3_row_67 rfl (lv_at hl 1 rfl) ?_
      have o10 := hw.1
      replace hw := hw.2
      obtain ⟨b11, ebb11, hw⟩ := hw
      refine rX_getRs C hM 2 0 rfl in_X3 (by decide) (by decide) rfl q225 o10 ebb11 dX3_row_68 ?_
      have o12 := hw.1
      replace hw := hw.2
      refine rX_getIN C hM 1 4 rfl in_X2 (by decide) (by decide) rfl q135 o12 dX3_row_71 ?_
      refine lv_topi (fun x13 ex13 => ?_)
      replace hw := hw x13 ex13
      refine lv_istore_n (lv' := [(2, .int x13), (1, .ref b9), (0, .ref a0)]) hx hb dX3_row_74 rfl hl (by decide) rfl (fun ls hl => ?_)
      refine lv_aload_n hx hb dX3_row_75 rfl (lv_at hl 2 rfl) ?_
      refine lv_aload_n hx hb dX3_row_76 rfl (lv_at hl 1 rfl) ?_
      refine rX_word C hM 5 (by decide) q613 dX3_row_77 ?_
      refine rX_acmp_eq (tgt := 97) C dX3_row_80 (by decide) (fun hc => ?_) (fun hc => ?_)
      · replace hw := hw.1 hc
        exact wk_X3_row_97 C hst hZ htab  a0 b9 x13 a0 h3 _ _ ls hw hM (lv_sub hl [2, 1, 0] rfl)
      · replace hw := hw.2 hc
        refine lv_aload_n hx hb dX3_row_83 rfl (lv_at hl 1 rfl) ?_
        refine rX_word C hM 6 (by decide) q614 dX3_row_84 ?_
        refine rX_acmp_eq (tgt := 97) C dX3_row_87 (by decide) (fun hc => ?_) (fun hc => ?_)
        · replace hw := hw.1 hc
          exact wk_X3_row_97 C hst hZ htab  a0 b9 x13 a0 h3 _ _ ls hw hM (lv_sub hl [2, 1, 0] rfl)
        · replace hw := hw.2 hc
          refine lv_aload_n hx hb dX3_row_90 rfl (lv_at hl 1 rfl) ?_
          refine rX_word C hM 7 (by decide) q615 dX3_row_91 ?_
          refine rX_acmp_ne (tgt := 101) C dX3_row_94 (by decide) (fun hc => ?_) (fun hc => ?_)
          · replace hw := hw.1 hc
            refine lv_iconst (v := 0) hx hb dX3_row_101 (by decide) ?_
            exact wk_X3_row_102 C hst hZ htab  a0 b9 x13 a0 0 h3 _ _ ls hw hM (lv_sub hl [2, 1, 0] rfl)
          · replace hw := hw.2 hc
            exact wk_X3_row_97 C hst hZ htab  a0 b9 x13 a0 h3 _ _ ls hw hM (lv_sub hl [2, 1, 0] rfl)
    · replace hw := hw.2 hc
      refine lv_aload_n hx hb dX3_row_36 rfl (lv_at hl 0 rfl) ?_
      have o14 := hw.1
      replace hw := hw.2
      obtain ⟨b15, ebb15, hw⟩ := hw
      refine rX_getRs C hM 2 4 rfl in_X3 (by decide) (by decide) rfl q229 o14 ebb15 dX3_row_37 ?_
      refine lv_iload_n hx hb dX3_row_40 rfl (lv_at hl 1 rfl) ?_
      refine lv_iconst (v := 0) hx hb dX3_row_41 (by decide) ?_
      have o17 := hw.1
      replace hw := hw.2
      have o18 := hw.1
      replace hw := hw.2
      refine rX_iast C hM o17 o18 dX3_row_42 (fun h16 H locs eσ hM => ?_)
      replace hw := hw h16 eσ
      clear eσ
      obtain ⟨x19, ex19⟩ : ∃ y : Int32, y = v1 + 1 := ⟨_, rfl⟩
      replace hw := hw x19 ex19
      refine lv_iinc (v := x19) (lv' := [(1, .int x19), (0, .ref a0)]) hx hb dX3_row_43 hl (k := 1) rfl (by rw [ex19]; rfl) (by decide) rfl (fun ls hl => ?_)
      refine lv_goto (tgt := 30) hx hb dX3_row_46 (by decide) ?_
      exact ih a0 x19 h16 _ _ ls hw hM (lv_sub hl [1, 0] rfl)
set_option maxHeartbeats 4000000 in
theorem wk_X3_row_17 {p : Program} {l : Launch} {e : Env} {s : State} {m : MethodId} {args : Array Value} {below : List Frame} {meth : Method} {c : Code} {D : va_G} {dA : Nat → ClassId} {ev : Nat → Nat} {h0 : Hp} {sz : Nat} (C : CxM p s m meth c args (AX dA h0 sz) "LeastSolutions$Reader" cX3_row 3 none) (hst : l.stackTraces = false) (hZ : ZX (AX dA h0 sz) s s.heap) (htab : ∀ x ∈ c.exceptionTable.toList, False) {Qr : Hp → Prop} {Xr : String → Hp → Prop} : ∀ (a0 : Nat) (u0 : Nat) (u1 : Int32) (h : Hp) (H : Heap) (locs : List Loc) (ls : Array Slot), wp_X3_row_17 ev Qr Xr a0 u0 u1 h → wX D dA ev (AX dA h0 sz) s h H locs → lv_has ls 3 [(0, .ref a0)] → W p l e rm_X3_row s m args below meth c H locs 0 0 (vx_MQ below (va_Qv Qr (BX D dA (AX dA h0 sz)) (AX dA h0 sz)) (XP D dA (AX dA h0 sz) Xr) args s 0 0 (AX dA h0 sz)) (F0 m 17 ls [.int u1, .ref u0]) := by
  intro a0 u0 u1 h H locs ls hw hM hl
  have hx := C.1
  have hb := C.2.1
  have hown := C.2.2.2.2.2.1
  have hts := C.2.2.2.2.2.2.1
  unfold wp_X3_row_17 at hw
  refine lv_iconst (v := 2) hx hb dX3_row_17 (by decide) ?_
  refine lv_aload_n hx hb dX3_row_18 rfl (lv_at hl 0 rfl) ?_
  have o1 := hw.1
  replace hw := hw.2
  obtain ⟨b2, ebb2, hw⟩ := hw
  refine rX_getRs C hM 2 0 rfl in_X3 (by decide) (by decide) rfl q225 o1 ebb2 dX3_row_19 ?_
  have o3 := hw.1
  replace hw := hw.2
  refine rX_getIN C hM 1 4 rfl in_X2 (by decide) (by decide) rfl q135 o3 dX3_row_22 ?_
  have o5 := hw.1
  replace hw := hw.2
  refine rZ_gov C hM (runZ_V C hM hZ hl.1 2 3 (As := [.int u1, .int 2, .int (hI h b2 4)]) rfl (by decide) o5 (mt_X3_check l hst D dA ev _ h u0 u1 2 (hI h b2 4)  _ _ hw) (lw_V q583 q585 qs7 q79 q586) rfl rfl (by decide +kernel) ⟨Nat.le_of_ble_eq_true rfl, Nat.le_of_ble_eq_true rfl⟩ rfl (Nat.le_of_ble_eq_true rfl) rfl dX3_row_25 ⟨Nat.le_refl _, Nat.le_refl _⟩) (fun E ce q9 h6 H locs hw hM g1 g2 g3 => rZ_out C hM (fun x hx => (htab x hx).elim) ⟨Nat.le_refl _, Nat.le_refl _⟩ hw g1 g2 g3) (fun h4 H locs hw hM => ?_)
  refine lv_iconst (v := 0) hx hb dX3_row_28 (by decide) ?_
  refine lv_istore_n (lv' := [(1, .int 0), (0, .ref a0)]) hx hb dX3_row_29 rfl hl (by decide) rfl (fun ls hl => ?_)
  obtain ⟨n30, hw⟩ := hw
  exact wk_X3_row_30 C hst hZ htab  n30 a0 0 h4 _ _ ls hw hM (lv_sub hl [1, 0] rfl)
set_option maxHeartbeats 4000000 in
/-- LeastSolutions$Reader.row()V -/
theorem mt_X3_row (l : Launch) (hst : l.stackTraces = false) (D : va_G) (dA : Nat → ClassId) (ev : Nat → Nat) (sz : Nat) (h : Hp) (a0 : Nat) (Qr : Hp → Prop) (Xr : String → Hp → Prop) (hw : wp_X3_row ev h a0 Qr Xr) : vx_Met l yX3_row (ws_ yX3_row cX3_row 3 none) rm_X3_row (PcZ D dA ev h sz [.ref a0]) (va_Qv Qr (BX D dA (AX dA h sz)) (AX dA h sz)) (XP D dA (AX dA h sz) Xr) 0 0 (AX dA h sz) := by
  refine vx_ofW (cc := cX3_row) (maxL := 3) (ret := none) (by decide) rfl ?_
  intro p e s m args below meth c s₁ B hml htab hv
  obtain ⟨rfl, ⟨hsz, hP, hK, hD0, hE⟩, hZ⟩ := hv
  subst hsz
  have hts0 := atoms_spec (ws := ws_ yX3_row cX3_row 3 none) B.pre
  have C : CxM p s m meth c _ (AX dA h s.heap.size) "LeastSolutions$Reader" cX3_row 3 none := ⟨B.exec, B.bytes, B.returns, B.notSynchronized, hml, findClass_of_methodNamed B.named, fun w h => hts0 w (List.mem_cons_of_mem _ h), fun q h => Or.inr h⟩
  have hM : wX D dA ev (AX dA h s.heap.size) s h s.heap [] := ⟨hK, hP, hD0.self, va_S.rf, hE⟩
  have hx := C.1
  have hb := C.2.1
  have hown := C.2.2.2.2.2.1
  have hts := C.2.2.2.2.2.2.1
  have hl := lv_entry ([.ref a0]) (n := 3) (Nat.le_of_ble_eq_true rfl)
  rw [lg_entry_eq]
  generalize (lg_sl ([.ref a0]) ++ List.replicate (3 - (lg_sl ([.ref a0])).length) Slot.unset).toArray = ls at hl ⊢
  have hl : lv_has ls 3 [(0, .ref a0)] := hl
  unfold wp_X3_row at hw
  refine lv_aload_n hx hb dX3_row_0 rfl (lv_at hl 0 rfl) ?_
  refine lv_aload_n hx hb dX3_row_1 rfl (lv_at hl 0 rfl) ?_
  have o1 := hw.1
  replace hw := hw.2
  obtain ⟨b2, ebb2, hw⟩ := hw
  refine rX_getRs C hM 2 6 rfl in_X3 (by decide) (by decide) rfl q231 o1 ebb2 dX3_row_2 ?_
  have o3 := hw.1
  replace hw := hw.2
  refine rX_getIN C hM 3 0 rfl in_X4 (by decide) (by decide) rfl q270 o3 dX3_row_5 ?_
  refine lv_iconst (v := 4) hx hb dX3_row_8 (by decide) ?_
  refine lv_icmp_ge (tgt := 16) hx hb dX3_row_9 (by decide) (fun hc => ?_) (fun hc => ?_)
  · replace hw := hw.1 hc
    refine lv_iconst (v := 0) hx hb dX3_row_16 (by decide) ?_
    exact wk_X3_row_17 C hst hZ htab  a0 a0 0 h _ _ ls hw hM (lv_sub hl [0] rfl)
  · replace hw := hw.2 hc
    refine lv_iconst (v := 1) hx hb dX3_row_12 (by decide) ?_
    refine lv_goto (tgt := 17) hx hb dX3_row_13 (by decide) ?_
    exact wk_X3_row_17 C hst hZ htab  a0 a0 1 h _ _ ls hw hM (lv_sub hl [0] rfl)
abbrev rm_X3_system : Room := { frames := 8, cells := 0, slots := 0, locals := 173 }
set_option maxHeartbeats 4000000 in
theorem wk_X3_system_57 {p : Program} {l : Launch} {e : Env} {s : State} {m : MethodId} {args : Array Value} {below : List Frame} {meth : Method} {c : Code} {D : va_G} {dA : Nat → ClassId} {ev : Nat → Nat} {h0 : Hp} {sz : Nat} (C : CxM p s m meth c args (AX dA h0 sz) "LeastSolutions$Reader" cX3_system 1 none) (hst : l.stackTraces = false) (hZ : ZX (AX dA h0 sz) s s.heap) (htab : ∀ x ∈ c.exceptionTable.toList, False) {Qr : Hp → Prop} {Xr : String → Hp → Prop} : ∀ (a0 : Nat) (u0 : Nat) (u1 : Int32) (h : Hp) (H : Heap) (locs : List Loc) (ls : Array Slot), wp_X3_system_57 ev Qr Xr a0 u0 u1 h → wX D dA ev (AX dA h0 sz) s h H locs → lv_has ls 1 [(0, .ref a0)] → W p l e rm_X3_system s m args below meth c H locs 0 0 (vx_MQ below (va_Qv Qr (BX D dA (AX dA h0 sz)) (AX dA h0 sz)) (XP D dA (AX dA h0 sz) Xr) args s 0 0 (AX dA h0 sz)) (F0 m 57 ls [.int u1, .ref u0]) := by
  intro a0 u0 u1 h H locs ls hw hM hl
  have hx := C.1
  have hb := C.2.1
  have hown := C.2.2.2.2.2.1
  have hts := C.2.2.2.2.2.2.1
  unfold wp_X3_system_57 at hw
  have o2 := hw.1
  replace hw := hw.2
  refine rZ_gov C hM (runZ_V C hM hZ hl.1 2 1 (As := [.int u1]) rfl (by decide) o2 (mt_X3_require l hst D dA ev _ h u0 u1  _ _ hw) (lw_V q604 q606 qs11 q79 q607) rfl rfl (by decide +kernel) ⟨Nat.le_of_ble_eq_true rfl, Nat.le_of_ble_eq_true rfl⟩ rfl (Nat.le_of_ble_eq_true rfl) rfl dX3_system_57 ⟨Nat.le_refl _, Nat.le_refl _⟩) (fun E ce q9 h3 H locs hw hM g1 g2 g3 => rZ_out C hM (fun x hx => (htab x hx).elim) ⟨Nat.le_refl _, Nat.le_refl _⟩ hw g1 g2 g3) (fun h1 H locs hw hM => ?_)
  exact vx_ret (rX_vret C hM ⟨Nat.le_refl _, Nat.le_refl _⟩ hw dX3_system_60)
set_option maxHeartbeats 4000000 in
theorem wk_X3_system_11 {p : Program} {l : Launch} {e : Env} {s : State} {m : MethodId} {args : Array Value} {below : List Frame} {meth : Method} {c : Code} {D : va_G} {dA : Nat → ClassId} {ev : Nat → Nat} {h0 : Hp} {sz : Nat} (C : CxM p s m meth c args (AX dA h0 sz) "LeastSolutions$Reader" cX3_system 1 none) (hst : l.stackTraces = false) (hZ : ZX (AX dA h0 sz) s s.heap) (htab : ∀ x ∈ c.exceptionTable.toList, False) {Qr : Hp → Prop} {Xr : String → Hp → Prop} : ∀ (n : Nat) (a0 : Nat) (h : Hp) (H : Heap) (locs : List Loc) (ls : Array Slot), wp_X3_system_11 ev Qr Xr n a0 h → wX D dA ev (AX dA h0 sz) s h H locs → lv_has ls 1 [(0, .ref a0)] → W p l e rm_X3_system s m args below meth c H locs 0 0 (vx_MQ below (va_Qv Qr (BX D dA (AX dA h0 sz)) (AX dA h0 sz)) (XP D dA (AX dA h0 sz) Xr) args s 0 0 (AX dA h0 sz)) (F0 m 11 ls []) := by
  intro n
  induction n with
  | zero => intro a0 h H locs ls hw; exact hw.elim
  | succ n11 ih =>
    intro a0 h H locs ls hw hM hl
    have hx := C.1
    have hb := C.2.1
    have hown := C.2.2.2.2.2.1
    have hts := C.2.2.2.2.2.2.1
    unfold wp_X3_system_11 at hw
    refine lv_aload_n hx hb dX3_system_11 rfl (lv_at hl 0 rfl) ?_
    have o1 := hw.1
    replace hw := hw.2
    obtain ⟨b2, ebb2, hw⟩ := hw
    refine rX_getRs C hM 2 0 rfl in_X3 (by decide) (by decide) rfl q225 o1 ebb2 dX3_system_12 ?_
    have o3 := hw.1
    replace hw := hw.2
    obtain ⟨b4, ebb4, hw⟩ := hw
    refine rX_getRsN C hM 1 3 rfl in_X2 (by decide) (by decide) rfl q134 o3 ebb4 dX3_system_15 ?_
    refine rX_word C hM 8 (by decide) q623 dX3_system_18 ?_
    refine rX_acmp_ne (tgt := 38) C dX3_system_21 (by decide) (fun hc => ?_) (fun hc => ?_)
    · replace hw := hw.1 hc
      refine lv_aload_n hx hb dX3_system_38 rfl (lv_at hl 0 rfl) ?_
      refine lv_aload_n hx hb dX3_system_39 rfl (lv_at hl 0 rfl) ?_
      have o5 := hw.1
      replace hw := hw.2
      obtain ⟨b6, ebb6, hw⟩ := hw
      refine rX_getRs C hM 2 0 rfl in_X3 (by decide) (by decide) rfl q225 o5 ebb6 dX3_system_40 ?_
      have o7 := hw.1
      replace hw := hw.2
      obtain ⟨b8, ebb8, hw⟩ := hw
      refine rX_getRsN C hM 1 3 rfl in_X2 (by decide) (by decide) rfl q134 o7 ebb8 dX3_system_43 ?_
      refine rX_word C hM 9 (by decide) q624 dX3_system_46 ?_
      refine rX_acmp_ne (tgt := 56) C dX3_system_49 (by decide) (fun hc => ?_) (fun hc => ?_)
      · replace hw := hw.1 hc
        refine lv_iconst (v := 0) hx hb dX3_system_56 (by decide) ?_
        exact wk_X3_system_57 C hst hZ htab  a0 a0 0 h _ _ ls hw hM (lv_sub hl [0] rfl)
      · replace hw := hw.2 hc
        refine lv_iconst (v := 1) hx hb dX3_system_52 (by decide) ?_
        refine lv_goto (tgt := 57) hx hb dX3_system_53 (by decide) ?_
        exact wk_X3_system_57 C hst hZ htab  a0 a0 1 h _ _ ls hw hM (lv_sub hl [0] rfl)
    · replace hw := hw.2 hc
      refine lv_aload_n hx hb dX3_system_24 rfl (lv_at hl 0 rfl) ?_
      have o9 := hw.1
      replace hw := hw.2
      obtain ⟨b10, ebb10, hw⟩ := hw
      refine rX_getRs C hM 2 0 rfl in_X3 (by decide) (by decide) rfl q225 o9 ebb10 dX3_system_25 ?_
      have o12 := hw.1
      replace hw := hw.2
      refine rX_gov C hM (runX_V C hM hl.1 1 0 (As := []) rfl (by decide) o12 (mt_X2_advance l D dA ev _ h b10  _ hw) (lw_V q596 q540 q541 q76 q542) rfl rfl (by decide +kernel) ⟨Nat.le_of_ble_eq_true rfl, Nat.le_of_ble_eq_true rfl⟩ rfl (Nat.le_of_ble_eq_true rfl) rfl dX3_system_28 ⟨Nat.le_refl _, Nat.le_refl _⟩) (fun h11 H locs hw hM => ?_)
      refine lv_aload_n hx hb dX3_system_31 rfl (lv_at hl 0 rfl) ?_
      have o15 := hw.1
      replace hw := hw.2
      refine rZ_gov C hM (runZ_V C hM hZ hl.1 2 0 (As := []) rfl (by decide) o15 (mt_X3_row l hst D dA ev _ h11 a0  _ _ hw) (lw_V q579 q581 qs6 q79 q582) rfl rfl (by decide +kernel) ⟨Nat.le_of_ble_eq_true rfl, Nat.le_of_ble_eq_true rfl⟩ rfl (Nat.le_of_ble_eq_true rfl) rfl dX3_system_32 ⟨Nat.le_refl _, Nat.le_refl _⟩) (fun E ce q9 h16 H locs hw hM g1 g2 g3 => rZ_out C hM (fun x hx => (htab x hx).elim) ⟨Nat.le_refl _, Nat.le_refl _⟩ hw g1 g2 g3) (fun h14 H locs hw hM => ?_)
      refine lv_goto (tgt := 11) hx hb dX3_system_35 (by decide) ?_
      exact ih a0 h14 _ _ ls hw hM (lv_sub hl [0] rfl)
set_option maxHeartbeats 4000000 in
/-- LeastSolutions$Reader.system()V -/
theorem mt_X3_system (l : Launch) (hst : l.stackTraces = false) (D : va_G) (dA : Nat → ClassId) (ev : Nat → Nat) (sz : Nat) (h : Hp) (a0 : Nat) (Qr : Hp → Prop) (Xr : String → Hp → Prop) (hw : wp_X3_system ev h a0 Qr Xr) : vx_Met l yX3_system (ws_ yX3_system cX3_system 1 none) rm_X3_system (PcZ D dA ev h sz [.ref a0]) (va_Qv Qr (BX D dA (AX dA h sz)) (AX dA h sz)) (XP D dA (AX dA h sz) Xr) 0 0 (AX dA h sz) := by
  refine vx_ofW (cc := cX3_system) (maxL := 1) (ret := none) (by decide) rfl ?_
  intro p e s m args below meth c s₁ B hml htab hv
  obtain ⟨rfl, ⟨hsz, hP, hK, hD0, hE⟩, hZ⟩ := hv
  subst hsz
  have hts0 := atoms_spec (ws := ws_ yX3_system cX3_system 1 none) B.pre
  have C : CxM p s m meth c _ (AX dA h s.heap.size) "LeastSolutions$Reader" cX3_system 1 none := ⟨B.exec, B.bytes, B.returns, B.notSynchronized, hml, findClass_of_methodNamed B.named, fun w h => hts0 w (List.mem_cons_of_mem _ h), fun q h => Or.inr h⟩
  have hM : wX D dA ev (AX dA h s.heap.size) s h s.heap [] := ⟨hK, hP, hD0.self, va_S.rf, hE⟩
  have hx := C.1
  have hb := C.2.1
  have hown := C.2.2.2.2.2.1
  have hts := C.2.2.2.2.2.2.1
  have hl := lv_entry ([.ref a0]) (n := 1) (Nat.le_of_ble_eq_true rfl)
  rw [lg_entry_eq]
  generalize (lg_sl ([.ref a0]) ++ List.replicate (1 - (lg_sl ([.ref a0])).length) Slot.unset).toArray = ls at hl ⊢
  have hl : lv_has ls 1 [(0, .ref a0)] := hl
  unfold wp_X3_system at hw
  refine lv_aload_n hx hb dX3_system_0 rfl (lv_at hl 0 rfl) ?_
  have o1 := hw.1
  replace hw := hw.2
  obtain ⟨b2, ebb2, hw⟩ := hw
  refine rX_getRs C hM 2 0 rfl in_X3 (by decide) (by decide) rfl q225 o1 ebb2 dX3_system_1 ?_
  have o4 := hw.1
  replace hw := hw.2
  refine rX_gov C hM (runX_V C hM hl.1 1 0 (As := []) rfl (by decide) o4 (mt_X2_begin l D dA ev _ h b2  _ hw) (lw_V q535 q536 q537 q76 q538) rfl rfl (by decide +kernel) ⟨Nat.le_of_ble_eq_true rfl, Nat.le_of_ble_eq_true rfl⟩ rfl (Nat.le_of_ble_eq_true rfl) rfl dX3_system_4 ⟨Nat.le_refl _, Nat.le_refl _⟩) (fun h3 H locs hw hM => ?_)
  refine lv_aload_n hx hb dX3_system_7 rfl (lv_at hl 0 rfl) ?_
  have o7 := hw.1
  replace hw := hw.2
  refine rZ_gov C hM (runZ_V C hM hZ hl.1 2 0 (As := []) rfl (by decide) o7 (mt_X3_row l hst D dA ev _ h3 a0  _ _ hw) (lw_V q579 q581 qs6 q79 q582) rfl rfl (by decide +kernel) ⟨Nat.le_of_ble_eq_true rfl, Nat.le_of_ble_eq_true rfl⟩ rfl (Nat.le_of_ble_eq_true rfl) rfl dX3_system_8 ⟨Nat.le_refl _, Nat.le_refl _⟩) (fun E ce q9 h8 H locs hw hM g1 g2 g3 => rZ_out C hM (fun x hx => (htab x hx).elim) ⟨Nat.le_refl _, Nat.le_refl _⟩ hw g1 g2 g3) (fun h6 H locs hw hM => ?_)
  obtain ⟨n11, hw⟩ := hw
  exact wk_X3_system_11 C hst hZ htab  n11 a0 h6 _ _ ls hw hM (lv_sub hl [0] rfl)
abbrev rm_X3_work : Room := { frames := 9, cells := 0, slots := 0, locals := 193 }
set_option maxHeartbeats 4000000 in
theorem wk_X3_work_115 {p : Program} {l : Launch} {e : Env} {s : State} {m : MethodId} {args : Array Value} {below : List Frame} {meth : Method} {c : Code} {D : va_G} {dA : Nat → ClassId} {ev : Nat → Nat} {h0 : Hp} {sz : Nat} (C : CxM p s m meth c args (AX dA h0 sz) "LeastSolutions$Reader" cX3_work 3 (some .int)) (hst : l.stackTraces = false) (hZ : ZX (AX dA h0 sz) s s.heap) (htab : c.exceptionTable.toList = tableOf [(22, 40, 43, 9)]) {Qr : Int32 → Hp → Prop} {Xr : String → Hp → Prop} {K65 : Nat → Int32 → Hp → Prop} (hK65 : ∀ (a0 : Nat) (v2 : Int32) (h : Hp) (H : Heap) (locs : List Loc) (ls : Array Slot), K65 a0 v2 h → wX D dA ev (AX dA h0 sz) s h H locs → lv_has ls 3 [(0, .ref a0), (2, .int v2)] → W p l e rm_X3_work s m args below meth c H locs 0 0 (vx_MQ below (va_Qi Qr (BX D dA (AX dA h0 sz)) (AX dA h0 sz)) (XP D dA (AX dA h0 sz) Xr) args s 0 0 (AX dA h0 sz)) (F0 m 65 ls [])) : ∀ (a0 : Nat) (v2 : Int32) (h : Hp) (H : Heap) (locs : List Loc) (ls : Array Slot), wp_X3_work_115 ev Qr Xr K65 a0 v2 h → wX D dA ev (AX dA h0 sz) s h H locs → lv_has ls 3 [(0, .ref a0), (2, .int v2)] → W p l e rm_X3_work s m args below meth c H locs 0 0 (vx_MQ below (va_Qi Qr (BX D dA (AX dA h0 sz)) (AX dA h0 sz)) (XP D dA (AX dA h0 sz) Xr) args s 0 0 (AX dA h0 sz)) (F0 m 115 ls []) := by
  intro a0 v2 h H locs ls hw hM hl
  have hx := C.1
  have hb := C.2.1
  have hown := C.2.2.2.2.2.1
  have hts := C.2.2.2.2.2.2.1
  unfold wp_X3_work_115 at hw
  obtain ⟨x1, ex1⟩ : ∃ y : Int32, y = v2 + 1 := ⟨_, rfl⟩
  replace hw := hw x1 ex1
  refine lv_iinc (v := x1) (lv' := [(2, .int x1), (0, .ref a0)]) hx hb dX3_work_115 hl (k := 1) rfl (by rw [ex1]; rfl) (by decide) rfl (fun ls hl => ?_)
  refine lv_goto (tgt := 65) hx hb dX3_work_118 (by decide) ?_
  exact hK65 a0 x1 h _ _ ls hw hM (lv_sub hl [1, 0] rfl)
set_option maxHeartbeats 4000000 in
theorem wk_X3_work_65 {p : Program} {l : Launch} {e : Env} {s : State} {m : MethodId} {args : Array Value} {below : List Frame} {meth : Method} {c : Code} {D : va_G} {dA : Nat → ClassId} {ev : Nat → Nat} {h0 : Hp} {sz : Nat} (C : CxM p s m meth c args (AX dA h0 sz) "LeastSolutions$Reader" cX3_work 3 (some .int)) (hst : l.stackTraces = false) (hZ : ZX (AX dA h0 sz) s s.heap) (htab : c.exceptionTable.toList = tableOf [(22, 40, 43, 9)]) {Qr : Int32 → Hp → Prop} {Xr : String → Hp → Prop} : ∀ (n : Nat) (a0 : Nat) (v2 : Int32) (h : Hp) (H : Heap) (locs : List Loc) (ls : Array Slot), wp_X3_work_65 ev Qr Xr n a0 v2 h → wX D dA ev (AX dA h0 sz) s h H locs → lv_has ls 3 [(0, .ref a0), (2, .int v2)] → W p l e rm_X3_work s m args below meth c H locs 0 0 (vx_MQ below (va_Qi Qr (BX D dA (AX dA h0 sz)) (AX dA h0 sz)) (XP D dA (AX dA h0 sz) Xr) args s 0 0 (AX dA h0 sz)) (F0 m 65 ls []) := by
  intro n
  induction n with
  | zero => intro a0 v2 h H locs ls hw; exact hw.elim
  | succ n65 ih =>
    intro a0 v2 h H locs ls hw hM hl
    have hx := C.1
    have hb := C.2.1
    have hown := C.2.2.2.2.2.1
    have hts := C.2.2.2.2.2.2.1
    unfold wp_X3_work_65 at hw
    refine lv_iload_n hx hb dX3_work_65 rfl (lv_at hl 1 rfl) ?_
    refine lv_aload_n hx hb dX3_work_66 rfl (lv_at hl 0 rfl) ?_
    have o1 := hw.1
    replace hw := hw.2
    obtain ⟨b2, ebb2, hw⟩ := hw
    refine rX_getRs C hM 2 6 rfl in_X3 (by decide) (by decide) rfl q231 o1 ebb2 dX3_work_67 ?_
    have o3 := hw.1
    replace hw := hw.2
    refine rX_getIN C hM 3 0 rfl in_X4 (by decide) (by decide) rfl q270 o3 dX3_work_70 ?_
    refine lv_icmp_ge (tgt := 121) hx hb dX3_work_73 (by decide) (fun hc => ?_) (fun hc => ?_)
    · replace hw := hw.1 hc
      refine lv_iconst (v := 0) hx hb dX3_work_121 (by decide) ?_
      exact vx_ret (rX_iret C hM ⟨Nat.le_refl _, Nat.le_refl _⟩ hw dX3_work_122)
    · replace hw := hw.2 hc
      refine lv_aload_n hx hb dX3_work_76 rfl (lv_at hl 0 rfl) ?_
      have o4 := hw.1
      replace hw := hw.2
      obtain ⟨b5, ebb5, hw⟩ := hw
      refine rX_getRs C hM 2 2 rfl in_X3 (by decide) (by decide) rfl q227 o4 ebb5 dX3_work_77 ?_
      refine lv_iload_n hx hb dX3_work_80 rfl (lv_at hl 1 rfl) ?_
      have o6 := hw.1
      replace hw := hw.2
      have o7 := hw.1
      replace hw := hw.2
      refine rX_iald C hM o6 o7 dX3_work_81 ?_
      refine lv_if_eq (tgt := 115) hx hb dX3_work_82 (by decide) (fun hc => ?_) (fun hc => ?_)
      · replace hw := hw.1 hc
        exact wk_X3_work_115 C hst hZ htab ih a0 v2 h _ _ ls hw hM (lv_sub hl [0, 1] rfl)
      · replace hw := hw.2 hc
        refine lv_aload_n hx hb dX3_work_85 rfl (lv_at hl 0 rfl) ?_
        have o8 := hw.1
        replace hw := hw.2
        obtain ⟨b9, ebb9, hw⟩ := hw
        refine rX_getRs C hM 2 6 rfl in_X3 (by decide) (by decide) rfl q231 o8 ebb9 dX3_work_86 ?_
        have o10 := hw.1
        replace hw := hw.2
        obtain ⟨b11, ebb11, hw⟩ := hw
        refine rX_getRsN C hM 3 4 rfl in_X4 (by decide) (by decide) rfl q288 o10 ebb11 dX3_work_89 ?_
        refine lv_iload_n hx hb dX3_work_92 rfl (lv_at hl 1 rfl) ?_
        have o12 := hw.1
        replace hw := hw.2
        have o13 := hw.1
        replace hw := hw.2
        obtain ⟨b14, ebb14, hw⟩ := hw
        refine rX_aalds C hM 4 (by decide) (by decide) o12 o13 ebb14 dX3_work_93 ?_
        refine lv_aload_n hx hb dX3_work_94 rfl (lv_at hl 0 rfl) ?_
        have o15 := hw.1
        replace hw := hw.2
        obtain ⟨b16, ebb16, hw⟩ := hw
        refine rX_getRs C hM 2 6 rfl in_X3 (by decide) (by decide) rfl q231 o15 ebb16 dX3_work_95 ?_
        refine lv_dup hx hb dX3_work_98 rfl ?_
        have o17 := hw.1
        replace hw := hw.2
        refine rX_getIN C hM 3 1 rfl in_X4 (by decide) (by decide) rfl q276 o17 dX3_work_99 ?_
        refine lv_topi (fun x18 ex18 => ?_)
        replace hw := hw x18 ex18
        refine lv_dup_x1 hx hb dX3_work_102 rfl rfl ?_
        refine lv_iconst (v := 1) hx hb dX3_work_103 (by decide) ?_
        refine lv_iadd hx hb dX3_work_104 ?_
        have o20 := hw.1
        replace hw := hw.2
        refine rX_putIN C hM 3 1 rfl in_X4 (by decide) (by decide) rfl rfl q276 o20 tyX4 tyX4_ok nmX4 rfl rfl rfl dX3_work_105 (fun h19 H locs eσ hM => ?_)
        replace hw := hw h19 eσ
        clear eσ
        refine lv_aload_n hx hb dX3_work_108 rfl (lv_at hl 0 rfl) ?_
        have o21 := hw.1
        replace hw := hw.2
        obtain ⟨b22, ebb22, hw⟩ := hw
        refine rX_getRs C hM 2 2 rfl in_X3 (by decide) (by decide) rfl q227 o21 ebb22 dX3_work_109 ?_
        refine lv_iload_n hx hb dX3_work_112 rfl (lv_at hl 1 rfl) ?_
        have o23 := hw.1
        replace hw := hw.2
        have o24 := hw.1
        replace hw := hw.2
        refine rX_iald C hM o23 o24 dX3_work_113 ?_
        have o26 := hw.1
        replace hw := hw.2
        have o27 := hw.1
        replace hw := hw.2
        refine rX_iast C hM o26 o27 dX3_work_114 (fun h25 H locs eσ hM => ?_)
        replace hw := hw h25 eσ
        clear eσ
        exact wk_X3_work_115 C hst hZ htab ih a0 v2 h25 _ _ ls hw hM (lv_sub hl [0, 1] rfl)
set_option maxHeartbeats 4000000 in
theorem wk_X3_work_43 {p : Program} {l : Launch} {e : Env} {s : State} {m : MethodId} {args : Array Value} {below : List Frame} {meth : Method} {c : Code} {D : va_G} {dA : Nat → ClassId} {ev : Nat → Nat} {h0 : Hp} {sz : Nat} (C : CxM p s m meth c args (AX dA h0 sz) "LeastSolutions$Reader" cX3_work 3 (some .int)) (hst : l.stackTraces = false) (hZ : ZX (AX dA h0 sz) s s.heap) (htab : c.exceptionTable.toList = tableOf [(22, 40, 43, 9)]) {Qr : Int32 → Hp → Prop} {Xr : String → Hp → Prop} : ∀ (a0 : Nat) (u0 : Nat) (h : Hp) (H : Heap) (locs : List Loc) (ls : Array Slot), wp_X3_work_43 ev Qr Xr a0 u0 h → wX D dA ev (AX dA h0 sz) s h H locs → lv_has ls 3 [(0, .ref a0)] → W p l e rm_X3_work s m args below meth c H locs 0 0 (vx_MQ below (va_Qi Qr (BX D dA (AX dA h0 sz)) (AX dA h0 sz)) (XP D dA (AX dA h0 sz) Xr) args s 0 0 (AX dA h0 sz)) (F0 m 43 ls [.ref u0]) := by
  intro a0 u0 h H locs ls hw hM hl
  have hx := C.1
  have hb := C.2.1
  have hown := C.2.2.2.2.2.1
  have hts := C.2.2.2.2.2.2.1
  unfold wp_X3_work_43 at hw
  refine lv_astore_n (lv' := [(2, .ref u0), (0, .ref a0)]) hx hb dX3_work_43 rfl hl (by decide) rfl (fun ls hl => ?_)
  refine lv_aload_n hx hb dX3_work_44 rfl (lv_at hl 1 rfl) ?_
  have o1 := hw.1
  replace hw := hw.2
  refine rX_getI C hM 2 8 rfl in_X3 (by decide) (by decide) rfl q233 o1 dX3_work_45 ?_
  exact vx_ret (rX_iret C hM ⟨Nat.le_refl _, Nat.le_refl _⟩ hw dX3_work_48)
set_option maxHeartbeats 4000000 in
/-- LeastSolutions$Reader.work(LLeastSolutions$Model;)I -/
theorem mt_X3_work (l : Launch) (hst : l.stackTraces = false) (D : va_G) (dA : Nat → ClassId) (ev : Nat → Nat) (sz : Nat) (h : Hp) (a0 : Nat) (p1 : Nat) (Qr : Int32 → Hp → Prop) (Xr : String → Hp → Prop) (hw : wp_X3_work ev h a0 p1 Qr Xr) : vx_Met l yX3_work (wsW_ yX3_work cX3_work 3 (some .int) [(22, 40, 43, 9)]) rm_X3_work (PcZ D dA ev h sz [.ref a0, .ref p1]) (va_Qi Qr (BX D dA (AX dA h sz)) (AX dA h sz)) (XP D dA (AX dA h sz) Xr) 0 0 (AX dA h sz) := by
  refine vx_ofWH (cc := cX3_work) (maxL := 3) (ret := (some .int)) (hh := [(22, 40, 43, 9)]) (by decide) rfl ?_
  intro p e s m args below meth c s₁ B hml hv
  obtain ⟨rfl, ⟨hsz, hP, hK, hD0, hE⟩, hZ⟩ := hv
  subst hsz
  have hts0 := atoms_spec (ws := wsW_ yX3_work cX3_work 3 (some .int) [(22, 40, 43, 9)]) B.pre
  have C : CxM p s m meth c _ (AX dA h s.heap.size) "LeastSolutions$Reader" cX3_work 3 (some .int) := ⟨B.exec, B.bytes, B.returns, B.notSynchronized, hml, findClass_of_methodNamed B.named, fun w h => hts0 w (List.mem_cons_of_mem _ h), fun q h => Or.inr h⟩
  have htab := vx_table (x := yX3_work) B (hts0 _ List.mem_cons_self)
  have hM : wX D dA ev (AX dA h s.heap.size) s h s.heap [] := ⟨hK, hP, hD0.self, va_S.rf, hE⟩
  have hx := C.1
  have hb := C.2.1
  have hown := C.2.2.2.2.2.1
  have hts := C.2.2.2.2.2.2.1
  have hl := lv_entry ([.ref a0, .ref p1]) (n := 3) (Nat.le_of_ble_eq_true rfl)
  rw [lg_entry_eq]
  generalize (lg_sl ([.ref a0, .ref p1]) ++ List.replicate (3 - (lg_sl ([.ref a0, .ref p1])).length) Slot.unset).toArray = ls at hl ⊢
  have hl : lv_has ls 3 [(0, .ref a0), (1, .ref p1)] := hl
  unfold wp_X3_work at hw
  refine lv_aload_n hx hb dX3_work_0 rfl (lv_at hl 0 rfl) ?_
  refine lv_aload_n hx hb dX3_work_1 rfl (lv_at hl 1 rfl) ?_
  have o2 := hw.1
  replace hw := hw.2
  refine rX_putR C hM 2 6 rfl in_X3 (by decide) (by decide) rfl rfl q231 o2 (x := (some p1)) tyX3 tyX3_ok nmX3 rfl rfl rfl dX3_work_2 (fun h1 H locs eσ hM => ?_)
  replace hw := hw h1 eσ
  clear eσ
  refine lv_aload_n hx hb dX3_work_5 rfl (lv_at hl 0 rfl) ?_
  refine lv_iconst (v := 0) hx hb dX3_work_6 (by decide) ?_
  have o4 := hw.1
  replace hw := hw.2
  refine rX_putI C hM 2 8 rfl in_X3 (by decide) (by decide) rfl rfl q233 o4 tyX3 tyX3_ok nmX3 rfl rfl rfl dX3_work_7 (fun h3 H locs eσ hM => ?_)
  replace hw := hw h3 eσ
  clear eσ
  refine lv_aload_n hx hb dX3_work_10 rfl (lv_at hl 0 rfl) ?_
  have o5 := hw.1
  replace hw := hw.2
  obtain ⟨b6, ebb6, hw⟩ := hw
  refine rX_getRs C hM 2 6 rfl in_X3 (by decide) (by decide) rfl q231 o5 ebb6 dX3_work_11 ?_
  have o8 := hw.1
  replace hw := hw.2
  refine rX_gov C hM (runX_V C hM hl.1 3 0 (As := []) rfl (by decide) o8 (mt_X4_clear l D dA ev _ h3 b6  _ hw) (lw_V q527 q528 q529 q84 q530) rfl rfl (by decide +kernel) ⟨Nat.le_of_ble_eq_true rfl, Nat.le_of_ble_eq_true rfl⟩ rfl (Nat.le_of_ble_eq_true rfl) rfl dX3_work_14 ⟨Nat.le_refl _, Nat.le_refl _⟩) (fun h7 H locs hw hM => ?_)
  refine lv_aload_n hx hb dX3_work_17 rfl (lv_at hl 0 rfl) ?_
  refine lv_iconst (v := 0) hx hb dX3_work_18 (by decide) ?_
  have o11 := hw.1
  replace hw := hw.2
  refine rX_putI C hM 2 3 rfl in_X3 (by decide) (by decide) rfl rfl q228 o11 tyX3 tyX3_ok nmX3 rfl rfl rfl dX3_work_19 (fun h10 H locs eσ hM => ?_)
  replace hw := hw h10 eσ
  clear eσ
  refine lv_aload_n hx hb dX3_work_22 rfl (lv_at hl 0 rfl) ?_
  refine lv_iconst (v := 0) hx hb dX3_work_23 (by decide) ?_
  have o13 := hw.1
  replace hw := hw.2
  refine rX_putI C hM 2 7 rfl in_X3 (by decide) (by decide) rfl rfl q232 o13 tyX3 tyX3_ok nmX3 rfl (isB_n isB_0) (isB_f isB_0) dX3_work_24 (fun h12 H locs eσ hM => ?_)
  replace hw := hw h12 eσ
  clear eσ
  refine lv_aload_n hx hb dX3_work_27 rfl (lv_at hl 0 rfl) ?_
  have o15 := hw.1
  replace hw := hw.2
  refine rZ_gov C hM (runZ_V C hM hZ hl.1 2 0 (As := []) rfl (by decide) o15 (mt_X3_system l hst D dA ev _ h12 a0  _ _ hw) (lw_V q531 q533 qs1 q79 q534) rfl rfl (by decide +kernel) ⟨Nat.le_of_ble_eq_true rfl, Nat.le_of_ble_eq_true rfl⟩ rfl (Nat.le_of_ble_eq_true rfl) rfl dX3_work_28 ⟨Nat.le_refl _, Nat.le_refl _⟩) (fun E ce q9 h16 H locs hw hM g1 g2 g3 => ?_) (fun h14 H locs hw hM => ?_)
  · skip
    by_cases hc0 : E = eIAE
    · replace hw := hw.1 hc0 q9
      subst hc0
      refine rZ_catch C hM [] (22, 40, 43, 9) [] htab (fun _ h => nomatch h) ⟨by decide, by decide⟩ (by decide) q159 q161 g1 g2 g3 ?_
      exact wk_X3_work_43 C hst hZ htab  a0 q9 h16 _ _ ls hw hM (lv_sub hl [0] rfl)
    · replace hw := hw.2 hc0
      exact hw.elim
  · skip
    refine lv_aload_n hx hb dX3_work_31 rfl (lv_at hl 0 rfl) ?_
    refine lv_iconst (v := 1) hx hb dX3_work_32 (by decide) ?_
    have o18 := hw.1
    replace hw := hw.2
    refine rX_putI C hM 2 7 rfl in_X3 (by decide) (by decide) rfl rfl q232 o18 tyX3 tyX3_ok nmX3 rfl (isB_n isB_1) (isB_f isB_1) dX3_work_33 (fun h17 H locs eσ hM => ?_)
    replace hw := hw h17 eσ
    clear eσ
    refine lv_aload_n hx hb dX3_work_36 rfl (lv_at hl 0 rfl) ?_
    have o20 := hw.1
    replace hw := hw.2
    refine rZ_gov C hM (runZ_V C hM hZ hl.1 2 0 (As := []) rfl (by decide) o20 (mt_X3_system l hst D dA ev _ h17 a0  _ _ hw) (lw_V q531 q533 qs1 q79 q534) rfl rfl (by decide +kernel) ⟨Nat.le_of_ble_eq_true rfl, Nat.le_of_ble_eq_true rfl⟩ rfl (Nat.le_of_ble_eq_true rfl) rfl dX3_work_37 ⟨Nat.le_refl _, Nat.le_refl _⟩) (fun E ce q9 h21 H locs hw hM g1 g2 g3 => ?_) (fun h19 H locs hw hM => ?_)
    · skip
      by_cases hc0 : E = eIAE
      · replace hw := hw.1 hc0 q9
        subst hc0
        refine rZ_catch C hM [] (22, 40, 43, 9) [] htab (fun _ h => nomatch h) ⟨by decide, by decide⟩ (by decide) q159 q161 g1 g2 g3 ?_
        exact wk_X3_work_43 C hst hZ htab  a0 q9 h21 _ _ ls hw hM (lv_sub hl [0] rfl)
      · replace hw := hw.2 hc0
        exact hw.elim
    · skip
      refine lv_goto (tgt := 49) hx hb dX3_work_40 (by decide) ?_
      refine lv_aload_n hx hb dX3_work_49 rfl (lv_at hl 0 rfl) ?_
      have o22 := hw.1
      replace hw := hw.2
      obtain ⟨b23, ebb23, hw⟩ := hw
      refine rX_getRs C hM 2 6 rfl in_X3 (by decide) (by decide) rfl q231 o22 ebb23 dX3_work_50 ?_
      refine lv_aload_n hx hb dX3_work_53 rfl (lv_at hl 0 rfl) ?_
      have o24 := hw.1
      replace hw := hw.2
      obtain ⟨b25, ebb25, hw⟩ := hw
      refine rX_getRs C hM 2 6 rfl in_X3 (by decide) (by decide) rfl q231 o24 ebb25 dX3_work_54 ?_
      have o26 := hw.1
      replace hw := hw.2
      refine rX_getIN C hM 3 2 rfl in_X4 (by decide) (by decide) rfl q279 o26 dX3_work_57 ?_
      have o28 := hw.1
      replace hw := hw.2
      refine rX_putIN C hM 3 1 rfl in_X4 (by decide) (by decide) rfl rfl q276 o28 tyX4 tyX4_ok nmX4 rfl rfl rfl dX3_work_60 (fun h27 H locs eσ hM => ?_)
      replace hw := hw h27 eσ
      clear eσ
      refine lv_iconst (v := 0) hx hb dX3_work_63 (by decide) ?_
      refine lv_istore_n (lv' := [(2, .int 0), (0, .ref a0), (1, .ref p1)]) hx hb dX3_work_64 rfl hl (by decide) rfl (fun ls hl => ?_)
      obtain ⟨n65, hw⟩ := hw
      exact wk_X3_work_65 C hst hZ htab  n65 a0 0 h27 _ _ ls hw hM (lv_sub hl [1, 0] rfl)
abbrev rm_X1_needSystem (MC MS : Nat) : Room := { frames := 6, cells := MC, slots := MS, locals := 110 }
set_option maxHeartbeats 4000000 in
/-- LeastSolutions.needSystem()V -/
theorem mt_X1_needSystem (l : Launch) (hst : l.stackTraces = false) (D : va_G) (dA : Nat → ClassId) (ev : Nat → Nat) (sz : Nat) (h : Hp) (a0 : Nat) (MC MS : Nat) (Qr : Hp → Prop) (Xr : String → Hp → Prop) (hw : wp_X1_needSystem ev h a0 MC MS Qr Xr) : vx_Met l yX1_needSystem (ws_ yX1_needSystem cX1_needSystem 1 none) (rm_X1_needSystem MC MS) (PcZ D dA ev h sz [.ref a0]) (va_Qv Qr (BX D dA (AX dA h sz)) (AX dA h sz)) (XP D dA (AX dA h sz) Xr) MC MS (AX dA h sz) := by
  refine vx_ofW (cc := cX1_needSystem) (maxL := 1) (ret := none) (by decide) rfl ?_
  intro p e s m args below meth c s₁ B hml htab hv
  obtain ⟨rfl, ⟨hsz, hP, hK, hD0, hE⟩, hZ⟩ := hv
  subst hsz
  have hts0 := atoms_spec (ws := ws_ yX1_needSystem cX1_needSystem 1 none) B.pre
  have C : CxM p s m meth c _ (AX dA h s.heap.size) "LeastSolutions" cX1_needSystem 1 none := ⟨B.exec, B.bytes, B.returns, B.notSynchronized, hml, findClass_of_methodNamed B.named, fun w h => hts0 w (List.mem_cons_of_mem _ h), fun q h => Or.inr h⟩
  have hM : wX D dA ev (AX dA h s.heap.size) s h s.heap [] := ⟨hK, hP, hD0.self, va_S.rf, hE⟩
  have hx := C.1
  have hb := C.2.1
  have hown := C.2.2.2.2.2.1
  have hts := C.2.2.2.2.2.2.1
  have hl := lv_entry ([.ref a0]) (n := 1) (Nat.le_of_ble_eq_true rfl)
  rw [lg_entry_eq]
  generalize (lg_sl ([.ref a0]) ++ List.replicate (1 - (lg_sl ([.ref a0])).length) Slot.unset).toArray = ls at hl ⊢
  have hl : lv_has ls 1 [(0, .ref a0)] := hl
  have hbud : 0 + MC ≤ MC ∧ 0 + MS ≤ MS := ⟨by omega, by omega⟩
  unfold wp_X1_needSystem at hw
  refine lv_aload_n hx hb dX1_needSystem_0 rfl (lv_at hl 0 rfl) ?_
  have o1 := hw.1
  replace hw := hw.2
  refine rX_getI C hM 0 8 rfl in_X1 (by decide) (by decide) rfl q471 o1 dX1_needSystem_1 ?_
  refine lv_if_ne (tgt := 15) hx hb dX1_needSystem_4 (by decide) (fun hc => ?_) (fun hc => ?_)
  · replace hw := hw.1 hc
    exact vx_ret (rX_vret C hM ⟨by show 0 ≤ MC; omega, by show 0 ≤ MS; omega⟩ hw dX1_needSystem_15)
  · replace hw := hw.2 hc
    obtain ⟨mc2, ms3, emc2, ems3, hw⟩ := hw
    exact rZ_throw (cls := eISE) hst C hM hZ hl.1 (by decide +kernel) atk_ise _ at_ise atg_ise.1 atg_ise.2 (fun x hx => (htab x hx).elim) ⟨Nat.le_of_ble_eq_true rfl, Nat.le_of_ble_eq_true rfl, by show 0 + 1 ≤ MC; omega, by show 0 + 6 ≤ MS; omega⟩ ⟨by show 0 + 1 ≤ MC; omega, by show 0 + 6 ≤ MS; omega⟩ hw dX1_needSystem_7 dX1_needSystem_10 dX1_needSystem_11 dX1_needSystem_14
abbrev rm_X1_needNumber (MC MS : Nat) : Room := { frames := 6, cells := MC, slots := MS, locals := 110 }
set_option maxHeartbeats 4000000 in
theorem wk_X1_needNumber_12 {p : Program} {l : Launch} {e : Env} {s : State} {m : MethodId} {args : Array Value} {below : List Frame} {meth : Method} {c : Code} {D : va_G} {dA : Nat → ClassId} {ev : Nat → Nat} {h0 : Hp} {sz : Nat} {MC MS : Nat} (C : CxM p s m meth c args (AX dA h0 sz) "LeastSolutions" cX1_needNumber 1 none) (hst : l.stackTraces = false) (hZ : ZX (AX dA h0 sz) s s.heap) (htab : ∀ x ∈ c.exceptionTable.toList, False) {Qr : Hp → Prop} {Xr : String → Hp → Prop} : ∀ (h : Hp) (mc ms : Nat) (cells slots : Nat) (H : Heap) (locs : List Loc) (ls : Array Slot), wp_X1_needNumber_12 ev Qr Xr h mc ms → wX D dA ev (AX dA h0 sz) s h H locs → cells + mc ≤ MC ∧ slots + ms ≤ MS → lv_has ls 1 [] → W p l e (rm_X1_needNumber MC MS) s m args below meth c H locs cells slots (vx_MQ below (va_Qv Qr (BX D dA (AX dA h0 sz)) (AX dA h0 sz)) (XP D dA (AX dA h0 sz) Xr) args s MC MS (AX dA h0 sz)) (F0 m 12 ls []) := by
  intro h mc ms cells slots H locs ls hw hM hbud hl
  have hx := C.1
  have hb := C.2.1
  have hown := C.2.2.2.2.2.1
  have hts := C.2.2.2.2.2.2.1
  unfold wp_X1_needNumber_12 at hw
  obtain ⟨mc1, ms2, emc1, ems2, hw⟩ := hw
  exact rZ_throw (cls := eIAE) hst C hM hZ hl.1 (by decide +kernel) atk_iae _ at_iae atg_iae.1 atg_iae.2 (fun x hx => (htab x hx).elim) ⟨Nat.le_of_ble_eq_true rfl, Nat.le_of_ble_eq_true rfl, by show cells + 1 ≤ MC; omega, by show slots + 6 ≤ MS; omega⟩ ⟨by show cells + 1 ≤ MC; omega, by show slots + 6 ≤ MS; omega⟩ hw dX1_needNumber_12 dX1_needNumber_15 dX1_needNumber_16 dX1_needNumber_19
set_option maxHeartbeats 4000000 in
/-- LeastSolutions.needNumber(I)V -/
theorem mt_X1_needNumber (l : Launch) (hst : l.stackTraces = false) (D : va_G) (dA : Nat → ClassId) (ev : Nat → Nat) (sz : Nat) (h : Hp) (p0 : Int32) (MC MS : Nat) (Qr : Hp → Prop) (Xr : String → Hp → Prop) (hw : wp_X1_needNumber ev h p0 MC MS Qr Xr) : vx_Met l yX1_needNumber (ws_ yX1_needNumber cX1_needNumber 1 none) (rm_X1_needNumber MC MS) (PcZ D dA ev h sz [.int p0]) (va_Qv Qr (BX D dA (AX dA h sz)) (AX dA h sz)) (XP D dA (AX dA h sz) Xr) MC MS (AX dA h sz) := by
  refine vx_ofW (cc := cX1_needNumber) (maxL := 1) (ret := none) (by decide) rfl ?_
  intro p e s m args below meth c s₁ B hml htab hv
  obtain ⟨rfl, ⟨hsz, hP, hK, hD0, hE⟩, hZ⟩ := hv
  subst hsz
  have hts0 := atoms_spec (ws := ws_ yX1_needNumber cX1_needNumber 1 none) B.pre
  have C : CxM p s m meth c _ (AX dA h s.heap.size) "LeastSolutions" cX1_needNumber 1 none := ⟨B.exec, B.bytes, B.returns, B.notSynchronized, hml, findClass_of_methodNamed B.named, fun w h => hts0 w (List.mem_cons_of_mem _ h), fun q h => Or.inr h⟩
  have hM : wX D dA ev (AX dA h s.heap.size) s h s.heap [] := ⟨hK, hP, hD0.self, va_S.rf, hE⟩
  have hx := C.1
  have hb := C.2.1
  have hown := C.2.2.2.2.2.1
  have hts := C.2.2.2.2.2.2.1
  have hl := lv_entry ([.int p0]) (n := 1) (Nat.le_of_ble_eq_true rfl)
  rw [lg_entry_eq]
  generalize (lg_sl ([.int p0]) ++ List.replicate (1 - (lg_sl ([.int p0])).length) Slot.unset).toArray = ls at hl ⊢
  have hl : lv_has ls 1 [(0, .int p0)] := hl
  have hbud : 0 + MC ≤ MC ∧ 0 + MS ≤ MS := ⟨by omega, by omega⟩
  unfold wp_X1_needNumber at hw
  refine lv_iload_n hx hb dX1_needNumber_0 rfl (lv_at hl 0 rfl) ?_
  refine lv_bipush (v := (-99)) hx hb dX1_needNumber_1 (by decide) ?_
  refine lv_icmp_lt (tgt := 12) hx hb dX1_needNumber_3 (by decide) (fun hc => ?_) (fun hc => ?_)
  · replace hw := hw.1 hc
    exact wk_X1_needNumber_12 C hst hZ htab   h MC MS _ _ _ _ ls hw hM hbud (lv_sub hl [] rfl)
  · replace hw := hw.2 hc
    refine lv_iload_n hx hb dX1_needNumber_6 rfl (lv_at hl 0 rfl) ?_
    refine lv_bipush (v := 99) hx hb dX1_needNumber_7 (by decide) ?_
    refine lv_icmp_le (tgt := 20) hx hb dX1_needNumber_9 (by decide) (fun hc => ?_) (fun hc => ?_)
    · replace hw := hw.1 hc
      exact vx_ret (rX_vret C hM ⟨by show 0 ≤ MC; omega, by show 0 ≤ MS; omega⟩ hw dX1_needNumber_20)
    · replace hw := hw.2 hc
      exact wk_X1_needNumber_12 C hst hZ htab   h MC MS _ _ _ _ ls hw hM hbud (lv_sub hl [] rfl)
abbrev rm_X1_number (MC MS : Nat) : Room := { frames := 6, cells := MC, slots := MS, locals := 110 }
set_option maxHeartbeats 4000000 in
theorem wk_X1_number_72 {p : Program} {l : Launch} {e : Env} {s : State} {m : MethodId} {args : Array Value} {below : List Frame} {meth : Method} {c : Code} {D : va_G} {dA : Nat → ClassId} {ev : Nat → Nat} {h0 : Hp} {sz : Nat} {MC MS : Nat} (C : CxM p s m meth c args (AX dA h0 sz) "LeastSolutions" cX1_number 3 (some .int)) (hst : l.stackTraces = false) (hZ : ZX (AX dA h0 sz) s s.heap) (htab : ∀ x ∈ c.exceptionTable.toList, False) {Qr : Int32 → Hp → Prop} {Xr : String → Hp → Prop} : ∀ (a0 : Nat) (u0 : Int32) (h : Hp) (mc ms : Nat) (cells slots : Nat) (H : Heap) (locs : List Loc) (ls : Array Slot), wp_X1_number_72 ev Qr Xr a0 u0 h mc ms → wX D dA ev (AX dA h0 sz) s h H locs → cells + mc ≤ MC ∧ slots + ms ≤ MS → lv_has ls 3 [(0, .ref a0)] → W p l e (rm_X1_number MC MS) s m args below meth c H locs cells slots (vx_MQ below (va_Qi Qr (BX D dA (AX dA h0 sz)) (AX dA h0 sz)) (XP D dA (AX dA h0 sz) Xr) args s MC MS (AX dA h0 sz)) (F0 m 72 ls [.int u0]) := by
  intro a0 u0 h mc ms cells slots H locs ls hw hM hbud hl
  have hx := C.1
  have hb := C.2.1
  have hown := C.2.2.2.2.2.1
  have hts := C.2.2.2.2.2.2.1
  unfold wp_X1_number_72 at hw
  exact vx_ret (rX_iret C hM ⟨by show cells ≤ MC; omega, by show slots ≤ MS; omega⟩ hw dX1_number_72)
set_option maxHeartbeats 4000000 in
theorem wk_X1_number_30 {p : Program} {l : Launch} {e : Env} {s : State} {m : MethodId} {args : Array Value} {below : List Frame} {meth : Method} {c : Code} {D : va_G} {dA : Nat → ClassId} {ev : Nat → Nat} {h0 : Hp} {sz : Nat} {MC MS : Nat} (C : CxM p s m meth c args (AX dA h0 sz) "LeastSolutions" cX1_number 3 (some .int)) (hst : l.stackTraces = false) (hZ : ZX (AX dA h0 sz) s s.heap) (htab : ∀ x ∈ c.exceptionTable.toList, False) {Qr : Int32 → Hp → Prop} {Xr : String → Hp → Prop} : ∀ (a0 : Nat) (h : Hp) (mc ms : Nat) (cells slots : Nat) (H : Heap) (locs : List Loc) (ls : Array Slot), wp_X1_number_30 ev Qr Xr a0 h mc ms → wX D dA ev (AX dA h0 sz) s h H locs → cells + mc ≤ MC ∧ slots + ms ≤ MS → lv_has ls 3 [(0, .ref a0)] → W p l e (rm_X1_number MC MS) s m args below meth c H locs cells slots (vx_MQ below (va_Qi Qr (BX D dA (AX dA h0 sz)) (AX dA h0 sz)) (XP D dA (AX dA h0 sz) Xr) args s MC MS (AX dA h0 sz)) (F0 m 30 ls []) := by
  intro a0 h mc ms cells slots H locs ls hw hM hbud hl
  have hx := C.1
  have hb := C.2.1
  have hown := C.2.2.2.2.2.1
  have hts := C.2.2.2.2.2.2.1
  unfold wp_X1_number_30 at hw
  obtain ⟨mc1, ms2, emc1, ems2, hw⟩ := hw
  exact rZ_throw (cls := eIOB) hst C hM hZ hl.1 (by decide +kernel) atk_iob _ at_iob atg_iob.1 atg_iob.2 (fun x hx => (htab x hx).elim) ⟨Nat.le_of_ble_eq_true rfl, Nat.le_of_ble_eq_true rfl, by show cells + 1 ≤ MC; omega, by show slots + 6 ≤ MS; omega⟩ ⟨by show cells + 1 ≤ MC; omega, by show slots + 6 ≤ MS; omega⟩ hw dX1_number_30 dX1_number_33 dX1_number_34 dX1_number_37
set_option maxHeartbeats 4000000 in
/-- LeastSolutions.number(II)I -/
theorem mt_X1_number (l : Launch) (hst : l.stackTraces = false) (D : va_G) (dA : Nat → ClassId) (ev : Nat → Nat) (sz : Nat) (h : Hp) (a0 : Nat) (p1 : Int32) (p2 : Int32) (MC MS : Nat) (Qr : Int32 → Hp → Prop) (Xr : String → Hp → Prop) (hw : wp_X1_number ev h a0 p1 p2 MC MS Qr Xr) : vx_Met l yX1_number (ws_ yX1_number cX1_number 3 (some .int)) (rm_X1_number MC MS) (PcZ D dA ev h sz [.ref a0, .int p1, .int p2]) (va_Qi Qr (BX D dA (AX dA h sz)) (AX dA h sz)) (XP D dA (AX dA h sz) Xr) MC MS (AX dA h sz) := by
  refine vx_ofW (cc := cX1_number) (maxL := 3) (ret := (some .int)) (by decide) rfl ?_
  intro p e s m args below meth c s₁ B hml htab hv
  obtain ⟨rfl, ⟨hsz, hP, hK, hD0, hE⟩, hZ⟩ := hv
  subst hsz
  have hts0 := atoms_spec (ws := ws_ yX1_number cX1_number 3 (some .int)) B.pre
  have C : CxM p s m meth c _ (AX dA h s.heap.size) "LeastSolutions" cX1_number 3 (some .int) := ⟨B.exec, B.bytes, B.returns, B.notSynchronized, hml, findClass_of_methodNamed B.named, fun w h => hts0 w (List.mem_cons_of_mem _ h), fun q h => Or.inr h⟩
  have hM : wX D dA ev (AX dA h s.heap.size) s h s.heap [] := ⟨hK, hP, hD0.self, va_S.rf, hE⟩
  have hx := C.1
  have hb := C.2.1
  have hown := C.2.2.2.2.2.1
  have hts := C.2.2.2.2.2.2.1
  have hl := lv_entry ([.ref a0, .int p1, .int p2]) (n := 3) (Nat.le_of_ble_eq_true rfl)
  rw [lg_entry_eq]
  generalize (lg_sl ([.ref a0, .int p1, .int p2]) ++ List.replicate (3 - (lg_sl ([.ref a0, .int p1, .int p2])).length) Slot.unset).toArray = ls at hl ⊢
  have hl : lv_has ls 3 [(0, .ref a0), (1, .int p1), (2, .int p2)] := hl
  have hbud : 0 + MC ≤ MC ∧ 0 + MS ≤ MS := ⟨by omega, by omega⟩
  unfold wp_X1_number at hw
  refine lv_iload_n hx hb dX1_number_0 rfl (lv_at hl 1 rfl) ?_
  refine lv_if_lt (tgt := 30) hx hb dX1_number_1 (by decide) (fun hc => ?_) (fun hc => ?_)
  · replace hw := hw.1 hc
    exact wk_X1_number_30 C hst hZ htab  a0 h MC MS _ _ _ _ ls hw hM hbud (lv_sub hl [0] rfl)
  · replace hw := hw.2 hc
    refine lv_iload_n hx hb dX1_number_4 rfl (lv_at hl 1 rfl) ?_
    refine lv_aload_n hx hb dX1_number_5 rfl (lv_at hl 0 rfl) ?_
    have o1 := hw.1
    replace hw := hw.2
    obtain ⟨b2, ebb2, hw⟩ := hw
    refine rX_getRs C hM 0 2 rfl in_X1 (by decide) (by decide) rfl q465 o1 ebb2 dX1_number_6 ?_
    have o3 := hw.1
    replace hw := hw.2
    refine rX_getIN C hM 3 0 rfl in_X4 (by decide) (by decide) rfl q271 o3 dX1_number_9 ?_
    refine lv_icmp_ge (tgt := 30) hx hb dX1_number_12 (by decide) (fun hc => ?_) (fun hc => ?_)
    · replace hw := hw.1 hc
      exact wk_X1_number_30 C hst hZ htab  a0 h MC MS _ _ _ _ ls hw hM hbud (lv_sub hl [0] rfl)
    · replace hw := hw.2 hc
      refine lv_iload_n hx hb dX1_number_15 rfl (lv_at hl 2 rfl) ?_
      refine lv_if_lt (tgt := 30) hx hb dX1_number_16 (by decide) (fun hc => ?_) (fun hc => ?_)
      · replace hw := hw.1 hc
        exact wk_X1_number_30 C hst hZ htab  a0 h MC MS _ _ _ _ ls hw hM hbud (lv_sub hl [0] rfl)
      · replace hw := hw.2 hc
        refine lv_iload_n hx hb dX1_number_19 rfl (lv_at hl 2 rfl) ?_
        refine lv_aload_n hx hb dX1_number_20 rfl (lv_at hl 0 rfl) ?_
        have o4 := hw.1
        replace hw := hw.2
        obtain ⟨b5, ebb5, hw⟩ := hw
        refine rX_getRs C hM 0 2 rfl in_X1 (by decide) (by decide) rfl q465 o4 ebb5 dX1_number_21 ?_
        have o6 := hw.1
        replace hw := hw.2
        refine rX_getIN C hM 3 1 rfl in_X4 (by decide) (by decide) rfl q277 o6 dX1_number_24 ?_
        refine lv_icmp_le (tgt := 38) hx hb dX1_number_27 (by decide) (fun hc => ?_) (fun hc => ?_)
        · replace hw := hw.1 hc
          refine lv_iload_n hx hb dX1_number_38 rfl (lv_at hl 2 rfl) ?_
          refine lv_aload_n hx hb dX1_number_39 rfl (lv_at hl 0 rfl) ?_
          have o7 := hw.1
          replace hw := hw.2
          obtain ⟨b8, ebb8, hw⟩ := hw
          refine rX_getRs C hM 0 2 rfl in_X1 (by decide) (by decide) rfl q465 o7 ebb8 dX1_number_40 ?_
          have o9 := hw.1
          replace hw := hw.2
          refine rX_getIN C hM 3 1 rfl in_X4 (by decide) (by decide) rfl q277 o9 dX1_number_43 ?_
          refine lv_icmp_ne (tgt := 61) hx hb dX1_number_46 (by decide) (fun hc => ?_) (fun hc => ?_)
          · replace hw := hw.1 hc
            refine lv_aload_n hx hb dX1_number_61 rfl (lv_at hl 0 rfl) ?_
            have o10 := hw.1
            replace hw := hw.2
            obtain ⟨b11, ebb11, hw⟩ := hw
            refine rX_getRs C hM 0 2 rfl in_X1 (by decide) (by decide) rfl q465 o10 ebb11 dX1_number_62 ?_
            have o12 := hw.1
            replace hw := hw.2
            obtain ⟨b13, ebb13, hw⟩ := hw
            refine rX_getRsN C hM 3 4 rfl in_X4 (by decide) (by decide) rfl q289 o12 ebb13 dX1_number_65 ?_
            refine lv_iload_n hx hb dX1_number_68 rfl (lv_at hl 1 rfl) ?_
            have o14 := hw.1
            replace hw := hw.2
            have o15 := hw.1
            replace hw := hw.2
            obtain ⟨b16, ebb16, hw⟩ := hw
            refine rX_aalds C hM 4 (by decide) (by decide) o14 o15 ebb16 dX1_number_69 ?_
            refine lv_iload_n hx hb dX1_number_70 rfl (lv_at hl 2 rfl) ?_
            have o17 := hw.1
            replace hw := hw.2
            have o18 := hw.1
            replace hw := hw.2
            refine rX_iald C hM o17 o18 dX1_number_71 ?_
            exact wk_X1_number_72 C hst hZ htab  a0 ((hA h b16 p2)) h MC MS _ _ _ _ ls hw hM hbud (lv_sub hl [0] rfl)
          · replace hw := hw.2 hc
            refine lv_aload_n hx hb dX1_number_49 rfl (lv_at hl 0 rfl) ?_
            have o19 := hw.1
            replace hw := hw.2
            obtain ⟨b20, ebb20, hw⟩ := hw
            refine rX_getRs C hM 0 2 rfl in_X1 (by decide) (by decide) rfl q465 o19 ebb20 dX1_number_50 ?_
            have o21 := hw.1
            replace hw := hw.2
            obtain ⟨b22, ebb22, hw⟩ := hw
            refine rX_getRsN C hM 3 5 rfl in_X4 (by decide) (by decide) rfl q294 o21 ebb22 dX1_number_53 ?_
            refine lv_iload_n hx hb dX1_number_56 rfl (lv_at hl 1 rfl) ?_
            have o23 := hw.1
            replace hw := hw.2
            have o24 := hw.1
            replace hw := hw.2
            refine rX_iald C hM o23 o24 dX1_number_57 ?_
            refine lv_goto (tgt := 72) hx hb dX1_number_58 (by decide) ?_
            exact wk_X1_number_72 C hst hZ htab  a0 ((hA h b22 p1)) h MC MS _ _ _ _ ls hw hM hbud (lv_sub hl [0] rfl)
        · replace hw := hw.2 hc
          exact wk_X1_number_30 C hst hZ htab  a0 h MC MS _ _ _ _ ls hw hM hbud (lv_sub hl [0] rfl)
abbrev rm_X1_solvable (MC MS : Nat) : Room := { frames := 7, cells := MC, slots := MS, locals := 130 }
set_option maxHeartbeats 4000000 in
theorem wk_X1_solvable_19 {p : Program} {l : Launch} {e : Env} {s : State} {m : MethodId} {args : Array Value} {below : List Frame} {meth : Method} {c : Code} {D : va_G} {dA : Nat → ClassId} {ev : Nat → Nat} {h0 : Hp} {sz : Nat} {MC MS : Nat} (C : CxM p s m meth c args (AX dA h0 sz) "LeastSolutions" cX1_solvable 1 (some .int)) (hst : l.stackTraces = false) (hZ : ZX (AX dA h0 sz) s s.heap) (htab : ∀ x ∈ c.exceptionTable.toList, False) {Qr : Int32 → Hp → Prop} {Xr : String → Hp → Prop} : ∀ (a0 : Nat) (u0 : Int32) (h : Hp) (mc ms : Nat) (cells slots : Nat) (H : Heap) (locs : List Loc) (ls : Array Slot), wp_X1_solvable_19 ev Qr Xr a0 u0 h mc ms → wX D dA ev (AX dA h0 sz) s h H locs → cells + mc ≤ MC ∧ slots + ms ≤ MS → lv_has ls 1 [(0, .ref a0)] → W p l e (rm_X1_solvable MC MS) s m args below meth c H locs cells slots (vx_MQ below (va_Qi Qr (BX D dA (AX dA h0 sz)) (AX dA h0 sz)) (XP D dA (AX dA h0 sz) Xr) args s MC MS (AX dA h0 sz)) (F0 m 19 ls [.int u0]) := by
  intro a0 u0 h mc ms cells slots H locs ls hw hM hbud hl
  have hx := C.1
  have hb := C.2.1
  have hown := C.2.2.2.2.2.1
  have hts := C.2.2.2.2.2.2.1
  unfold wp_X1_solvable_19 at hw
  exact vx_ret (rX_iret C hM ⟨by show cells ≤ MC; omega, by show slots ≤ MS; omega⟩ hw dX1_solvable_19)
set_option maxHeartbeats 4000000 in
/-- LeastSolutions.solvable()I -/
theorem mt_X1_solvable (l : Launch) (hst : l.stackTraces = false) (D : va_G) (dA : Nat → ClassId) (ev : Nat → Nat) (sz : Nat) (h : Hp) (a0 : Nat) (MC MS : Nat) (Qr : Int32 → Hp → Prop) (Xr : String → Hp → Prop) (hw : wp_X1_solvable ev h a0 MC MS Qr Xr) : vx_Met l yX1_solvable (ws_ yX1_solvable cX1_solvable 1 (some .int)) (rm_X1_solvable MC MS) (PcZ D dA ev h sz [.ref a0]) (va_Qi Qr (BX D dA (AX dA h sz)) (AX dA h sz)) (XP D dA (AX dA h sz) Xr) MC MS (AX dA h sz) := by
  refine vx_ofW (cc := cX1_solvable) (maxL := 1) (ret := (some .int)) (by decide) rfl ?_
  intro p e s m args below meth c s₁ B hml htab hv
  obtain ⟨rfl, ⟨hsz, hP, hK, hD0, hE⟩, hZ⟩ := hv
  subst hsz
  have hts0 := atoms_spec (ws := ws_ yX1_solvable cX1_solvable 1 (some .int)) B.pre
  have C : CxM p s m meth c _ (AX dA h s.heap.size) "LeastSolutions" cX1_solvable 1 (some .int) := ⟨B.exec, B.bytes, B.returns, B.notSynchronized, hml, findClass_of_methodNamed B.named, fun w h => hts0 w (List.mem_cons_of_mem _ h), fun q h => Or.inr h⟩
  have hM : wX D dA ev (AX dA h s.heap.size) s h s.heap [] := ⟨hK, hP, hD0.self, va_S.rf, hE⟩
  have hx := C.1
  have hb := C.2.1
  have hown := C.2.2.2.2.2.1
  have hts := C.2.2.2.2.2.2.1
  have hl := lv_entry ([.ref a0]) (n := 1) (Nat.le_of_ble_eq_true rfl)
  rw [lg_entry_eq]
  generalize (lg_sl ([.ref a0]) ++ List.replicate (1 - (lg_sl ([.ref a0])).length) Slot.unset).toArray = ls at hl ⊢
  have hl : lv_has ls 1 [(0, .ref a0)] := hl
  have hbud : 0 + MC ≤ MC ∧ 0 + MS ≤ MS := ⟨by omega, by omega⟩
  unfold wp_X1_solvable at hw
  refine lv_aload_n hx hb dX1_solvable_0 rfl (lv_at hl 0 rfl) ?_
  obtain ⟨c1, d2, mc3, ms4, emc3, ems4, hw⟩ := hw
  have o6 := hw.1
  replace hw := hw.2
  refine rZ_gov C hM (runZ_V C hM hZ hl.1 0 0 (As := []) rfl (by decide) o6 (mt_X1_needSystem l hst D dA ev _ h a0  c1 d2 _ _ hw) (lw_V q789 q791 qs25 q75 q792) rfl rfl (by decide +kernel) ⟨Nat.le_of_ble_eq_true rfl, Nat.le_of_ble_eq_true rfl⟩ rfl (Nat.le_of_ble_eq_true rfl) rfl dX1_solvable_1 ⟨by show 0 + c1 ≤ MC; omega, by show 0 + d2 ≤ MS; omega⟩) (fun E ce q9 h7 H locs hw hM g1 g2 g3 => rZ_out C hM (fun x hx => (htab x hx).elim) ⟨by show 0 + c1 ≤ MC; omega, by show 0 + d2 ≤ MS; omega⟩ hw g1 g2 g3) (fun h5 H locs hw hM => ?_)
  have hbud : 0 + c1 + mc3 ≤ MC ∧ 0 + d2 + ms4 ≤ MS := ⟨by omega, by omega⟩
  refine lv_aload_n hx hb dX1_solvable_4 rfl (lv_at hl 0 rfl) ?_
  have o8 := hw.1
  replace hw := hw.2
  obtain ⟨b9, ebb9, hw⟩ := hw
  refine rX_getRs C hM 0 4 rfl in_X1 (by decide) (by decide) rfl q467 o8 ebb9 dX1_solvable_5 ?_
  have o10 := hw.1
  replace hw := hw.2
  refine rX_getIN C hM 4 4 rfl in_X5 (by decide) (by decide) rfl q322 o10 dX1_solvable_8 ?_
  refine lv_if_eq (tgt := 18) hx hb dX1_solvable_11 (by decide) (fun hc => ?_) (fun hc => ?_)
  · replace hw := hw.1 hc
    refine lv_iconst (v := 0) hx hb dX1_solvable_18 (by decide) ?_
    exact wk_X1_solvable_19 C hst hZ htab  a0 0 h5 mc3 ms4 _ _ _ _ ls hw hM hbud (lv_sub hl [0] rfl)
  · replace hw := hw.2 hc
    refine lv_iconst (v := 1) hx hb dX1_solvable_14 (by decide) ?_
    refine lv_goto (tgt := 19) hx hb dX1_solvable_15 (by decide) ?_
    exact wk_X1_solvable_19 C hst hZ htab  a0 1 h5 mc3 ms4 _ _ _ _ ls hw hM hbud (lv_sub hl [0] rfl)
abbrev rm_X1_kernel (MC MS : Nat) : Room := { frames := 7, cells := MC, slots := MS, locals := 130 }
set_option maxHeartbeats 4000000 in
/-- LeastSolutions.kernel()I -/
theorem mt_X1_kernel (l : Launch) (hst : l.stackTraces = false) (D : va_G) (dA : Nat → ClassId) (ev : Nat → Nat) (sz : Nat) (h : Hp) (a0 : Nat) (MC MS : Nat) (Qr : Int32 → Hp → Prop) (Xr : String → Hp → Prop) (hw : wp_X1_kernel ev h a0 MC MS Qr Xr) : vx_Met l yX1_kernel (ws_ yX1_kernel cX1_kernel 1 (some .int)) (rm_X1_kernel MC MS) (PcZ D dA ev h sz [.ref a0]) (va_Qi Qr (BX D dA (AX dA h sz)) (AX dA h sz)) (XP D dA (AX dA h sz) Xr) MC MS (AX dA h sz) := by
  refine vx_ofW (cc := cX1_kernel) (maxL := 1) (ret := (some .int)) (by decide) rfl ?_
  intro p e s m args below meth c s₁ B hml htab hv
  obtain ⟨rfl, ⟨hsz, hP, hK, hD0, hE⟩, hZ⟩ := hv
  subst hsz
  have hts0 := atoms_spec (ws := ws_ yX1_kernel cX1_kernel 1 (some .int)) B.pre
  have C : CxM p s m meth c _ (AX dA h s.heap.size) "LeastSolutions" cX1_kernel 1 (some .int) := ⟨B.exec, B.bytes, B.returns, B.notSynchronized, hml, findClass_of_methodNamed B.named, fun w h => hts0 w (List.mem_cons_of_mem _ h), fun q h => Or.inr h⟩
  have hM : wX D dA ev (AX dA h s.heap.size) s h s.heap [] := ⟨hK, hP, hD0.self, va_S.rf, hE⟩
  have hx := C.1
  have hb := C.2.1
  have hown := C.2.2.2.2.2.1
  have hts := C.2.2.2.2.2.2.1
  have hl := lv_entry ([.ref a0]) (n := 1) (Nat.le_of_ble_eq_true rfl)
  rw [lg_entry_eq]
  generalize (lg_sl ([.ref a0]) ++ List.replicate (1 - (lg_sl ([.ref a0])).length) Slot.unset).toArray = ls at hl ⊢
  have hl : lv_has ls 1 [(0, .ref a0)] := hl
  have hbud : 0 + MC ≤ MC ∧ 0 + MS ≤ MS := ⟨by omega, by omega⟩
  unfold wp_X1_kernel at hw
  refine lv_aload_n hx hb dX1_kernel_0 rfl (lv_at hl 0 rfl) ?_
  obtain ⟨c1, d2, mc3, ms4, emc3, ems4, hw⟩ := hw
  have o6 := hw.1
  replace hw := hw.2
  refine rZ_gov C hM (runZ_V C hM hZ hl.1 0 0 (As := []) rfl (by decide) o6 (mt_X1_needSystem l hst D dA ev _ h a0  c1 d2 _ _ hw) (lw_V q789 q791 qs25 q75 q792) rfl rfl (by decide +kernel) ⟨Nat.le_of_ble_eq_true rfl, Nat.le_of_ble_eq_true rfl⟩ rfl (Nat.le_of_ble_eq_true rfl) rfl dX1_kernel_1 ⟨by show 0 + c1 ≤ MC; omega, by show 0 + d2 ≤ MS; omega⟩) (fun E ce q9 h7 H locs hw hM g1 g2 g3 => rZ_out C hM (fun x hx => (htab x hx).elim) ⟨by show 0 + c1 ≤ MC; omega, by show 0 + d2 ≤ MS; omega⟩ hw g1 g2 g3) (fun h5 H locs hw hM => ?_)
  have hbud : 0 + c1 + mc3 ≤ MC ∧ 0 + d2 + ms4 ≤ MS := ⟨by omega, by omega⟩
  refine lv_aload_n hx hb dX1_kernel_4 rfl (lv_at hl 0 rfl) ?_
  have o8 := hw.1
  replace hw := hw.2
  obtain ⟨b9, ebb9, hw⟩ := hw
  refine rX_getRs C hM 0 4 rfl in_X1 (by decide) (by decide) rfl q467 o8 ebb9 dX1_kernel_5 ?_
  have o12 := hw.1
  replace hw := hw.2
  refine rX_goi C hM (runX_V C hM hl.1 4 0 (As := []) rfl (by decide) o12 (mt_X5_dimension l D dA ev _ h5 b9  _ hw) (lw_V q906 q907 q908 q85 q909) rfl rfl (by decide +kernel) ⟨Nat.le_of_ble_eq_true rfl, Nat.le_of_ble_eq_true rfl⟩ rfl (Nat.le_of_ble_eq_true rfl) rfl dX1_kernel_8 ⟨by show 0 + c1 + 0 ≤ MC; omega, by show 0 + d2 + 0 ≤ MS; omega⟩) (fun x11 h10 H locs hw hM => ?_)
  exact vx_ret (rX_iret C hM ⟨by show 0 + c1 ≤ MC; omega, by show 0 + d2 ≤ MS; omega⟩ hw dX1_kernel_11)
abbrev rm_X1_kernelAt (MC MS : Nat) : Room := { frames := 6, cells := MC, slots := MS, locals := 110 }
set_option maxHeartbeats 4000000 in
theorem wk_X1_kernelAt_23 {p : Program} {l : Launch} {e : Env} {s : State} {m : MethodId} {args : Array Value} {below : List Frame} {meth : Method} {c : Code} {D : va_G} {dA : Nat → ClassId} {ev : Nat → Nat} {h0 : Hp} {sz : Nat} {MC MS : Nat} (C : CxM p s m meth c args (AX dA h0 sz) "LeastSolutions" cX1_kernelAt 3 (some .long)) (hst : l.stackTraces = false) (hZ : ZX (AX dA h0 sz) s s.heap) (htab : ∀ x ∈ c.exceptionTable.toList, False) {Qr : Int64 → Hp → Prop} {Xr : String → Hp → Prop} : ∀ (a0 : Nat) (h : Hp) (mc ms : Nat) (cells slots : Nat) (H : Heap) (locs : List Loc) (ls : Array Slot), wp_X1_kernelAt_23 ev Qr Xr a0 h mc ms → wX D dA ev (AX dA h0 sz) s h H locs → cells + mc ≤ MC ∧ slots + ms ≤ MS → lv_has ls 3 [(0, .ref a0)] → W p l e (rm_X1_kernelAt MC MS) s m args below meth c H locs cells slots (vx_MQ below (va_Ql Qr (BX D dA (AX dA h0 sz)) (AX dA h0 sz)) (XP D dA (AX dA h0 sz) Xr) args s MC MS (AX dA h0 sz)) (F0 m 23 ls []) := by
  intro a0 h mc ms cells slots H locs ls hw hM hbud hl
  have hx := C.1
  have hb := C.2.1
  have hown := C.2.2.2.2.2.1
  have hts := C.2.2.2.2.2.2.1
  unfold wp_X1_kernelAt_23 at hw
  obtain ⟨mc1, ms2, emc1, ems2, hw⟩ := hw
  exact rZ_throw (cls := eIOB) hst C hM hZ hl.1 (by decide +kernel) atk_iob _ at_iob atg_iob.1 atg_iob.2 (fun x hx => (htab x hx).elim) ⟨Nat.le_of_ble_eq_true rfl, Nat.le_of_ble_eq_true rfl, by show cells + 1 ≤ MC; omega, by show slots + 6 ≤ MS; omega⟩ ⟨by show cells + 1 ≤ MC; omega, by show slots + 6 ≤ MS; omega⟩ hw dX1_kernelAt_23 dX1_kernelAt_26 dX1_kernelAt_27 dX1_kernelAt_30
set_option maxHeartbeats 4000000 in
/-- LeastSolutions.kernelAt(II)J -/
theorem mt_X1_kernelAt (l : Launch) (hst : l.stackTraces = false) (D : va_G) (dA : Nat → ClassId) (ev : Nat → Nat) (sz : Nat) (h : Hp) (a0 : Nat) (p1 : Int32) (p2 : Int32) (MC MS : Nat) (Qr : Int64 → Hp → Prop) (Xr : String → Hp → Prop) (hw : wp_X1_kernelAt ev h a0 p1 p2 MC MS Qr Xr) : vx_Met l yX1_kernelAt (ws_ yX1_kernelAt cX1_kernelAt 3 (some .long)) (rm_X1_kernelAt MC MS) (PcZ D dA ev h sz [.ref a0, .int p1, .int p2]) (va_Ql Qr (BX D dA (AX dA h sz)) (AX dA h sz)) (XP D dA (AX dA h sz) Xr) MC MS (AX dA h sz) := by
  refine vx_ofW (cc := cX1_kernelAt) (maxL := 3) (ret := (some .long)) (by decide) rfl ?_
  intro p e s m args below meth c s₁ B hml htab hv
  obtain ⟨rfl, ⟨hsz, hP, hK, hD0, hE⟩, hZ⟩ := hv
  subst hsz
  have hts0 := atoms_spec (ws := ws_ yX1_kernelAt cX1_kernelAt 3 (some .long)) B.pre
  have C : CxM p s m meth c _ (AX dA h s.heap.size) "LeastSolutions" cX1_kernelAt 3 (some .long) := ⟨B.exec, B.bytes, B.returns, B.notSynchronized, hml, findClass_of_methodNamed B.named, fun w h => hts0 w (List.mem_cons_of_mem _ h), fun q h => Or.inr h⟩
  have hM : wX D dA ev (AX dA h s.heap.size) s h s.heap [] := ⟨hK, hP, hD0.self, va_S.rf, hE⟩
  have hx := C.1
  have hb := C.2.1
  have hown := C.2.2.2.2.2.1
  have hts := C.2.2.2.2.2.2.1
  have hl := lv_entry ([.ref a0, .int p1, .int p2]) (n := 3) (Nat.le_of_ble_eq_true rfl)
  rw [lg_entry_eq]
  generalize (lg_sl ([.ref a0, .int p1, .int p2]) ++ List.replicate (3 - (lg_sl ([.ref a0, .int p1, .int p2])).length) Slot.unset).toArray = ls at hl ⊢
  have hl : lv_has ls 3 [(0, .ref a0), (1, .int p1), (2, .int p2)] := hl
  have hbud : 0 + MC ≤ MC ∧ 0 + MS ≤ MS := ⟨by omega, by omega⟩
  unfold wp_X1_kernelAt at hw
  refine lv_iload_n hx hb dX1_kernelAt_0 rfl (lv_at hl 1 rfl) ?_
  refine lv_if_lt (tgt := 23) hx hb dX1_kernelAt_1 (by decide) (fun hc => ?_) (fun hc => ?_)
  · replace hw := hw.1 hc
    exact wk_X1_kernelAt_23 C hst hZ htab  a0 h MC MS _ _ _ _ ls hw hM hbud (lv_sub hl [0] rfl)
  · replace hw := hw.2 hc
    refine lv_iload_n hx hb dX1_kernelAt_4 rfl (lv_at hl 1 rfl) ?_
    refine lv_aload_n hx hb dX1_kernelAt_5 rfl (lv_at hl 0 rfl) ?_
    have o1 := hw.1
    replace hw := hw.2
    obtain ⟨b2, ebb2, hw⟩ := hw
    refine rX_getRs C hM 0 4 rfl in_X1 (by decide) (by decide) rfl q467 o1 ebb2 dX1_kernelAt_6 ?_
    have o5 := hw.1
    replace hw := hw.2
    refine rX_goi C hM (runX_V C hM hl.1 4 0 (As := []) rfl (by decide) o5 (mt_X5_dimension l D dA ev _ h b2  _ hw) (lw_V q906 q907 q908 q85 q909) rfl rfl (by decide +kernel) ⟨Nat.le_of_ble_eq_true rfl, Nat.le_of_ble_eq_true rfl⟩ rfl (Nat.le_of_ble_eq_true rfl) rfl dX1_kernelAt_9 ⟨by show 0 + 0 ≤ MC; omega, by show 0 + 0 ≤ MS; omega⟩) (fun x4 h3 H locs hw hM => ?_)
    refine lv_icmp_ge (tgt := 23) hx hb dX1_kernelAt_12 (by decide) (fun hc => ?_) (fun hc => ?_)
    · replace hw := hw.1 hc
      exact wk_X1_kernelAt_23 C hst hZ htab  a0 h3 MC MS _ _ _ _ ls hw hM hbud (lv_sub hl [0] rfl)
    · replace hw := hw.2 hc
      refine lv_aload_n hx hb dX1_kernelAt_15 rfl (lv_at hl 0 rfl) ?_
      refine lv_iload_n hx hb dX1_kernelAt_16 rfl (lv_at hl 2 rfl) ?_
      have o9 := hw.1
      replace hw := hw.2
      refine rX_goi C hM (runX_V C hM hl.1 0 1 (As := [.int p2]) rfl (by decide) o9 (mt_X1_isColumn l D dA ev _ h3 a0 p2  _ hw) (lw_V q833 q835 qs26 q75 q836) rfl rfl (by decide +kernel) ⟨Nat.le_of_ble_eq_true rfl, Nat.le_of_ble_eq_true rfl⟩ rfl (Nat.le_of_ble_eq_true rfl) rfl dX1_kernelAt_17 ⟨by show 0 + 0 ≤ MC; omega, by show 0 + 0 ≤ MS; omega⟩) (fun x8 h7 H locs hw hM => ?_)
      refine lv_if_ne (tgt := 31) hx hb dX1_kernelAt_20 (by decide) (fun hc => ?_) (fun hc => ?_)
      · replace hw := hw.1 hc
        refine lv_aload_n hx hb dX1_kernelAt_31 rfl (lv_at hl 0 rfl) ?_
        have o11 := hw.1
        replace hw := hw.2
        obtain ⟨b12, ebb12, hw⟩ := hw
        refine rX_getRs C hM 0 4 rfl in_X1 (by decide) (by decide) rfl q467 o11 ebb12 dX1_kernelAt_32 ?_
        refine lv_iload_n hx hb dX1_kernelAt_35 rfl (lv_at hl 1 rfl) ?_
        refine lv_iload_n hx hb dX1_kernelAt_36 rfl (lv_at hl 2 rfl) ?_
        have o15 := hw.1
        replace hw := hw.2
        refine rX_gol C hM (runX_V C hM hl.1 4 2 (As := [.int p1, .int p2]) rfl (by decide) o15 (mt_X5_kernelAt l D dA ev _ h7 b12 p1 p2  _ hw) (lw_V q917 q918 q919 q85 q920) rfl rfl (by decide +kernel) ⟨Nat.le_of_ble_eq_true rfl, Nat.le_of_ble_eq_true rfl⟩ rfl (Nat.le_of_ble_eq_true rfl) rfl dX1_kernelAt_37 ⟨by show 0 + 0 ≤ MC; omega, by show 0 + 0 ≤ MS; omega⟩) (fun y14 h13 H locs hw hM => ?_)
        exact vx_ret (rX_lret C hM ⟨by show 0 ≤ MC; omega, by show 0 ≤ MS; omega⟩ hw dX1_kernelAt_40)
      · replace hw := hw.2 hc
        exact wk_X1_kernelAt_23 C hst hZ htab  a0 h7 MC MS _ _ _ _ ls hw hM hbud (lv_sub hl [0] rfl)
abbrev rm_X1_at (MC MS : Nat) : Room := { frames := 6, cells := MC, slots := MS, locals := 110 }
set_option maxHeartbeats 4000000 in
theorem wk_X1_at_54 {p : Program} {l : Launch} {e : Env} {s : State} {m : MethodId} {args : Array Value} {below : List Frame} {meth : Method} {c : Code} {D : va_G} {dA : Nat → ClassId} {ev : Nat → Nat} {h0 : Hp} {sz : Nat} {MC MS : Nat} (C : CxM p s m meth c args (AX dA h0 sz) "LeastSolutions" cX1_at 5 (some .int)) (hst : l.stackTraces = false) (hZ : ZX (AX dA h0 sz) s s.heap) (htab : ∀ x ∈ c.exceptionTable.toList, False) {Qr : Int32 → Hp → Prop} {Xr : String → Hp → Prop} : ∀ (a0 : Nat) (v1 : Int32) (v2 : Int32) (v3 : Int32) (u0 : Int32) (h : Hp) (mc ms : Nat) (cells slots : Nat) (H : Heap) (locs : List Loc) (ls : Array Slot), wp_X1_at_54 ev Qr Xr a0 v1 v2 v3 u0 h mc ms → wX D dA ev (AX dA h0 sz) s h H locs → cells + mc ≤ MC ∧ slots + ms ≤ MS → lv_has ls 5 [(0, .ref a0), (1, .int v1), (2, .int v2), (3, .int v3)] → W p l e (rm_X1_at MC MS) s m args below meth c H locs cells slots (vx_MQ below (va_Qi Qr (BX D dA (AX dA h0 sz)) (AX dA h0 sz)) (XP D dA (AX dA h0 sz) Xr) args s MC MS (AX dA h0 sz)) (F0 m 54 ls [.int u0]) := by
  intro a0 v1 v2 v3 u0 h mc ms cells slots H locs ls hw hM hbud hl
  have hx := C.1
  have hb := C.2.1
  have hown := C.2.2.2.2.2.1
  have hts := C.2.2.2.2.2.2.1
  unfold wp_X1_at_54 at hw
  refine lv_istore (lv' := [(4, .int u0), (0, .ref a0), (1, .int v1), (2, .int v2), (3, .int v3)]) hx hb dX1_at_54 hl (by decide) rfl (fun ls hl => ?_)
  refine lv_iload hx hb dX1_at_56 (lv_at hl 0 rfl) ?_
  refine lv_if_ne (tgt := 69) hx hb dX1_at_58 (by decide) (fun hc => ?_) (fun hc => ?_)
  · replace hw := hw.1 hc
    refine lv_aload_n hx hb dX1_at_69 rfl (lv_at hl 1 rfl) ?_
    have o1 := hw.1
    replace hw := hw.2
    obtain ⟨b2, ebb2, hw⟩ := hw
    refine rX_getRs C hM 0 7 rfl in_X1 (by decide) (by decide) rfl q470 o1 ebb2 dX1_at_70 ?_
    refine lv_iload_n hx hb dX1_at_73 rfl (lv_at hl 2 rfl) ?_
    have o3 := hw.1
    replace hw := hw.2
    have o4 := hw.1
    replace hw := hw.2
    obtain ⟨b5, ebb5, hw⟩ := hw
    refine rX_aalds C hM 7 (by decide) (by decide) o3 o4 ebb5 dX1_at_74 ?_
    have o6 := hw.1
    replace hw := hw.2
    obtain ⟨b7, ebb7, hw⟩ := hw
    refine rX_getRsN C hM 8 0 rfl in_X9 (by decide) (by decide) rfl q453 o6 ebb7 dX1_at_75 ?_
    refine lv_iload_n hx hb dX1_at_78 rfl (lv_at hl 3 rfl) ?_
    have o10 := hw.1
    replace hw := hw.2
    refine rX_goq C hM (runX_V C hM hl.1 6 1 (As := [.int v2]) rfl (by decide) o10 (mt_X7_get l D dA ev _ h b7 v2  _ hw) (lw_V q809 q810 q811 q87 q812) rfl rfl (by decide +kernel) ⟨Nat.le_of_ble_eq_true rfl, Nat.le_of_ble_eq_true rfl⟩ rfl (Nat.le_of_ble_eq_true rfl) rfl dX1_at_79 ⟨by show cells + 0 ≤ MC; omega, by show slots + 0 ≤ MS; omega⟩) (fun r9 h8 H locs hw hM => ?_)
    have o12 := hw.1
    replace hw := hw.2
    refine rX_castS (r := r9) C hM 10 rfl (by decide) q813 o12 dX1_at_82 ?_
    obtain ⟨b13, eb, hw⟩ := hw
    subst eb
    have o14 := hw.1
    replace hw := hw.2
    obtain ⟨b15, ebb15, hw⟩ := hw
    refine rX_getRsN C hM 10 0 rfl in_X11 (by decide) (by decide) rfl q999 o14 ebb15 dX1_at_85 ?_
    refine lv_iload_n hx hb dX1_at_88 rfl (lv_at hl 4 rfl) ?_
    have o16 := hw.1
    replace hw := hw.2
    have o17 := hw.1
    replace hw := hw.2
    refine rX_bald C hM o16 o17 dX1_at_89 ?_
    exact vx_ret (rX_iret C hM ⟨by show cells ≤ MC; omega, by show slots ≤ MS; omega⟩ hw dX1_at_90)
  · replace hw := hw.2 hc
    obtain ⟨mc18, ms19, emc18, ems19, hw⟩ := hw
    exact rZ_throw (cls := eIOB) hst C hM hZ hl.1 (by decide +kernel) atk_iob _ at_iob atg_iob.1 atg_iob.2 (fun x hx => (htab x hx).elim) ⟨Nat.le_of_ble_eq_true rfl, Nat.le_of_ble_eq_true rfl, by show cells + 1 ≤ MC; omega, by show slots + 6 ≤ MS; omega⟩ ⟨by show cells + 1 ≤ MC; omega, by show slots + 6 ≤ MS; omega⟩ hw dX1_at_61 dX1_at_64 dX1_at_65 dX1_at_68
set_option maxHeartbeats 4000000 in
theorem wk_X1_at_53 {p : Program} {l : Launch} {e : Env} {s : State} {m : MethodId} {args : Array Value} {below : List Frame} {meth : Method} {c : Code} {D : va_G} {dA : Nat → ClassId} {ev : Nat → Nat} {h0 : Hp} {sz : Nat} {MC MS : Nat} (C : CxM p s m meth c args (AX dA h0 sz) "LeastSolutions" cX1_at 5 (some .int)) (hst : l.stackTraces = false) (hZ : ZX (AX dA h0 sz) s s.heap) (htab : ∀ x ∈ c.exceptionTable.toList, False) {Qr : Int32 → Hp → Prop} {Xr : String → Hp → Prop} : ∀ (a0 : Nat) (v1 : Int32) (v2 : Int32) (v3 : Int32) (h : Hp) (mc ms : Nat) (cells slots : Nat) (H : Heap) (locs : List Loc) (ls : Array Slot), wp_X1_at_53 ev Qr Xr a0 v1 v2 v3 h mc ms → wX D dA ev (AX dA h0 sz) s h H locs → cells + mc ≤ MC ∧ slots + ms ≤ MS → lv_has ls 5 [(0, .ref a0), (1, .int v1), (2, .int v2), (3, .int v3)] → W p l e (rm_X1_at MC MS) s m args below meth c H locs cells slots (vx_MQ below (va_Qi Qr (BX D dA (AX dA h0 sz)) (AX dA h0 sz)) (XP D dA (AX dA h0 sz) Xr) args s MC MS (AX dA h0 sz)) (F0 m 53 ls []) := by
  intro a0 v1 v2 v3 h mc ms cells slots H locs ls hw hM hbud hl
  have hx := C.1
  have hb := C.2.1
  have hown := C.2.2.2.2.2.1
  have hts := C.2.2.2.2.2.2.1
  unfold wp_X1_at_53 at hw
  refine lv_iconst (v := 0) hx hb dX1_at_53 (by decide) ?_
  exact wk_X1_at_54 C hst hZ htab  a0 v1 v2 v3 0 h mc ms _ _ _ _ ls hw hM hbud (lv_sub hl [0, 1, 2, 3] rfl)
set_option maxHeartbeats 4000000 in
/-- LeastSolutions.at(III)I -/
theorem mt_X1_at (l : Launch) (hst : l.stackTraces = false) (D : va_G) (dA : Nat → ClassId) (ev : Nat → Nat) (sz : Nat) (h : Hp) (a0 : Nat) (p1 : Int32) (p2 : Int32) (p3 : Int32) (MC MS : Nat) (Qr : Int32 → Hp → Prop) (Xr : String → Hp → Prop) (hw : wp_X1_at ev h a0 p1 p2 p3 MC MS Qr Xr) : vx_Met l yX1_at (ws_ yX1_at cX1_at 5 (some .int)) (rm_X1_at MC MS) (PcZ D dA ev h sz [.ref a0, .int p1, .int p2, .int p3]) (va_Qi Qr (BX D dA (AX dA h sz)) (AX dA h sz)) (XP D dA (AX dA h sz) Xr) MC MS (AX dA h sz) := by
  refine vx_ofW (cc := cX1_at) (maxL := 5) (ret := (some .int)) (by decide) rfl ?_
  intro p e s m args below meth c s₁ B hml htab hv
  obtain ⟨rfl, ⟨hsz, hP, hK, hD0, hE⟩, hZ⟩ := hv
  subst hsz
  have hts0 := atoms_spec (ws := ws_ yX1_at cX1_at 5 (some .int)) B.pre
  have C : CxM p s m meth c _ (AX dA h s.heap.size) "LeastSolutions" cX1_at 5 (some .int) := ⟨B.exec, B.bytes, B.returns, B.notSynchronized, hml, findClass_of_methodNamed B.named, fun w h => hts0 w (List.mem_cons_of_mem _ h), fun q h => Or.inr h⟩
  have hM : wX D dA ev (AX dA h s.heap.size) s h s.heap [] := ⟨hK, hP, hD0.self, va_S.rf, hE⟩
  have hx := C.1
  have hb := C.2.1
  have hown := C.2.2.2.2.2.1
  have hts := C.2.2.2.2.2.2.1
  have hl := lv_entry ([.ref a0, .int p1, .int p2, .int p3]) (n := 5) (Nat.le_of_ble_eq_true rfl)
  rw [lg_entry_eq]
  generalize (lg_sl ([.ref a0, .int p1, .int p2, .int p3]) ++ List.replicate (5 - (lg_sl ([.ref a0, .int p1, .int p2, .int p3])).length) Slot.unset).toArray = ls at hl ⊢
  have hl : lv_has ls 5 [(0, .ref a0), (1, .int p1), (2, .int p2), (3, .int p3)] := hl
  have hbud : 0 + MC ≤ MC ∧ 0 + MS ≤ MS := ⟨by omega, by omega⟩
  unfold wp_X1_at at hw
  refine lv_iload_n hx hb dX1_at_0 rfl (lv_at hl 1 rfl) ?_
  refine lv_if_lt (tgt := 53) hx hb dX1_at_1 (by decide) (fun hc => ?_) (fun hc => ?_)
  · replace hw := hw.1 hc
    exact wk_X1_at_53 C hst hZ htab  a0 p1 p2 p3 h MC MS _ _ _ _ ls hw hM hbud (lv_sub hl [0, 1, 2, 3] rfl)
  · replace hw := hw.2 hc
    refine lv_iload_n hx hb dX1_at_4 rfl (lv_at hl 1 rfl) ?_
    refine lv_iconst (v := 2) hx hb dX1_at_5 (by decide) ?_
    refine lv_icmp_gt (tgt := 53) hx hb dX1_at_6 (by decide) (fun hc => ?_) (fun hc => ?_)
    · replace hw := hw.1 hc
      exact wk_X1_at_53 C hst hZ htab  a0 p1 p2 p3 h MC MS _ _ _ _ ls hw hM hbud (lv_sub hl [0, 1, 2, 3] rfl)
    · replace hw := hw.2 hc
      refine lv_aload_n hx hb dX1_at_9 rfl (lv_at hl 0 rfl) ?_
      have o1 := hw.1
      replace hw := hw.2
      obtain ⟨b2, ebb2, hw⟩ := hw
      refine rX_getRs C hM 0 7 rfl in_X1 (by decide) (by decide) rfl q470 o1 ebb2 dX1_at_10 ?_
      refine lv_iload_n hx hb dX1_at_13 rfl (lv_at hl 1 rfl) ?_
      have o3 := hw.1
      replace hw := hw.2
      have o4 := hw.1
      replace hw := hw.2
      obtain ⟨b5, ebb5, hw⟩ := hw
      refine rX_aalds C hM 7 (by decide) (by decide) o3 o4 ebb5 dX1_at_14 ?_
      have o8 := hw.1
      replace hw := hw.2
      refine rX_goi C hM (runX_V C hM hl.1 8 0 (As := []) rfl (by decide) o8 (mt_X9_isThere l D dA ev _ h b5  _ hw) (lw_V q781 q782 q783 q92 q784) rfl rfl (by decide +kernel) ⟨Nat.le_of_ble_eq_true rfl, Nat.le_of_ble_eq_true rfl⟩ rfl (Nat.le_of_ble_eq_true rfl) rfl dX1_at_15 ⟨by show 0 + 0 ≤ MC; omega, by show 0 + 0 ≤ MS; omega⟩) (fun x7 h6 H locs hw hM => ?_)
      refine lv_if_eq (tgt := 53) hx hb dX1_at_18 (by decide) (fun hc => ?_) (fun hc => ?_)
      · replace hw := hw.1 hc
        exact wk_X1_at_53 C hst hZ htab  a0 p1 p2 p3 h6 MC MS _ _ _ _ ls hw hM hbud (lv_sub hl [0, 1, 2, 3] rfl)
      · replace hw := hw.2 hc
        refine lv_iload_n hx hb dX1_at_21 rfl (lv_at hl 2 rfl) ?_
        refine lv_if_lt (tgt := 53) hx hb dX1_at_22 (by decide) (fun hc => ?_) (fun hc => ?_)
        · replace hw := hw.1 hc
          exact wk_X1_at_53 C hst hZ htab  a0 p1 p2 p3 h6 MC MS _ _ _ _ ls hw hM hbud (lv_sub hl [0, 1, 2, 3] rfl)
        · replace hw := hw.2 hc
          refine lv_iload_n hx hb dX1_at_25 rfl (lv_at hl 2 rfl) ?_
          refine lv_aload_n hx hb dX1_at_26 rfl (lv_at hl 0 rfl) ?_
          have o10 := hw.1
          replace hw := hw.2
          obtain ⟨b11, ebb11, hw⟩ := hw
          refine rX_getRs C hM 0 7 rfl in_X1 (by decide) (by decide) rfl q470 o10 ebb11 dX1_at_27 ?_
          refine lv_iload_n hx hb dX1_at_30 rfl (lv_at hl 1 rfl) ?_
          have o12 := hw.1
          replace hw := hw.2
          have o13 := hw.1
          replace hw := hw.2
          obtain ⟨b14, ebb14, hw⟩ := hw
          refine rX_aalds C hM 7 (by decide) (by decide) o12 o13 ebb14 dX1_at_31 ?_
          have o15 := hw.1
          replace hw := hw.2
          obtain ⟨b16, ebb16, hw⟩ := hw
          refine rX_getRsN C hM 8 0 rfl in_X9 (by decide) (by decide) rfl q453 o15 ebb16 dX1_at_32 ?_
          have o19 := hw.1
          replace hw := hw.2
          refine rX_goi C hM (runX_V C hM hl.1 6 0 (As := []) rfl (by decide) o19 (mt_X7_size l D dA ev _ h6 b16  _ hw) (lw_V q821 q822 q823 q87 q824) rfl rfl (by decide +kernel) ⟨Nat.le_of_ble_eq_true rfl, Nat.le_of_ble_eq_true rfl⟩ rfl (Nat.le_of_ble_eq_true rfl) rfl dX1_at_35 ⟨by show 0 + 0 ≤ MC; omega, by show 0 + 0 ≤ MS; omega⟩) (fun x18 h17 H locs hw hM => ?_)
          refine lv_icmp_ge (tgt := 53) hx hb dX1_at_38 (by decide) (fun hc => ?_) (fun hc => ?_)
          · replace hw := hw.1 hc
            exact wk_X1_at_53 C hst hZ htab  a0 p1 p2 p3 h17 MC MS _ _ _ _ ls hw hM hbud (lv_sub hl [0, 1, 2, 3] rfl)
          · replace hw := hw.2 hc
            refine lv_aload_n hx hb dX1_at_41 rfl (lv_at hl 0 rfl) ?_
            refine lv_iload_n hx hb dX1_at_42 rfl (lv_at hl 3 rfl) ?_
            have o23 := hw.1
            replace hw := hw.2
            refine rX_goi C hM (runX_V C hM hl.1 0 1 (As := [.int p3]) rfl (by decide) o23 (mt_X1_isColumn l D dA ev _ h17 a0 p3  _ hw) (lw_V q833 q835 qs26 q75 q836) rfl rfl (by decide +kernel) ⟨Nat.le_of_ble_eq_true rfl, Nat.le_of_ble_eq_true rfl⟩ rfl (Nat.le_of_ble_eq_true rfl) rfl dX1_at_43 ⟨by show 0 + 0 ≤ MC; omega, by show 0 + 0 ≤ MS; omega⟩) (fun x22 h21 H locs hw hM => ?_)
            refine lv_if_eq (tgt := 53) hx hb dX1_at_46 (by decide) (fun hc => ?_) (fun hc => ?_)
            · replace hw := hw.1 hc
              exact wk_X1_at_53 C hst hZ htab  a0 p1 p2 p3 h21 MC MS _ _ _ _ ls hw hM hbud (lv_sub hl [0, 1, 2, 3] rfl)
            · replace hw := hw.2 hc
              refine lv_iconst (v := 1) hx hb dX1_at_49 (by decide) ?_
              refine lv_goto (tgt := 54) hx hb dX1_at_50 (by decide) ?_
              exact wk_X1_at_54 C hst hZ htab  a0 p1 p2 p3 1 h21 MC MS _ _ _ _ ls hw hM hbud (lv_sub hl [0, 1, 2, 3] rfl)
abbrev rm_X1_tell (MC MS : Nat) : Room := { frames := 7, cells := MC, slots := MS, locals := 130 }
set_option maxHeartbeats 4000000 in
/-- LeastSolutions.tell(II)V -/
theorem mt_X1_tell (l : Launch) (hst : l.stackTraces = false) (D : va_G) (dA : Nat → ClassId) (ev : Nat → Nat) (sz : Nat) (h : Hp) (a0 : Nat) (p1 : Int32) (p2 : Int32) (MC MS : Nat) (Qr : Hp → Prop) (Xr : String → Hp → Prop) (hw : wp_X1_tell ev h a0 p1 p2 MC MS Qr Xr) : vx_Met l yX1_tell (ws_ yX1_tell cX1_tell 3 none) (rm_X1_tell MC MS) (PcZ D dA ev h sz [.ref a0, .int p1, .int p2]) (va_Qv Qr (BX D dA (AX dA h sz)) (AX dA h sz)) (XP D dA (AX dA h sz) Xr) MC MS (AX dA h sz) := by
  refine vx_ofW (cc := cX1_tell) (maxL := 3) (ret := none) (by decide) rfl ?_
  intro p e s m args below meth c s₁ B hml htab hv
  obtain ⟨rfl, ⟨hsz, hP, hK, hD0, hE⟩, hZ⟩ := hv
  subst hsz
  have hts0 := atoms_spec (ws := ws_ yX1_tell cX1_tell 3 none) B.pre
  have C : CxM p s m meth c _ (AX dA h s.heap.size) "LeastSolutions" cX1_tell 3 none := ⟨B.exec, B.bytes, B.returns, B.notSynchronized, hml, findClass_of_methodNamed B.named, fun w h => hts0 w (List.mem_cons_of_mem _ h), fun q h => Or.inr h⟩
  have hM : wX D dA ev (AX dA h s.heap.size) s h s.heap [] := ⟨hK, hP, hD0.self, va_S.rf, hE⟩
  have hx := C.1
  have hb := C.2.1
  have hown := C.2.2.2.2.2.1
  have hts := C.2.2.2.2.2.2.1
  have hl := lv_entry ([.ref a0, .int p1, .int p2]) (n := 3) (Nat.le_of_ble_eq_true rfl)
  rw [lg_entry_eq]
  generalize (lg_sl ([.ref a0, .int p1, .int p2]) ++ List.replicate (3 - (lg_sl ([.ref a0, .int p1, .int p2])).length) Slot.unset).toArray = ls at hl ⊢
  have hl : lv_has ls 3 [(0, .ref a0), (1, .int p1), (2, .int p2)] := hl
  have hbud : 0 + MC ≤ MC ∧ 0 + MS ≤ MS := ⟨by omega, by omega⟩
  unfold wp_X1_tell at hw
  refine lv_aload_n hx hb dX1_tell_0 rfl (lv_at hl 0 rfl) ?_
  refine lv_iload_n hx hb dX1_tell_1 rfl (lv_at hl 1 rfl) ?_
  have o3 := hw.1
  replace hw := hw.2
  refine rX_goi C hM (runX_V C hM hl.1 0 1 (As := [.int p1]) rfl (by decide) o3 (mt_X1_isColumn l D dA ev _ h a0 p1  _ hw) (lw_V q833 q835 qs26 q75 q836) rfl rfl (by decide +kernel) ⟨Nat.le_of_ble_eq_true rfl, Nat.le_of_ble_eq_true rfl⟩ rfl (Nat.le_of_ble_eq_true rfl) rfl dX1_tell_2 ⟨by show 0 + 0 ≤ MC; omega, by show 0 + 0 ≤ MS; omega⟩) (fun x2 h1 H locs hw hM => ?_)
  refine lv_if_ne (tgt := 16) hx hb dX1_tell_5 (by decide) (fun hc => ?_) (fun hc => ?_)
  · replace hw := hw.1 hc
    refine lv_iload_n hx hb dX1_tell_16 rfl (lv_at hl 2 rfl) ?_
    obtain ⟨c5, d6, mc7, ms8, emc7, ems8, hw⟩ := hw
    refine rZ_gov C hM (runZ_S C hM hZ hl.1 1 (As := [.int p2]) (mt_X1_needNumber l hst D dA ev _ h1 p2  c5 d6 _ _ hw) (lw_S q1327 q1328 q75 q1329) rfl rfl (by decide +kernel) ⟨Nat.le_of_ble_eq_true rfl, Nat.le_of_ble_eq_true rfl⟩ rfl (Nat.le_of_ble_eq_true rfl) rfl dX1_tell_17 ⟨by show 0 + c5 ≤ MC; omega, by show 0 + d6 ≤ MS; omega⟩) (fun E ce q9 h10 H locs hw hM g1 g2 g3 => rZ_out C hM (fun x hx => (htab x hx).elim) ⟨by show 0 + c5 ≤ MC; omega, by show 0 + d6 ≤ MS; omega⟩ hw g1 g2 g3) (fun h9 H locs hw hM => ?_)
    have hbud : 0 + c5 + mc7 ≤ MC ∧ 0 + d6 + ms8 ≤ MS := ⟨by omega, by omega⟩
    refine lv_aload_n hx hb dX1_tell_20 rfl (lv_at hl 0 rfl) ?_
    have o11 := hw.1
    replace hw := hw.2
    obtain ⟨b12, ebb12, hw⟩ := hw
    refine rX_getRs C hM 0 10 rfl in_X1 (by decide) (by decide) rfl q473 o11 ebb12 dX1_tell_21 ?_
    refine lv_iload_n hx hb dX1_tell_24 rfl (lv_at hl 1 rfl) ?_
    refine lv_iload_n hx hb dX1_tell_25 rfl (lv_at hl 2 rfl) ?_
    have o14 := hw.1
    replace hw := hw.2
    have o15 := hw.1
    replace hw := hw.2
    refine rX_iast C hM o14 o15 dX1_tell_26 (fun h13 H locs eσ hM => ?_)
    replace hw := hw h13 eσ
    clear eσ
    exact vx_ret (rX_vret C hM ⟨by show 0 + c5 ≤ MC; omega, by show 0 + d6 ≤ MS; omega⟩ hw dX1_tell_27)
  · replace hw := hw.2 hc
    obtain ⟨mc16, ms17, emc16, ems17, hw⟩ := hw
    exact rZ_throw (cls := eIOB) hst C hM hZ hl.1 (by decide +kernel) atk_iob _ at_iob atg_iob.1 atg_iob.2 (fun x hx => (htab x hx).elim) ⟨Nat.le_of_ble_eq_true rfl, Nat.le_of_ble_eq_true rfl, by show 0 + 1 ≤ MC; omega, by show 0 + 6 ≤ MS; omega⟩ ⟨by show 0 + 1 ≤ MC; omega, by show 0 + 6 ≤ MS; omega⟩ hw dX1_tell_8 dX1_tell_11 dX1_tell_12 dX1_tell_15
abbrev rm_X1_holds (MC MS : Nat) : Room := { frames := 7, cells := MC, slots := MS, locals := 130 }
set_option maxHeartbeats 4000000 in
theorem wk_X1_holds_192 {p : Program} {l : Launch} {e : Env} {s : State} {m : MethodId} {args : Array Value} {below : List Frame} {meth : Method} {c : Code} {D : va_G} {dA : Nat → ClassId} {ev : Nat → Nat} {h0 : Hp} {sz : Nat} {MC MS : Nat} (C : CxM p s m meth c args (AX dA h0 sz) "LeastSolutions" cX1_holds 8 (some .int)) (hst : l.stackTraces = false) (hZ : ZX (AX dA h0 sz) s s.heap) (htab : ∀ x ∈ c.exceptionTable.toList, False) {Qr : Int32 → Hp → Prop} {Xr : String → Hp → Prop} : ∀ (a0 : Nat) (u0 : Int32) (u1 : Int32) (h : Hp) (mc ms : Nat) (cells slots : Nat) (H : Heap) (locs : List Loc) (ls : Array Slot), wp_X1_holds_192 ev Qr Xr a0 u0 u1 h mc ms → wX D dA ev (AX dA h0 sz) s h H locs → cells + mc ≤ MC ∧ slots + ms ≤ MS → lv_has ls 8 [(0, .ref a0)] → W p l e (rm_X1_holds MC MS) s m args below meth c H locs cells slots (vx_MQ below (va_Qi Qr (BX D dA (AX dA h0 sz)) (AX dA h0 sz)) (XP D dA (AX dA h0 sz) Xr) args s MC MS (AX dA h0 sz)) (F0 m 192 ls [.int u1, .int u0]) := by
  intro a0 u0 u1 h mc ms cells slots H locs ls hw hM hbud hl
  have hx := C.1
  have hb := C.2.1
  have hown := C.2.2.2.2.2.1
  have hts := C.2.2.2.2.2.2.1
  unfold wp_X1_holds_192 at hw
  refine lv_iadd hx hb dX1_holds_192 ?_
  exact vx_ret (rX_iret C hM ⟨by show cells ≤ MC; omega, by show slots ≤ MS; omega⟩ hw dX1_holds_193)
set_option maxHeartbeats 4000000 in
theorem wk_X1_holds_182 {p : Program} {l : Launch} {e : Env} {s : State} {m : MethodId} {args : Array Value} {below : List Frame} {meth : Method} {c : Code} {D : va_G} {dA : Nat → ClassId} {ev : Nat → Nat} {h0 : Hp} {sz : Nat} {MC MS : Nat} (C : CxM p s m meth c args (AX dA h0 sz) "LeastSolutions" cX1_holds 8 (some .int)) (hst : l.stackTraces = false) (hZ : ZX (AX dA h0 sz) s s.heap) (htab : ∀ x ∈ c.exceptionTable.toList, False) {Qr : Int32 → Hp → Prop} {Xr : String → Hp → Prop} : ∀ (a0 : Nat) (v3 : Int32) (u0 : Int32) (u1 : Int32) (h : Hp) (mc ms : Nat) (cells slots : Nat) (H : Heap) (locs : List Loc) (ls : Array Slot), wp_X1_holds_182 ev Qr Xr a0 v3 u0 u1 h mc ms → wX D dA ev (AX dA h0 sz) s h H locs → cells + mc ≤ MC ∧ slots + ms ≤ MS → lv_has ls 8 [(0, .ref a0), (3, .int v3)] → W p l e (rm_X1_holds MC MS) s m args below meth c H locs cells slots (vx_MQ below (va_Qi Qr (BX D dA (AX dA h0 sz)) (AX dA h0 sz)) (XP D dA (AX dA h0 sz) Xr) args s MC MS (AX dA h0 sz)) (F0 m 182 ls [.int u1, .int u0]) := by
  intro a0 v3 u0 u1 h mc ms cells slots H locs ls hw hM hbud hl
  have hx := C.1
  have hb := C.2.1
  have hown := C.2.2.2.2.2.1
  have hts := C.2.2.2.2.2.2.1
  unfold wp_X1_holds_182 at hw
  refine lv_iadd hx hb dX1_holds_182 ?_
  refine lv_iload_n hx hb dX1_holds_183 rfl (lv_at hl 1 rfl) ?_
  refine lv_if_eq (tgt := 191) hx hb dX1_holds_184 (by decide) (fun hc => ?_) (fun hc => ?_)
  · replace hw := hw.1 hc
    refine lv_iconst (v := 0) hx hb dX1_holds_191 (by decide) ?_
    exact wk_X1_holds_192 C hst hZ htab  a0 ((u0 + u1)) 0 h mc ms _ _ _ _ ls hw hM hbud (lv_sub hl [0] rfl)
  · replace hw := hw.2 hc
    refine lv_iconst (v := 4) hx hb dX1_holds_187 (by decide) ?_
    refine lv_goto (tgt := 192) hx hb dX1_holds_188 (by decide) ?_
    exact wk_X1_holds_192 C hst hZ htab  a0 ((u0 + u1)) 4 h mc ms _ _ _ _ ls hw hM hbud (lv_sub hl [0] rfl)
set_option maxHeartbeats 4000000 in
theorem wk_X1_holds_173 {p : Program} {l : Launch} {e : Env} {s : State} {m : MethodId} {args : Array Value} {below : List Frame} {meth : Method} {c : Code} {D : va_G} {dA : Nat → ClassId} {ev : Nat → Nat} {h0 : Hp} {sz : Nat} {MC MS : Nat} (C : CxM p s m meth c args (AX dA h0 sz) "LeastSolutions" cX1_holds 8 (some .int)) (hst : l.stackTraces = false) (hZ : ZX (AX dA h0 sz) s s.heap) (htab : ∀ x ∈ c.exceptionTable.toList, False) {Qr : Int32 → Hp → Prop} {Xr : String → Hp → Prop} : ∀ (a0 : Nat) (v2 : Int32) (v3 : Int32) (u0 : Int32) (h : Hp) (mc ms : Nat) (cells slots : Nat) (H : Heap) (locs : List Loc) (ls : Array Slot), wp_X1_holds_173 ev Qr Xr a0 v2 v3 u0 h mc ms → wX D dA ev (AX dA h0 sz) s h H locs → cells + mc ≤ MC ∧ slots + ms ≤ MS → lv_has ls 8 [(0, .ref a0), (2, .int v2), (3, .int v3)] → W p l e (rm_X1_holds MC MS) s m args below meth c H locs cells slots (vx_MQ below (va_Qi Qr (BX D dA (AX dA h0 sz)) (AX dA h0 sz)) (XP D dA (AX dA h0 sz) Xr) args s MC MS (AX dA h0 sz)) (F0 m 173 ls [.int u0]) := by
  intro a0 v2 v3 u0 h mc ms cells slots H locs ls hw hM hbud hl
  have hx := C.1
  have hb := C.2.1
  have hown := C.2.2.2.2.2.1
  have hts := C.2.2.2.2.2.2.1
  unfold wp_X1_holds_173 at hw
  refine lv_iload_n hx hb dX1_holds_173 rfl (lv_at hl 1 rfl) ?_
  refine lv_if_eq (tgt := 181) hx hb dX1_holds_174 (by decide) (fun hc => ?_) (fun hc => ?_)
  · replace hw := hw.1 hc
    refine lv_iconst (v := 0) hx hb dX1_holds_181 (by decide) ?_
    exact wk_X1_holds_182 C hst hZ htab  a0 v3 u0 0 h mc ms _ _ _ _ ls hw hM hbud (lv_sub hl [0, 2] rfl)
  · replace hw := hw.2 hc
    refine lv_iconst (v := 2) hx hb dX1_holds_177 (by decide) ?_
    refine lv_goto (tgt := 182) hx hb dX1_holds_178 (by decide) ?_
    exact wk_X1_holds_182 C hst hZ htab  a0 v3 u0 2 h mc ms _ _ _ _ ls hw hM hbud (lv_sub hl [0, 2] rfl)
set_option maxHeartbeats 4000000 in
theorem wk_X1_holds_156 {p : Program} {l : Launch} {e : Env} {s : State} {m : MethodId} {args : Array Value} {below : List Frame} {meth : Method} {c : Code} {D : va_G} {dA : Nat → ClassId} {ev : Nat → Nat} {h0 : Hp} {sz : Nat} {MC MS : Nat} (C : CxM p s m meth c args (AX dA h0 sz) "LeastSolutions" cX1_holds 8 (some .int)) (hst : l.stackTraces = false) (hZ : ZX (AX dA h0 sz) s s.heap) (htab : ∀ x ∈ c.exceptionTable.toList, False) {Qr : Int32 → Hp → Prop} {Xr : String → Hp → Prop} {K131 : Nat → Int32 → Int32 → Int32 → Nat → Int32 → Int32 → Hp → Nat → Nat → Prop} (hK131 : ∀ (a0 : Nat) (v1 : Int32) (v2 : Int32) (v3 : Int32) (v4 : Nat) (v5 : Int32) (v6 : Int32) (h : Hp) (mc ms : Nat) (cells slots : Nat) (H : Heap) (locs : List Loc) (ls : Array Slot), K131 a0 v1 v2 v3 v4 v5 v6 h mc ms → wX D dA ev (AX dA h0 sz) s h H locs → cells + mc ≤ MC ∧ slots + ms ≤ MS → lv_has ls 8 [(0, .ref a0), (1, .int v1), (2, .int v2), (3, .int v3), (4, .ref v4), (5, .int v5), (6, .int v6)] → W p l e (rm_X1_holds MC MS) s m args below meth c H locs cells slots (vx_MQ below (va_Qi Qr (BX D dA (AX dA h0 sz)) (AX dA h0 sz)) (XP D dA (AX dA h0 sz) Xr) args s MC MS (AX dA h0 sz)) (F0 m 131 ls [])) : ∀ (a0 : Nat) (v1 : Int32) (v2 : Int32) (v4 : Nat) (v5 : Int32) (v6 : Int32) (u0 : Int32) (u1 : Int32) (h : Hp) (mc ms : Nat) (cells slots : Nat) (H : Heap) (locs : List Loc) (ls : Array Slot), wp_X1_holds_156 ev Qr Xr K131 a0 v1 v2 v4 v5 v6 u0 u1 h mc ms → wX D dA ev (AX dA h0 sz) s h H locs → cells + mc ≤ MC ∧ slots + ms ≤ MS → lv_has ls 8 [(0, .ref a0), (1, .int v1), (2, .int v2), (4, .ref v4), (5, .int v5), (6, .int v6)] → W p l e (rm_X1_holds MC MS) s m args below meth c H locs cells slots (vx_MQ below (va_Qi Qr (BX D dA (AX dA h0 sz)) (AX dA h0 sz)) (XP D dA (AX dA h0 sz) Xr) args s MC MS (AX dA h0 sz)) (F0 m 156 ls [.int u1, .int u0]) := by
  intro a0 v1 v2 v4 v5 v6 u0 u1 h mc ms cells slots H locs ls hw hM hbud hl
  have hx := C.1
  have hb := C.2.1
  have hown := C.2.2.2.2.2.1
  have hts := C.2.2.2.2.2.2.1
  unfold wp_X1_holds_156 at hw
  refine lv_iand hx hb dX1_holds_156 ?_
  refine lv_topi (fun x1 ex1 => ?_)
  replace hw := hw x1 ex1
  refine lv_istore_n (lv' := [(3, .int x1), (0, .ref a0), (1, .int v1), (2, .int v2), (4, .ref v4), (5, .int v5), (6, .int v6)]) hx hb dX1_holds_157 rfl hl (by decide) rfl (fun ls hl => ?_)
  obtain ⟨x2, ex2⟩ : ∃ y : Int32, y = v6 + 1 := ⟨_, rfl⟩
  replace hw := hw x2 ex2
  refine lv_iinc (v := x2) (lv' := [(6, .int x2), (3, .int x1), (0, .ref a0), (1, .int v1), (2, .int v2), (4, .ref v4), (5, .int v5)]) hx hb dX1_holds_158 hl (k := 6) rfl (by rw [ex2]; rfl) (by decide) rfl (fun ls hl => ?_)
  refine lv_goto (tgt := 131) hx hb dX1_holds_161 (by decide) ?_
  exact hK131 a0 v1 v2 x1 v4 v5 x2 h mc ms _ _ _ _ ls hw hM hbud (lv_sub hl [2, 3, 4, 1, 5, 6, 0] rfl)
set_option maxHeartbeats 4000000 in
theorem wk_X1_holds_131 {p : Program} {l : Launch} {e : Env} {s : State} {m : MethodId} {args : Array Value} {below : List Frame} {meth : Method} {c : Code} {D : va_G} {dA : Nat → ClassId} {ev : Nat → Nat} {h0 : Hp} {sz : Nat} {MC MS : Nat} (C : CxM p s m meth c args (AX dA h0 sz) "LeastSolutions" cX1_holds 8 (some .int)) (hst : l.stackTraces = false) (hZ : ZX (AX dA h0 sz) s s.heap) (htab : ∀ x ∈ c.exceptionTable.toList, False) {Qr : Int32 → Hp → Prop} {Xr : String → Hp → Prop} : ∀ (n : Nat) (a0 : Nat) (v1 : Int32) (v2 : Int32) (v3 : Int32) (v4 : Nat) (v5 : Int32) (v6 : Int32) (h : Hp) (mc ms : Nat) (cells slots : Nat) (H : Heap) (locs : List Loc) (ls : Array Slot), wp_X1_holds_131 ev Qr Xr n a0 v1 v2 v3 v4 v5 v6 h mc ms → wX D dA ev (AX dA h0 sz) s h H locs → cells + mc ≤ MC ∧ slots + ms ≤ MS → lv_has ls 8 [(0, .ref a0), (1, .int v1), (2, .int v2), (3, .int v3), (4, .ref v4), (5, .int v5), (6, .int v6)] → W p l e (rm_X1_holds MC MS) s m args below meth c H locs cells slots (vx_MQ below (va_Qi Qr (BX D dA (AX dA h0 sz)) (AX dA h0 sz)) (XP D dA (AX dA h0 sz) Xr) args s MC MS (AX dA h0 sz)) (F0 m 131 ls []) := by
  intro n
  induction n with
  | zero => intro a0 v1 v2 v3 v4 v5 v6 h mc ms cells slots H locs ls hw; exact hw.elim
  | succ n131 ih =>
    intro a0 v1 v2 v3 v4 v5 v6 h mc ms cells slots H locs ls hw hM hbud hl
    have hx := C.1
    have hb := C.2.1
    have hown := C.2.2.2.2.2.1
    have hts := C.2.2.2.2.2.2.1
    unfold wp_X1_holds_131 at hw
    refine lv_iload hx hb dX1_holds_131 (lv_at hl 6 rfl) ?_
    refine lv_iload hx hb dX1_holds_133 (lv_at hl 5 rfl) ?_
    refine lv_icmp_ge (tgt := 164) hx hb dX1_holds_135 (by decide) (fun hc => ?_) (fun hc => ?_)
    · replace hw := hw.1 hc
      refine lv_iload_n hx hb dX1_holds_164 rfl (lv_at hl 1 rfl) ?_
      refine lv_if_eq (tgt := 172) hx hb dX1_holds_165 (by decide) (fun hc => ?_) (fun hc => ?_)
      · replace hw := hw.1 hc
        refine lv_iconst (v := 0) hx hb dX1_holds_172 (by decide) ?_
        exact wk_X1_holds_173 C hst hZ htab  a0 v2 v3 0 h mc ms _ _ _ _ ls hw hM hbud (lv_sub hl [0, 2, 3] rfl)
      · replace hw := hw.2 hc
        refine lv_iconst (v := 1) hx hb dX1_holds_168 (by decide) ?_
        refine lv_goto (tgt := 173) hx hb dX1_holds_169 (by decide) ?_
        exact wk_X1_holds_173 C hst hZ htab  a0 v2 v3 1 h mc ms _ _ _ _ ls hw hM hbud (lv_sub hl [0, 2, 3] rfl)
    · replace hw := hw.2 hc
      refine lv_aload hx hb dX1_holds_138 (lv_at hl 4 rfl) ?_
      refine lv_iload hx hb dX1_holds_140 (lv_at hl 6 rfl) ?_
      have o1 := hw.1
      replace hw := hw.2
      have o2 := hw.1
      replace hw := hw.2
      refine rX_iald C hM o1 o2 dX1_holds_142 ?_
      refine lv_topi (fun x3 ex3 => ?_)
      replace hw := hw x3 ex3
      refine lv_istore (lv' := [(7, .int x3), (0, .ref a0), (1, .int v1), (2, .int v2), (3, .int v3), (4, .ref v4), (5, .int v5), (6, .int v6)]) hx hb dX1_holds_143 hl (by decide) rfl (fun ls hl => ?_)
      refine lv_iload_n hx hb dX1_holds_145 rfl (lv_at hl 4 rfl) ?_
      refine lv_iload hx hb dX1_holds_146 (lv_at hl 0 rfl) ?_
      refine lv_if_lt (tgt := 155) hx hb dX1_holds_148 (by decide) (fun hc => ?_) (fun hc => ?_)
      · replace hw := hw.1 hc
        refine lv_iconst (v := 0) hx hb dX1_holds_155 (by decide) ?_
        exact wk_X1_holds_156 C hst hZ htab ih a0 v1 v2 v4 v5 v6 v3 0 h mc ms _ _ _ _ ls hw hM hbud (lv_sub hl [1, 2, 3, 5, 6, 7] rfl)
      · replace hw := hw.2 hc
        refine lv_iconst (v := 1) hx hb dX1_holds_151 (by decide) ?_
        refine lv_goto (tgt := 156) hx hb dX1_holds_152 (by decide) ?_
        exact wk_X1_holds_156 C hst hZ htab ih a0 v1 v2 v4 v5 v6 v3 1 h mc ms _ _ _ _ ls hw hM hbud (lv_sub hl [1, 2, 3, 5, 6, 7] rfl)
set_option maxHeartbeats 4000000 in
theorem wk_X1_holds_109 {p : Program} {l : Launch} {e : Env} {s : State} {m : MethodId} {args : Array Value} {below : List Frame} {meth : Method} {c : Code} {D : va_G} {dA : Nat → ClassId} {ev : Nat → Nat} {h0 : Hp} {sz : Nat} {MC MS : Nat} (C : CxM p s m meth c args (AX dA h0 sz) "LeastSolutions" cX1_holds 8 (some .int)) (hst : l.stackTraces = false) (hZ : ZX (AX dA h0 sz) s s.heap) (htab : ∀ x ∈ c.exceptionTable.toList, False) {Qr : Int32 → Hp → Prop} {Xr : String → Hp → Prop} {K13 : Nat → Int32 → Int32 → Int32 → Int32 → Hp → Nat → Nat → Prop} (hK13 : ∀ (a0 : Nat) (v1 : Int32) (v2 : Int32) (v3 : Int32) (v4 : Int32) (h : Hp) (mc ms : Nat) (cells slots : Nat) (H : Heap) (locs : List Loc) (ls : Array Slot), K13 a0 v1 v2 v3 v4 h mc ms → wX D dA ev (AX dA h0 sz) s h H locs → cells + mc ≤ MC ∧ slots + ms ≤ MS → lv_has ls 8 [(0, .ref a0), (1, .int v1), (2, .int v2), (3, .int v3), (4, .int v4)] → W p l e (rm_X1_holds MC MS) s m args below meth c H locs cells slots (vx_MQ below (va_Qi Qr (BX D dA (AX dA h0 sz)) (AX dA h0 sz)) (XP D dA (AX dA h0 sz) Xr) args s MC MS (AX dA h0 sz)) (F0 m 13 ls [])) : ∀ (a0 : Nat) (v1 : Int32) (v3 : Int32) (v4 : Int32) (u0 : Int32) (u1 : Int32) (h : Hp) (mc ms : Nat) (cells slots : Nat) (H : Heap) (locs : List Loc) (ls : Array Slot), wp_X1_holds_109 ev Qr Xr K13 a0 v1 v3 v4 u0 u1 h mc ms → wX D dA ev (AX dA h0 sz) s h H locs → cells + mc ≤ MC ∧ slots + ms ≤ MS → lv_has ls 8 [(0, .ref a0), (1, .int v1), (3, .int v3), (4, .int v4)] → W p l e (rm_X1_holds MC MS) s m args below meth c H locs cells slots (vx_MQ below (va_Qi Qr (BX D dA (AX dA h0 sz)) (AX dA h0 sz)) (XP D dA (AX dA h0 sz) Xr) args s MC MS (AX dA h0 sz)) (F0 m 109 ls [.int u1, .int u0]) := by
  intro a0 v1 v3 v4 u0 u1 h mc ms cells slots H locs ls hw hM hbud hl
  have hx := C.1
  have hb := C.2.1
  have hown := C.2.2.2.2.2.1
  have hts := C.2.2.2.2.2.2.1
  unfold wp_X1_holds_109 at hw
  refine lv_iand hx hb dX1_holds_109 ?_
  refine lv_topi (fun x1 ex1 => ?_)
  replace hw := hw x1 ex1
  refine lv_istore_n (lv' := [(2, .int x1), (0, .ref a0), (1, .int v1), (3, .int v3), (4, .int v4)]) hx hb dX1_holds_110 rfl hl (by decide) rfl (fun ls hl => ?_)
  obtain ⟨x2, ex2⟩ : ∃ y : Int32, y = v4 + 1 := ⟨_, rfl⟩
  replace hw := hw x2 ex2
  refine lv_iinc (v := x2) (lv' := [(4, .int x2), (2, .int x1), (0, .ref a0), (1, .int v1), (3, .int v3)]) hx hb dX1_holds_111 hl (k := 4) rfl (by rw [ex2]; rfl) (by decide) rfl (fun ls hl => ?_)
  refine lv_goto (tgt := 13) hx hb dX1_holds_114 (by decide) ?_
  exact hK13 a0 v1 x1 v3 x2 h mc ms _ _ _ _ ls hw hM hbud (lv_sub hl [2, 3, 1, 4, 0] rfl)
set_option maxHeartbeats 4000000 in
theorem wk_X1_holds_96 {p : Program} {l : Launch} {e : Env} {s : State} {m : MethodId} {args : Array Value} {below : List Frame} {meth : Method} {c : Code} {D : va_G} {dA : Nat → ClassId} {ev : Nat → Nat} {h0 : Hp} {sz : Nat} {MC MS : Nat} (C : CxM p s m meth c args (AX dA h0 sz) "LeastSolutions" cX1_holds 8 (some .int)) (hst : l.stackTraces = false) (hZ : ZX (AX dA h0 sz) s s.heap) (htab : ∀ x ∈ c.exceptionTable.toList, False) {Qr : Int32 → Hp → Prop} {Xr : String → Hp → Prop} {K13 : Nat → Int32 → Int32 → Int32 → Int32 → Hp → Nat → Nat → Prop} (hK13 : ∀ (a0 : Nat) (v1 : Int32) (v2 : Int32) (v3 : Int32) (v4 : Int32) (h : Hp) (mc ms : Nat) (cells slots : Nat) (H : Heap) (locs : List Loc) (ls : Array Slot), K13 a0 v1 v2 v3 v4 h mc ms → wX D dA ev (AX dA h0 sz) s h H locs → cells + mc ≤ MC ∧ slots + ms ≤ MS → lv_has ls 8 [(0, .ref a0), (1, .int v1), (2, .int v2), (3, .int v3), (4, .int v4)] → W p l e (rm_X1_holds MC MS) s m args below meth c H locs cells slots (vx_MQ below (va_Qi Qr (BX D dA (AX dA h0 sz)) (AX dA h0 sz)) (XP D dA (AX dA h0 sz) Xr) args s MC MS (AX dA h0 sz)) (F0 m 13 ls [])) : ∀ (a0 : Nat) (v2 : Int32) (v3 : Int32) (v4 : Int32) (v5 : Int32) (u0 : Int32) (u1 : Int32) (h : Hp) (mc ms : Nat) (cells slots : Nat) (H : Heap) (locs : List Loc) (ls : Array Slot), wp_X1_holds_96 ev Qr Xr K13 a0 v2 v3 v4 v5 u0 u1 h mc ms → wX D dA ev (AX dA h0 sz) s h H locs → cells + mc ≤ MC ∧ slots + ms ≤ MS → lv_has ls 8 [(0, .ref a0), (2, .int v2), (3, .int v3), (4, .int v4), (5, .int v5)] → W p l e (rm_X1_holds MC MS) s m args below meth c H locs cells slots (vx_MQ below (va_Qi Qr (BX D dA (AX dA h0 sz)) (AX dA h0 sz)) (XP D dA (AX dA h0 sz) Xr) args s MC MS (AX dA h0 sz)) (F0 m 96 ls [.int u1, .int u0]) := by
  intro a0 v2 v3 v4 v5 u0 u1 h mc ms cells slots H locs ls hw hM hbud hl
  have hx := C.1
  have hb := C.2.1
  have hown := C.2.2.2.2.2.1
  have hts := C.2.2.2.2.2.2.1
  unfold wp_X1_holds_96 at hw
  refine lv_iand hx hb dX1_holds_96 ?_
  refine lv_topi (fun x1 ex1 => ?_)
  replace hw := hw x1 ex1
  refine lv_istore_n (lv' := [(1, .int x1), (0, .ref a0), (2, .int v2), (3, .int v3), (4, .int v4), (5, .int v5)]) hx hb dX1_holds_97 rfl hl (by decide) rfl (fun ls hl => ?_)
  refine lv_iload_n hx hb dX1_holds_98 rfl (lv_at hl 2 rfl) ?_
  refine lv_iload hx hb dX1_holds_99 (lv_at hl 5 rfl) ?_
  refine lv_if_ne (tgt := 108) hx hb dX1_holds_101 (by decide) (fun hc => ?_) (fun hc => ?_)
  · replace hw := hw.1 hc
    refine lv_iconst (v := 0) hx hb dX1_holds_108 (by decide) ?_
    exact wk_X1_holds_109 C hst hZ htab hK13 a0 x1 v3 v4 v2 0 h mc ms _ _ _ _ ls hw hM hbud (lv_sub hl [1, 0, 3, 4] rfl)
  · replace hw := hw.2 hc
    refine lv_iconst (v := 1) hx hb dX1_holds_104 (by decide) ?_
    refine lv_goto (tgt := 109) hx hb dX1_holds_105 (by decide) ?_
    exact wk_X1_holds_109 C hst hZ htab hK13 a0 x1 v3 v4 v2 1 h mc ms _ _ _ _ ls hw hM hbud (lv_sub hl [1, 0, 3, 4] rfl)
set_option maxHeartbeats 4000000 in
theorem wk_X1_holds_31 {p : Program} {l : Launch} {e : Env} {s : State} {m : MethodId} {args : Array Value} {below : List Frame} {meth : Method} {c : Code} {D : va_G} {dA : Nat → ClassId} {ev : Nat → Nat} {h0 : Hp} {sz : Nat} {MC MS : Nat} (C : CxM p s m meth c args (AX dA h0 sz) "LeastSolutions" cX1_holds 8 (some .int)) (hst : l.stackTraces = false) (hZ : ZX (AX dA h0 sz) s s.heap) (htab : ∀ x ∈ c.exceptionTable.toList, False) {Qr : Int32 → Hp → Prop} {Xr : String → Hp → Prop} {K13 : Nat → Int32 → Int32 → Int32 → Int32 → Hp → Nat → Nat → Prop} (hK13 : ∀ (a0 : Nat) (v1 : Int32) (v2 : Int32) (v3 : Int32) (v4 : Int32) (h : Hp) (mc ms : Nat) (cells slots : Nat) (H : Heap) (locs : List Loc) (ls : Array Slot), K13 a0 v1 v2 v3 v4 h mc ms → wX D dA ev (AX dA h0 sz) s h H locs → cells + mc ≤ MC ∧ slots + ms ≤ MS → lv_has ls 8 [(0, .ref a0), (1, .int v1), (2, .int v2), (3, .int v3), (4, .int v4)] → W p l e (rm_X1_holds MC MS) s m args below meth c H locs cells slots (vx_MQ below (va_Qi Qr (BX D dA (AX dA h0 sz)) (AX dA h0 sz)) (XP D dA (AX dA h0 sz) Xr) args s MC MS (AX dA h0 sz)) (F0 m 13 ls [])) : ∀ (n : Nat) (a0 : Nat) (v1 : Int32) (v2 : Int32) (v3 : Int32) (v4 : Int32) (v5 : Int32) (v6 : Int32) (h : Hp) (mc ms : Nat) (cells slots : Nat) (H : Heap) (locs : List Loc) (ls : Array Slot), wp_X1_holds_31 ev Qr Xr K13 n a0 v1 v2 v3 v4 v5 v6 h mc ms → wX D dA ev (AX dA h0 sz) s h H locs → cells + mc ≤ MC ∧ slots + ms ≤ MS → lv_has ls 8 [(0, .ref a0), (1, .int v1), (2, .int v2), (3, .int v3), (4, .int v4), (5, .int v5), (6, .int v6)] → W p l e (rm_X1_holds MC MS) s m args below meth c H locs cells slots (vx_MQ below (va_Qi Qr (BX D dA (AX dA h0 sz)) (AX dA h0 sz)) (XP D dA (AX dA h0 sz) Xr) args s MC MS (AX dA h0 sz)) (F0 m 31 ls []) := by
  intro n
  induction n with
  | zero => intro a0 v1 v2 v3 v4 v5 v6 h mc ms cells slots H locs ls hw; exact hw.elim
  | succ n31 ih =>
    intro a0 v1 v2 v3 v4 v5 v6 h mc ms cells slots H locs ls hw hM hbud hl
    have hx := C.1
    have hb := C.2.1
    have hown := C.2.2.2.2.2.1
    have hts := C.2.2.2.2.2.2.1
    unfold wp_X1_holds_31 at hw
    refine lv_iload hx hb dX1_holds_31 (lv_at hl 6 rfl) ?_
    refine lv_aload_n hx hb dX1_holds_33 rfl (lv_at hl 0 rfl) ?_
    have o1 := hw.1
    replace hw := hw.2
    obtain ⟨b2, ebb2, hw⟩ := hw
    refine rX_getRs C hM 0 2 rfl in_X1 (by decide) (by decide) rfl q465 o1 ebb2 dX1_holds_34 ?_
    have o3 := hw.1
    replace hw := hw.2
    refine rX_getIN C hM 3 1 rfl in_X4 (by decide) (by decide) rfl q277 o3 dX1_holds_37 ?_
    refine lv_icmp_ge (tgt := 75) hx hb dX1_holds_40 (by decide) (fun hc => ?_) (fun hc => ?_)
    · replace hw := hw.1 hc
      refine lv_iload_n hx hb dX1_holds_75 rfl (lv_at hl 1 rfl) ?_
      refine lv_iload hx hb dX1_holds_76 (lv_at hl 5 rfl) ?_
      refine lv_aload_n hx hb dX1_holds_78 rfl (lv_at hl 0 rfl) ?_
      have o4 := hw.1
      replace hw := hw.2
      obtain ⟨b5, ebb5, hw⟩ := hw
      refine rX_getRs C hM 0 2 rfl in_X1 (by decide) (by decide) rfl q465 o4 ebb5 dX1_holds_79 ?_
      have o6 := hw.1
      replace hw := hw.2
      obtain ⟨b7, ebb7, hw⟩ := hw
      refine rX_getRsN C hM 3 5 rfl in_X4 (by decide) (by decide) rfl q294 o6 ebb7 dX1_holds_82 ?_
      refine lv_iload hx hb dX1_holds_85 (lv_at hl 4 rfl) ?_
      have o8 := hw.1
      replace hw := hw.2
      have o9 := hw.1
      replace hw := hw.2
      refine rX_iald C hM o8 o9 dX1_holds_87 ?_
      refine lv_icmp_ne (tgt := 95) hx hb dX1_holds_88 (by decide) (fun hc => ?_) (fun hc => ?_)
      · replace hw := hw.1 hc
        refine lv_iconst (v := 0) hx hb dX1_holds_95 (by decide) ?_
        exact wk_X1_holds_96 C hst hZ htab hK13 a0 v2 v3 v4 v5 v1 0 h mc ms _ _ _ _ ls hw hM hbud (lv_sub hl [0, 2, 3, 4, 5] rfl)
      · replace hw := hw.2 hc
        refine lv_iconst (v := 1) hx hb dX1_holds_91 (by decide) ?_
        refine lv_goto (tgt := 96) hx hb dX1_holds_92 (by decide) ?_
        exact wk_X1_holds_96 C hst hZ htab hK13 a0 v2 v3 v4 v5 v1 1 h mc ms _ _ _ _ ls hw hM hbud (lv_sub hl [0, 2, 3, 4, 5] rfl)
    · replace hw := hw.2 hc
      refine lv_iload hx hb dX1_holds_43 (lv_at hl 5 rfl) ?_
      refine lv_aload_n hx hb dX1_holds_45 rfl (lv_at hl 0 rfl) ?_
      have o10 := hw.1
      replace hw := hw.2
      obtain ⟨b11, ebb11, hw⟩ := hw
      refine rX_getRs C hM 0 2 rfl in_X1 (by decide) (by decide) rfl q465 o10 ebb11 dX1_holds_46 ?_
      have o12 := hw.1
      replace hw := hw.2
      obtain ⟨b13, ebb13, hw⟩ := hw
      refine rX_getRsN C hM 3 4 rfl in_X4 (by decide) (by decide) rfl q289 o12 ebb13 dX1_holds_49 ?_
      refine lv_iload hx hb dX1_holds_52 (lv_at hl 4 rfl) ?_
      have o14 := hw.1
      replace hw := hw.2
      have o15 := hw.1
      replace hw := hw.2
      obtain ⟨b16, ebb16, hw⟩ := hw
      refine rX_aalds C hM 4 (by decide) (by decide) o14 o15 ebb16 dX1_holds_54 ?_
      refine lv_iload hx hb dX1_holds_55 (lv_at hl 6 rfl) ?_
      have o17 := hw.1
      replace hw := hw.2
      have o18 := hw.1
      replace hw := hw.2
      refine rX_iald C hM o17 o18 dX1_holds_57 ?_
      refine lv_aload_n hx hb dX1_holds_58 rfl (lv_at hl 0 rfl) ?_
      have o19 := hw.1
      replace hw := hw.2
      obtain ⟨b20, ebb20, hw⟩ := hw
      refine rX_getRs C hM 0 10 rfl in_X1 (by decide) (by decide) rfl q473 o19 ebb20 dX1_holds_59 ?_
      refine lv_iload hx hb dX1_holds_62 (lv_at hl 6 rfl) ?_
      have o21 := hw.1
      replace hw := hw.2
      have o22 := hw.1
      replace hw := hw.2
      refine rX_iald C hM o21 o22 dX1_holds_64 ?_
      refine lv_imul hx hb dX1_holds_65 ?_
      refine lv_iadd hx hb dX1_holds_66 ?_
      refine lv_topi (fun x23 ex23 => ?_)
      replace hw := hw x23 ex23
      refine lv_istore (lv' := [(5, .int x23), (0, .ref a0), (1, .int v1), (2, .int v2), (3, .int v3), (4, .int v4), (6, .int v6)]) hx hb dX1_holds_67 hl (by decide) rfl (fun ls hl => ?_)
      obtain ⟨x24, ex24⟩ : ∃ y : Int32, y = v6 + 1 := ⟨_, rfl⟩
      replace hw := hw x24 ex24
      refine lv_iinc (v := x24) (lv' := [(6, .int x24), (5, .int x23), (0, .ref a0), (1, .int v1), (2, .int v2), (3, .int v3), (4, .int v4)]) hx hb dX1_holds_69 hl (k := 6) rfl (by rw [ex24]; rfl) (by decide) rfl (fun ls hl => ?_)
      refine lv_goto (tgt := 31) hx hb dX1_holds_72 (by decide) ?_
      exact ih a0 v1 v2 v3 v4 x23 x24 h mc ms _ _ _ _ ls hw hM hbud (lv_sub hl [2, 3, 4, 5, 6, 1, 0] rfl)
set_option maxHeartbeats 4000000 in
theorem wk_X1_holds_13 {p : Program} {l : Launch} {e : Env} {s : State} {m : MethodId} {args : Array Value} {below : List Frame} {meth : Method} {c : Code} {D : va_G} {dA : Nat → ClassId} {ev : Nat → Nat} {h0 : Hp} {sz : Nat} {MC MS : Nat} (C : CxM p s m meth c args (AX dA h0 sz) "LeastSolutions" cX1_holds 8 (some .int)) (hst : l.stackTraces = false) (hZ : ZX (AX dA h0 sz) s s.heap) (htab : ∀ x ∈ c.exceptionTable.toList, False) {Qr : Int32 → Hp → Prop} {Xr : String → Hp → Prop} : ∀ (n : Nat) (a0 : Nat) (v1 : Int32) (v2 : Int32) (v3 : Int32) (v4 : Int32) (h : Hp) (mc ms : Nat) (cells slots : Nat) (H : Heap) (locs : List Loc) (ls : Array Slot), wp_X1_holds_13 ev Qr Xr n a0 v1 v2 v3 v4 h mc ms → wX D dA ev (AX dA h0 sz) s h H locs → cells + mc ≤ MC ∧ slots + ms ≤ MS → lv_has ls 8 [(0, .ref a0), (1, .int v1), (2, .int v2), (3, .int v3), (4, .int v4)] → W p l e (rm_X1_holds MC MS) s m args below meth c H locs cells slots (vx_MQ below (va_Qi Qr (BX D dA (AX dA h0 sz)) (AX dA h0 sz)) (XP D dA (AX dA h0 sz) Xr) args s MC MS (AX dA h0 sz)) (F0 m 13 ls []) := by
  intro n
  induction n with
  | zero => intro a0 v1 v2 v3 v4 h mc ms cells slots H locs ls hw; exact hw.elim
  | succ n13 ih =>
    intro a0 v1 v2 v3 v4 h mc ms cells slots H locs ls hw hM hbud hl
    have hx := C.1
    have hb := C.2.1
    have hown := C.2.2.2.2.2.1
    have hts := C.2.2.2.2.2.2.1
    unfold wp_X1_holds_13 at hw
    refine lv_iload hx hb dX1_holds_13 (lv_at hl 4 rfl) ?_
    refine lv_aload_n hx hb dX1_holds_15 rfl (lv_at hl 0 rfl) ?_
    have o1 := hw.1
    replace hw := hw.2
    obtain ⟨b2, ebb2, hw⟩ := hw
    refine rX_getRs C hM 0 2 rfl in_X1 (by decide) (by decide) rfl q465 o1 ebb2 dX1_holds_16 ?_
    have o3 := hw.1
    replace hw := hw.2
    refine rX_getIN C hM 3 0 rfl in_X4 (by decide) (by decide) rfl q271 o3 dX1_holds_19 ?_
    refine lv_icmp_ge (tgt := 117) hx hb dX1_holds_22 (by decide) (fun hc => ?_) (fun hc => ?_)
    · replace hw := hw.1 hc
      refine lv_aload_n hx hb dX1_holds_117 rfl (lv_at hl 0 rfl) ?_
      have o4 := hw.1
      replace hw := hw.2
      obtain ⟨b5, ebb5, hw⟩ := hw
      refine rX_getRs C hM 0 10 rfl in_X1 (by decide) (by decide) rfl q473 o4 ebb5 dX1_holds_118 ?_
      refine lv_astore (lv' := [(4, .ref b5), (0, .ref a0), (1, .int v1), (2, .int v2), (3, .int v3)]) hx hb dX1_holds_121 hl (by decide) rfl (fun ls hl => ?_)
      refine lv_aload hx hb dX1_holds_123 (lv_at hl 0 rfl) ?_
      have o6 := hw.1
      replace hw := hw.2
      refine rX_alen C hM 0 (by decide) o6 dX1_holds_125 ?_
      refine lv_topi (fun x7 ex7 => ?_)
      replace hw := hw x7 ex7
      refine lv_istore (lv' := [(5, .int x7), (4, .ref b5), (0, .ref a0), (1, .int v1), (2, .int v2), (3, .int v3)]) hx hb dX1_holds_126 hl (by decide) rfl (fun ls hl => ?_)
      refine lv_iconst (v := 0) hx hb dX1_holds_128 (by decide) ?_
      refine lv_istore (lv' := [(6, .int 0), (5, .int x7), (4, .ref b5), (0, .ref a0), (1, .int v1), (2, .int v2), (3, .int v3)]) hx hb dX1_holds_129 hl (by decide) rfl (fun ls hl => ?_)
      obtain ⟨n131, hw⟩ := hw
      exact wk_X1_holds_131 C hst hZ htab  n131 a0 v1 v2 v3 b5 x7 0 h mc ms _ _ _ _ ls hw hM hbud (lv_sub hl [3, 4, 5, 6, 2, 1, 0] rfl)
    · replace hw := hw.2 hc
      refine lv_iconst (v := 0) hx hb dX1_holds_25 (by decide) ?_
      refine lv_istore (lv' := [(5, .int 0), (0, .ref a0), (1, .int v1), (2, .int v2), (3, .int v3), (4, .int v4)]) hx hb dX1_holds_26 hl (by decide) rfl (fun ls hl => ?_)
      refine lv_iconst (v := 0) hx hb dX1_holds_28 (by decide) ?_
      refine lv_istore (lv' := [(6, .int 0), (5, .int 0), (0, .ref a0), (1, .int v1), (2, .int v2), (3, .int v3), (4, .int v4)]) hx hb dX1_holds_29 hl (by decide) rfl (fun ls hl => ?_)
      obtain ⟨n31, hw⟩ := hw
      exact wk_X1_holds_31 C hst hZ htab ih n31 a0 v1 v2 v3 v4 0 0 h mc ms _ _ _ _ ls hw hM hbud (lv_sub hl [2, 3, 4, 5, 6, 1, 0] rfl)
set_option maxHeartbeats 4000000 in
/-- LeastSolutions.holds()I -/
theorem mt_X1_holds (l : Launch) (hst : l.stackTraces = false) (D : va_G) (dA : Nat → ClassId) (ev : Nat → Nat) (sz : Nat) (h : Hp) (a0 : Nat) (MC MS : Nat) (Qr : Int32 → Hp → Prop) (Xr : String → Hp → Prop) (hw : wp_X1_holds ev h a0 MC MS Qr Xr) : vx_Met l yX1_holds (ws_ yX1_holds cX1_holds 8 (some .int)) (rm_X1_holds MC MS) (PcZ D dA ev h sz [.ref a0]) (va_Qi Qr (BX D dA (AX dA h sz)) (AX dA h sz)) (XP D dA (AX dA h sz) Xr) MC MS (AX dA h sz) := by
  refine vx_ofW (cc := cX1_holds) (maxL := 8) (ret := (some .int)) (by decide) rfl ?_
  intro p e s m args below meth c s₁ B hml htab hv
  obtain ⟨rfl, ⟨hsz, hP, hK, hD0, hE⟩, hZ⟩ := hv
  subst hsz
  have hts0 := atoms_spec (ws := ws_ yX1_holds cX1_holds 8 (some .int)) B.pre
  have C : CxM p s m meth c _ (AX dA h s.heap.size) "LeastSolutions" cX1_holds 8 (some .int) := ⟨B.exec, B.bytes, B.returns, B.notSynchronized, hml, findClass_of_methodNamed B.named, fun w h => hts0 w (List.mem_cons_of_mem _ h), fun q h => Or.inr h⟩
  have hM : wX D dA ev (AX dA h s.heap.size) s h s.heap [] := ⟨hK, hP, hD0.self, va_S.rf, hE⟩
  have hx := C.1
  have hb := C.2.1
  have hown := C.2.2.2.2.2.1
  have hts := C.2.2.2.2.2.2.1
  have hl := lv_entry ([.ref a0]) (n := 8) (Nat.le_of_ble_eq_true rfl)
  rw [lg_entry_eq]
  generalize (lg_sl ([.ref a0]) ++ List.replicate (8 - (lg_sl ([.ref a0])).length) Slot.unset).toArray = ls at hl ⊢
  have hl : lv_has ls 8 [(0, .ref a0)] := hl
  have hbud : 0 + MC ≤ MC ∧ 0 + MS ≤ MS := ⟨by omega, by omega⟩
  unfold wp_X1_holds at hw
  refine lv_aload_n hx hb dX1_holds_0 rfl (lv_at hl 0 rfl) ?_
  obtain ⟨c1, d2, mc3, ms4, emc3, ems4, hw⟩ := hw
  have o6 := hw.1
  replace hw := hw.2
  refine rZ_gov C hM (runZ_V C hM hZ hl.1 0 0 (As := []) rfl (by decide) o6 (mt_X1_needSystem l hst D dA ev _ h a0  c1 d2 _ _ hw) (lw_V q789 q791 qs25 q75 q792) rfl rfl (by decide +kernel) ⟨Nat.le_of_ble_eq_true rfl, Nat.le_of_ble_eq_true rfl⟩ rfl (Nat.le_of_ble_eq_true rfl) rfl dX1_holds_1 ⟨by show 0 + c1 ≤ MC; omega, by show 0 + d2 ≤ MS; omega⟩) (fun E ce q9 h7 H locs hw hM g1 g2 g3 => rZ_out C hM (fun x hx => (htab x hx).elim) ⟨by show 0 + c1 ≤ MC; omega, by show 0 + d2 ≤ MS; omega⟩ hw g1 g2 g3) (fun h5 H locs hw hM => ?_)
  have hbud : 0 + c1 + mc3 ≤ MC ∧ 0 + d2 + ms4 ≤ MS := ⟨by omega, by omega⟩
  refine lv_iconst (v := 1) hx hb dX1_holds_4 (by decide) ?_
  refine lv_istore_n (lv' := [(1, .int 1), (0, .ref a0)]) hx hb dX1_holds_5 rfl hl (by decide) rfl (fun ls hl => ?_)
  refine lv_iconst (v := 1) hx hb dX1_holds_6 (by decide) ?_
  refine lv_istore_n (lv' := [(2, .int 1), (1, .int 1), (0, .ref a0)]) hx hb dX1_holds_7 rfl hl (by decide) rfl (fun ls hl => ?_)
  refine lv_iconst (v := 1) hx hb dX1_holds_8 (by decide) ?_
  refine lv_istore_n (lv' := [(3, .int 1), (2, .int 1), (1, .int 1), (0, .ref a0)]) hx hb dX1_holds_9 rfl hl (by decide) rfl (fun ls hl => ?_)
  refine lv_iconst (v := 0) hx hb dX1_holds_10 (by decide) ?_
  refine lv_istore (lv' := [(4, .int 0), (3, .int 1), (2, .int 1), (1, .int 1), (0, .ref a0)]) hx hb dX1_holds_11 hl (by decide) rfl (fun ls hl => ?_)
  obtain ⟨n13, hw⟩ := hw
  exact wk_X1_holds_13 C hst hZ htab  n13 a0 1 1 1 0 h5 mc3 ms4 _ _ _ _ ls hw hM hbud (lv_sub hl [4, 3, 2, 1, 0] rfl)
abbrev rm_X1_cost (MC MS : Nat) : Room := { frames := 7, cells := MC, slots := MS, locals := 130 }
set_option maxHeartbeats 4000000 in
/-- LeastSolutions.cost(II)V -/
theorem mt_X1_cost (l : Launch) (hst : l.stackTraces = false) (D : va_G) (dA : Nat → ClassId) (ev : Nat → Nat) (sz : Nat) (h : Hp) (a0 : Nat) (p1 : Int32) (p2 : Int32) (MC MS : Nat) (Qr : Hp → Prop) (Xr : String → Hp → Prop) (hw : wp_X1_cost ev h a0 p1 p2 MC MS Qr Xr) : vx_Met l yX1_cost (ws_ yX1_cost cX1_cost 3 none) (rm_X1_cost MC MS) (PcZ D dA ev h sz [.ref a0, .int p1, .int p2]) (va_Qv Qr (BX D dA (AX dA h sz)) (AX dA h sz)) (XP D dA (AX dA h sz) Xr) MC MS (AX dA h sz) := by
  refine vx_ofW (cc := cX1_cost) (maxL := 3) (ret := none) (by decide) rfl ?_
  intro p e s m args below meth c s₁ B hml htab hv
  obtain ⟨rfl, ⟨hsz, hP, hK, hD0, hE⟩, hZ⟩ := hv
  subst hsz
  have hts0 := atoms_spec (ws := ws_ yX1_cost cX1_cost 3 none) B.pre
  have C : CxM p s m meth c _ (AX dA h s.heap.size) "LeastSolutions" cX1_cost 3 none := ⟨B.exec, B.bytes, B.returns, B.notSynchronized, hml, findClass_of_methodNamed B.named, fun w h => hts0 w (List.mem_cons_of_mem _ h), fun q h => Or.inr h⟩
  have hM : wX D dA ev (AX dA h s.heap.size) s h s.heap [] := ⟨hK, hP, hD0.self, va_S.rf, hE⟩
  have hx := C.1
  have hb := C.2.1
  have hown := C.2.2.2.2.2.1
  have hts := C.2.2.2.2.2.2.1
  have hl := lv_entry ([.ref a0, .int p1, .int p2]) (n := 3) (Nat.le_of_ble_eq_true rfl)
  rw [lg_entry_eq]
  generalize (lg_sl ([.ref a0, .int p1, .int p2]) ++ List.replicate (3 - (lg_sl ([.ref a0, .int p1, .int p2])).length) Slot.unset).toArray = ls at hl ⊢
  have hl : lv_has ls 3 [(0, .ref a0), (1, .int p1), (2, .int p2)] := hl
  have hbud : 0 + MC ≤ MC ∧ 0 + MS ≤ MS := ⟨by omega, by omega⟩
  unfold wp_X1_cost at hw
  refine lv_aload_n hx hb dX1_cost_0 rfl (lv_at hl 0 rfl) ?_
  refine lv_iload_n hx hb dX1_cost_1 rfl (lv_at hl 1 rfl) ?_
  have o3 := hw.1
  replace hw := hw.2
  refine rX_goi C hM (runX_V C hM hl.1 0 1 (As := [.int p1]) rfl (by decide) o3 (mt_X1_isColumn l D dA ev _ h a0 p1  _ hw) (lw_V q833 q835 qs26 q75 q836) rfl rfl (by decide +kernel) ⟨Nat.le_of_ble_eq_true rfl, Nat.le_of_ble_eq_true rfl⟩ rfl (Nat.le_of_ble_eq_true rfl) rfl dX1_cost_2 ⟨by show 0 + 0 ≤ MC; omega, by show 0 + 0 ≤ MS; omega⟩) (fun x2 h1 H locs hw hM => ?_)
  refine lv_if_ne (tgt := 16) hx hb dX1_cost_5 (by decide) (fun hc => ?_) (fun hc => ?_)
  · replace hw := hw.1 hc
    refine lv_iload_n hx hb dX1_cost_16 rfl (lv_at hl 2 rfl) ?_
    obtain ⟨c5, d6, mc7, ms8, emc7, ems8, hw⟩ := hw
    refine rZ_gov C hM (runZ_S C hM hZ hl.1 1 (As := [.int p2]) (mt_X1_needNumber l hst D dA ev _ h1 p2  c5 d6 _ _ hw) (lw_S q1327 q1328 q75 q1329) rfl rfl (by decide +kernel) ⟨Nat.le_of_ble_eq_true rfl, Nat.le_of_ble_eq_true rfl⟩ rfl (Nat.le_of_ble_eq_true rfl) rfl dX1_cost_17 ⟨by show 0 + c5 ≤ MC; omega, by show 0 + d6 ≤ MS; omega⟩) (fun E ce q9 h10 H locs hw hM g1 g2 g3 => rZ_out C hM (fun x hx => (htab x hx).elim) ⟨by show 0 + c5 ≤ MC; omega, by show 0 + d6 ≤ MS; omega⟩ hw g1 g2 g3) (fun h9 H locs hw hM => ?_)
    have hbud : 0 + c5 + mc7 ≤ MC ∧ 0 + d6 + ms8 ≤ MS := ⟨by omega, by omega⟩
    refine lv_aload_n hx hb dX1_cost_20 rfl (lv_at hl 0 rfl) ?_
    have o11 := hw.1
    replace hw := hw.2
    obtain ⟨b12, ebb12, hw⟩ := hw
    refine rX_getRs C hM 0 6 rfl in_X1 (by decide) (by decide) rfl q469 o11 ebb12 dX1_cost_21 ?_
    have o13 := hw.1
    replace hw := hw.2
    obtain ⟨b14, ebb14, hw⟩ := hw
    refine rX_getRsN C hM 7 1 rfl in_X8 (by decide) (by decide) rfl q423 o13 ebb14 dX1_cost_24 ?_
    refine lv_iload_n hx hb dX1_cost_27 rfl (lv_at hl 1 rfl) ?_
    refine lv_iload_n hx hb dX1_cost_28 rfl (lv_at hl 2 rfl) ?_
    have o16 := hw.1
    replace hw := hw.2
    have o17 := hw.1
    replace hw := hw.2
    refine rX_iast C hM o16 o17 dX1_cost_29 (fun h15 H locs eσ hM => ?_)
    replace hw := hw h15 eσ
    clear eσ
    exact vx_ret (rX_vret C hM ⟨by show 0 + c5 ≤ MC; omega, by show 0 + d6 ≤ MS; omega⟩ hw dX1_cost_30)
  · replace hw := hw.2 hc
    obtain ⟨mc18, ms19, emc18, ems19, hw⟩ := hw
    exact rZ_throw (cls := eIOB) hst C hM hZ hl.1 (by decide +kernel) atk_iob _ at_iob atg_iob.1 atg_iob.2 (fun x hx => (htab x hx).elim) ⟨Nat.le_of_ble_eq_true rfl, Nat.le_of_ble_eq_true rfl, by show 0 + 1 ≤ MC; omega, by show 0 + 6 ≤ MS; omega⟩ ⟨by show 0 + 1 ≤ MC; omega, by show 0 + 6 ≤ MS; omega⟩ hw dX1_cost_8 dX1_cost_11 dX1_cost_12 dX1_cost_15
abbrev rm_X1_best (MC MS : Nat) : Room := { frames := 12, cells := MC, slots := MS, locals := 298 }
set_option maxHeartbeats 4000000 in
theorem wk_X1_best_10 {p : Program} {l : Launch} {e : Env} {s : State} {m : MethodId} {args : Array Value} {below : List Frame} {meth : Method} {c : Code} {D : va_G} {dA : Nat → ClassId} {ev : Nat → Nat} {h0 : Hp} {sz : Nat} {MC MS : Nat} (C : CxM p s m meth c args (AX dA h0 sz) "LeastSolutions" cX1_best 2 (some .int)) (hst : l.stackTraces = false) (hZ : ZX (AX dA h0 sz) s s.heap) (htab : ∀ x ∈ c.exceptionTable.toList, False) {Qr : Int32 → Hp → Prop} {Xr : String → Hp → Prop} : ∀ (a0 : Nat) (h : Hp) (mc ms : Nat) (cells slots : Nat) (H : Heap) (locs : List Loc) (ls : Array Slot), wp_X1_best_10 ev Qr Xr a0 h mc ms → wX D dA ev (AX dA h0 sz) s h H locs → cells + mc ≤ MC ∧ slots + ms ≤ MS → lv_has ls 2 [(0, .ref a0)] → W p l e (rm_X1_best MC MS) s m args below meth c H locs cells slots (vx_MQ below (va_Qi Qr (BX D dA (AX dA h0 sz)) (AX dA h0 sz)) (XP D dA (AX dA h0 sz) Xr) args s MC MS (AX dA h0 sz)) (F0 m 10 ls []) := by
  intro a0 h mc ms cells slots H locs ls hw hM hbud hl
  have hx := C.1
  have hb := C.2.1
  have hown := C.2.2.2.2.2.1
  have hts := C.2.2.2.2.2.2.1
  unfold wp_X1_best_10 at hw
  obtain ⟨mc1, ms2, emc1, ems2, hw⟩ := hw
  exact rZ_throw (cls := eIAE) hst C hM hZ hl.1 (by decide +kernel) atk_iae _ at_iae atg_iae.1 atg_iae.2 (fun x hx => (htab x hx).elim) ⟨Nat.le_of_ble_eq_true rfl, Nat.le_of_ble_eq_true rfl, by show cells + 1 ≤ MC; omega, by show slots + 6 ≤ MS; omega⟩ ⟨by show cells + 1 ≤ MC; omega, by show slots + 6 ≤ MS; omega⟩ hw dX1_best_10 dX1_best_13 dX1_best_14 dX1_best_17
set_option maxHeartbeats 4000000 in
/-- LeastSolutions.best(I)I -/
theorem mt_X1_best (l : Launch) (hst : l.stackTraces = false) (D : va_G) (dA : Nat → ClassId) (ev : Nat → Nat) (sz : Nat) (h : Hp) (a0 : Nat) (p1 : Int32) (MC MS : Nat) (Qr : Int32 → Hp → Prop) (Xr : String → Hp → Prop) (hw : wp_X1_best ev h a0 p1 MC MS Qr Xr) : vx_Met l yX1_best (ws_ yX1_best cX1_best 2 (some .int)) (rm_X1_best MC MS) (PcZ D dA ev h sz [.ref a0, .int p1]) (va_Qi Qr (BX D dA (AX dA h sz)) (AX dA h sz)) (XP D dA (AX dA h sz) Xr) MC MS (AX dA h sz) := by
  refine vx_ofW (cc := cX1_best) (maxL := 2) (ret := (some .int)) (by decide) rfl ?_
  intro p e s m args below meth c s₁ B hml htab hv
  obtain ⟨rfl, ⟨hsz, hP, hK, hD0, hE⟩, hZ⟩ := hv
  subst hsz
  have hts0 := atoms_spec (ws := ws_ yX1_best cX1_best 2 (some .int)) B.pre
  have C : CxM p s m meth c _ (AX dA h s.heap.size) "LeastSolutions" cX1_best 2 (some .int) := ⟨B.exec, B.bytes, B.returns, B.notSynchronized, hml, findClass_of_methodNamed B.named, fun w h => hts0 w (List.mem_cons_of_mem _ h), fun q h => Or.inr h⟩
  have hM : wX D dA ev (AX dA h s.heap.size) s h s.heap [] := ⟨hK, hP, hD0.self, va_S.rf, hE⟩
  have hx := C.1
  have hb := C.2.1
  have hown := C.2.2.2.2.2.1
  have hts := C.2.2.2.2.2.2.1
  have hl := lv_entry ([.ref a0, .int p1]) (n := 2) (Nat.le_of_ble_eq_true rfl)
  rw [lg_entry_eq]
  generalize (lg_sl ([.ref a0, .int p1]) ++ List.replicate (2 - (lg_sl ([.ref a0, .int p1])).length) Slot.unset).toArray = ls at hl ⊢
  have hl : lv_has ls 2 [(0, .ref a0), (1, .int p1)] := hl
  have hbud : 0 + MC ≤ MC ∧ 0 + MS ≤ MS := ⟨by omega, by omega⟩
  unfold wp_X1_best at hw
  refine lv_iload_n hx hb dX1_best_0 rfl (lv_at hl 1 rfl) ?_
  refine lv_if_lt (tgt := 10) hx hb dX1_best_1 (by decide) (fun hc => ?_) (fun hc => ?_)
  · replace hw := hw.1 hc
    exact wk_X1_best_10 C hst hZ htab  a0 h MC MS _ _ _ _ ls hw hM hbud (lv_sub hl [0] rfl)
  · replace hw := hw.2 hc
    refine lv_iload_n hx hb dX1_best_4 rfl (lv_at hl 1 rfl) ?_
    refine lv_bipush (v := 16) hx hb dX1_best_5 (by decide) ?_
    refine lv_icmp_le (tgt := 18) hx hb dX1_best_7 (by decide) (fun hc => ?_) (fun hc => ?_)
    · replace hw := hw.1 hc
      refine lv_aload_n hx hb dX1_best_18 rfl (lv_at hl 0 rfl) ?_
      obtain ⟨c1, d2, mc3, ms4, emc3, ems4, hw⟩ := hw
      have o6 := hw.1
      replace hw := hw.2
      refine rZ_gov C hM (runZ_V C hM hZ hl.1 0 0 (As := []) rfl (by decide) o6 (mt_X1_needSystem l hst D dA ev _ h a0  c1 d2 _ _ hw) (lw_V q789 q791 qs25 q75 q792) rfl rfl (by decide +kernel) ⟨Nat.le_of_ble_eq_true rfl, Nat.le_of_ble_eq_true rfl⟩ rfl (Nat.le_of_ble_eq_true rfl) rfl dX1_best_19 ⟨by show 0 + c1 ≤ MC; omega, by show 0 + d2 ≤ MS; omega⟩) (fun E ce q9 h7 H locs hw hM g1 g2 g3 => rZ_out C hM (fun x hx => (htab x hx).elim) ⟨by show 0 + c1 ≤ MC; omega, by show 0 + d2 ≤ MS; omega⟩ hw g1 g2 g3) (fun h5 H locs hw hM => ?_)
      have hbud : 0 + c1 + mc3 ≤ MC ∧ 0 + d2 + ms4 ≤ MS := ⟨by omega, by omega⟩
      refine lv_aload_n hx hb dX1_best_22 rfl (lv_at hl 0 rfl) ?_
      have o8 := hw.1
      replace hw := hw.2
      obtain ⟨b9, ebb9, hw⟩ := hw
      refine rX_getRs C hM 0 6 rfl in_X1 (by decide) (by decide) rfl q469 o8 ebb9 dX1_best_23 ?_
      refine lv_aload_n hx hb dX1_best_26 rfl (lv_at hl 0 rfl) ?_
      have o10 := hw.1
      replace hw := hw.2
      obtain ⟨b11, ebb11, hw⟩ := hw
      refine rX_getRs C hM 0 2 rfl in_X1 (by decide) (by decide) rfl q465 o10 ebb11 dX1_best_27 ?_
      refine lv_iload_n hx hb dX1_best_30 rfl (lv_at hl 1 rfl) ?_
      have o14 := hw.1
      replace hw := hw.2
      refine rX_goi C hM (runX_V C hM hl.1 7 2 (As := [.ref b11, .int p1]) rfl (by decide) o14 (mt_X8_work l D dA ev _ h5 b9 b11 p1  _ hw) (lw_V q1349 q1350 q1351 q91 q1352) rfl rfl (by decide +kernel) ⟨Nat.le_of_ble_eq_true rfl, Nat.le_of_ble_eq_true rfl⟩ rfl (Nat.le_of_ble_eq_true rfl) rfl dX1_best_31 ⟨by show 0 + c1 + 0 ≤ MC; omega, by show 0 + d2 + 0 ≤ MS; omega⟩) (fun x13 h12 H locs hw hM => ?_)
      refine lv_if_ne (tgt := 45) hx hb dX1_best_34 (by decide) (fun hc => ?_) (fun hc => ?_)
      · replace hw := hw.1 hc
        refine lv_aload_n hx hb dX1_best_45 rfl (lv_at hl 0 rfl) ?_
        refine lv_iconst (v := 1) hx hb dX1_best_46 (by decide) ?_
        have o17 := hw.1
        replace hw := hw.2
        refine rX_putI C hM 0 13 rfl in_X1 (by decide) (by decide) rfl rfl q476 o17 tyX1 tyX1_ok nmX1 rfl (isB_n isB_1) (isB_f isB_1) dX1_best_47 (fun h16 H locs eσ hM => ?_)
        replace hw := hw h16 eσ
        clear eσ
        refine lv_aload_n hx hb dX1_best_50 rfl (lv_at hl 0 rfl) ?_
        have o18 := hw.1
        replace hw := hw.2
        obtain ⟨b19, ebb19, hw⟩ := hw
        refine rX_getRs C hM 0 6 rfl in_X1 (by decide) (by decide) rfl q469 o18 ebb19 dX1_best_51 ?_
        have o20 := hw.1
        replace hw := hw.2
        refine rX_getIN C hM 7 4 rfl in_X8 (by decide) (by decide) rfl q428 o20 dX1_best_54 ?_
        exact vx_ret (rX_iret C hM ⟨by show 0 + c1 ≤ MC; omega, by show 0 + d2 ≤ MS; omega⟩ hw dX1_best_57)
      · replace hw := hw.2 hc
        obtain ⟨mc21, ms22, emc21, ems22, hw⟩ := hw
        exact rZ_throw (cls := eNSE) hst C hM hZ hl.1 (by decide +kernel) atk_nse _ at_nse atg_nse.1 atg_nse.2 (fun x hx => (htab x hx).elim) ⟨Nat.le_of_ble_eq_true rfl, Nat.le_of_ble_eq_true rfl, by show 0 + c1 + 1 ≤ MC; omega, by show 0 + d2 + 6 ≤ MS; omega⟩ ⟨by show 0 + c1 + 1 ≤ MC; omega, by show 0 + d2 + 6 ≤ MS; omega⟩ hw dX1_best_37 dX1_best_40 dX1_best_41 dX1_best_44
    · replace hw := hw.2 hc
      exact wk_X1_best_10 C hst hZ htab  a0 h MC MS _ _ _ _ ls hw hM hbud (lv_sub hl [0] rfl)
abbrev rm_X1_work (MC MS : Nat) : Room := { frames := 12, cells := MC, slots := MS, locals := 316 }
set_option maxHeartbeats 4000000 in
theorem wk_X1_work_119 {p : Program} {l : Launch} {e : Env} {s : State} {m : MethodId} {args : Array Value} {below : List Frame} {meth : Method} {c : Code} {D : va_G} {dA : Nat → ClassId} {ev : Nat → Nat} {h0 : Hp} {sz : Nat} {MC MS : Nat} (C : CxM p s m meth c args (AX dA h0 sz) "LeastSolutions" cX1_work 6 (some .int)) (hst : l.stackTraces = false) (hZ : ZX (AX dA h0 sz) s s.heap) (htab : ∀ x ∈ c.exceptionTable.toList, False) {Qr : Int32 → Hp → Prop} {Xr : String → Hp → Prop} : ∀ (a0 : Nat) (v2 : Int32) (v4 : Nat) (u0 : Int32) (h : Hp) (mc ms : Nat) (cells slots : Nat) (H : Heap) (locs : List Loc) (ls : Array Slot), wp_X1_work_119 ev Qr Xr a0 v2 v4 u0 h mc ms → wX D dA ev (AX dA h0 sz) s h H locs → cells + mc ≤ MC ∧ slots + ms ≤ MS → lv_has ls 6 [(0, .ref a0), (2, .int v2), (4, .ref v4)] → W p l e (rm_X1_work MC MS) s m args below meth c H locs cells slots (vx_MQ below (va_Qi Qr (BX D dA (AX dA h0 sz)) (AX dA h0 sz)) (XP D dA (AX dA h0 sz) Xr) args s MC MS (AX dA h0 sz)) (F0 m 119 ls [.int u0]) := by
  intro a0 v2 v4 u0 h mc ms cells slots H locs ls hw hM hbud hl
  have hx := C.1
  have hb := C.2.1
  have hown := C.2.2.2.2.2.1
  have hts := C.2.2.2.2.2.2.1
  unfold wp_X1_work_119 at hw
  refine lv_istore (lv' := [(5, .int u0), (0, .ref a0), (2, .int v2), (4, .ref v4)]) hx hb dX1_work_119 hl (by decide) rfl (fun ls hl => ?_)
  refine lv_iload hx hb dX1_work_121 (lv_at hl 0 rfl) ?_
  refine lv_if_ne (tgt := 133) hx hb dX1_work_123 (by decide) (fun hc => ?_) (fun hc => ?_)
  · replace hw := hw.1 hc
    refine lv_aload hx hb dX1_work_133 (lv_at hl 3 rfl) ?_
    refine lv_iload_n hx hb dX1_work_135 rfl (lv_at hl 2 rfl) ?_
    have o2 := hw.1
    replace hw := hw.2
    refine rX_putIN C hM 8 1 rfl in_X9 (by decide) (by decide) rfl rfl q455 o2 tyX9 tyX9_ok nmX9 rfl rfl rfl dX1_work_136 (fun h1 H locs eσ hM => ?_)
    replace hw := hw h1 eσ
    clear eσ
    refine lv_aload hx hb dX1_work_139 (lv_at hl 3 rfl) ?_
    have o3 := hw.1
    replace hw := hw.2
    obtain ⟨b4, ebb4, hw⟩ := hw
    refine rX_getRsN C hM 8 0 rfl in_X9 (by decide) (by decide) rfl q453 o3 ebb4 dX1_work_141 ?_
    have o7 := hw.1
    replace hw := hw.2
    refine rX_goi C hM (runX_V C hM hl.1 6 0 (As := []) rfl (by decide) o7 (mt_X7_size l D dA ev _ h1 b4  _ hw) (lw_V q821 q822 q823 q87 q824) rfl rfl (by decide +kernel) ⟨Nat.le_of_ble_eq_true rfl, Nat.le_of_ble_eq_true rfl⟩ rfl (Nat.le_of_ble_eq_true rfl) rfl dX1_work_144 ⟨by show cells + 0 ≤ MC; omega, by show slots + 0 ≤ MS; omega⟩) (fun x6 h5 H locs hw hM => ?_)
    exact vx_ret (rX_iret C hM ⟨by show cells ≤ MC; omega, by show slots ≤ MS; omega⟩ hw dX1_work_147)
  · replace hw := hw.2 hc
    refine lv_aload hx hb dX1_work_126 (lv_at hl 3 rfl) ?_
    obtain ⟨c9, d10, mc11, ms12, emc11, ems12, hw⟩ := hw
    have o14 := hw.1
    replace hw := hw.2
    refine rX_gov C hM (runX_V C hM hl.1 8 0 (As := []) rfl (by decide) o14 (mt_X9_clear l D dA ev _ h v4  c9 d10 _ hw) (lw_V q667 q668 q669 q92 q670) rfl rfl (by decide +kernel) ⟨Nat.le_of_ble_eq_true rfl, Nat.le_of_ble_eq_true rfl⟩ rfl (Nat.le_of_ble_eq_true rfl) rfl dX1_work_128 ⟨by show cells + c9 ≤ MC; omega, by show slots + d10 ≤ MS; omega⟩) (fun h13 H locs hw hM => ?_)
    have hbud : cells + c9 + mc11 ≤ MC ∧ slots + d10 + ms12 ≤ MS := ⟨by omega, by omega⟩
    refine lv_iconst (v := (-1)) hx hb dX1_work_131 (by decide) ?_
    exact vx_ret (rX_iret C hM ⟨by show cells + c9 ≤ MC; omega, by show slots + d10 ≤ MS; omega⟩ hw dX1_work_132)
set_option maxHeartbeats 4000000 in
theorem wk_X1_work_79 {p : Program} {l : Launch} {e : Env} {s : State} {m : MethodId} {args : Array Value} {below : List Frame} {meth : Method} {c : Code} {D : va_G} {dA : Nat → ClassId} {ev : Nat → Nat} {h0 : Hp} {sz : Nat} {MC MS : Nat} (C : CxM p s m meth c args (AX dA h0 sz) "LeastSolutions" cX1_work 6 (some .int)) (hst : l.stackTraces = false) (hZ : ZX (AX dA h0 sz) s s.heap) (htab : ∀ x ∈ c.exceptionTable.toList, False) {Qr : Int32 → Hp → Prop} {Xr : String → Hp → Prop} : ∀ (a0 : Nat) (v1 : Int32) (v2 : Int32) (v4 : Nat) (u0 : Nat) (u1 : Int32) (u2 : Int32) (h : Hp) (mc ms : Nat) (cells slots : Nat) (H : Heap) (locs : List Loc) (ls : Array Slot), wp_X1_work_79 ev Qr Xr a0 v1 v2 v4 u0 u1 u2 h mc ms → wX D dA ev (AX dA h0 sz) s h H locs → cells + mc ≤ MC ∧ slots + ms ≤ MS → lv_has ls 6 [(0, .ref a0), (1, .int v1), (2, .int v2), (4, .ref v4)] → W p l e (rm_X1_work MC MS) s m args below meth c H locs cells slots (vx_MQ below (va_Qi Qr (BX D dA (AX dA h0 sz)) (AX dA h0 sz)) (XP D dA (AX dA h0 sz) Xr) args s MC MS (AX dA h0 sz)) (F0 m 79 ls [.int u2, .int u1, .ref u0]) := by
  intro a0 v1 v2 v4 u0 u1 u2 h mc ms cells slots H locs ls hw hM hbud hl
  have hx := C.1
  have hb := C.2.1
  have hown := C.2.2.2.2.2.1
  have hts := C.2.2.2.2.2.2.1
  unfold wp_X1_work_79 at hw
  refine lv_iand hx hb dX1_work_79 ?_
  have o2 := hw.1
  replace hw := hw.2
  have o3 := hw.1
  replace hw := hw.2
  refine rX_putI C hM 0 12 rfl in_X1 (by decide) (by decide) rfl rfl q475 o2 tyX1 tyX1_ok nmX1 rfl (isB_n o3) (isB_f o3) dX1_work_80 (fun h1 H locs eσ hM => ?_)
  replace hw := hw h1 eσ
  clear eσ
  refine lv_iload_n hx hb dX1_work_83 rfl (lv_at hl 1 rfl) ?_
  refine lv_if_ne (tgt := 97) hx hb dX1_work_84 (by decide) (fun hc => ?_) (fun hc => ?_)
  · replace hw := hw.1 hc
    refine lv_iload_n hx hb dX1_work_97 rfl (lv_at hl 1 rfl) ?_
    refine lv_iconst (v := 1) hx hb dX1_work_98 (by decide) ?_
    refine lv_icmp_ne (tgt := 112) hx hb dX1_work_99 (by decide) (fun hc => ?_) (fun hc => ?_)
    · replace hw := hw.1 hc
      refine lv_aload_n hx hb dX1_work_112 rfl (lv_at hl 0 rfl) ?_
      refine lv_aload hx hb dX1_work_113 (lv_at hl 3 rfl) ?_
      refine lv_iload_n hx hb dX1_work_115 rfl (lv_at hl 2 rfl) ?_
      obtain ⟨c4, d5, mc6, ms7, emc6, ems7, hw⟩ := hw
      have o10 := hw.1
      replace hw := hw.2
      refine rX_goi C hM (runX_V C hM hl.1 0 2 (As := [.ref v4, .int v2]) rfl (by decide) o10 (mt_X1_signed l D dA ev _ h1 a0 v4 v2  c4 d5 _ hw) (lw_V q1306 q1308 qs42 q75 q1309) rfl rfl (by decide +kernel) ⟨Nat.le_of_ble_eq_true rfl, Nat.le_of_ble_eq_true rfl⟩ rfl (Nat.le_of_ble_eq_true rfl) rfl dX1_work_116 ⟨by show cells + c4 ≤ MC; omega, by show slots + d5 ≤ MS; omega⟩) (fun x9 h8 H locs hw hM => ?_)
      have hbud : cells + c4 + mc6 ≤ MC ∧ slots + d5 + ms7 ≤ MS := ⟨by omega, by omega⟩
      exact wk_X1_work_119 C hst hZ htab  a0 v2 v4 x9 h8 mc6 ms7 _ _ _ _ ls hw hM hbud (lv_sub hl [0, 2, 3] rfl)
    · replace hw := hw.2 hc
      refine lv_aload_n hx hb dX1_work_102 rfl (lv_at hl 0 rfl) ?_
      refine lv_aload hx hb dX1_work_103 (lv_at hl 3 rfl) ?_
      refine lv_iload_n hx hb dX1_work_105 rfl (lv_at hl 2 rfl) ?_
      obtain ⟨c12, d13, mc14, ms15, emc14, ems15, hw⟩ := hw
      have o18 := hw.1
      replace hw := hw.2
      refine rX_goi C hM (runX_V C hM hl.1 0 2 (As := [.ref v4, .int v2]) rfl (by decide) o18 (mt_X1_least l D dA ev _ h1 a0 v4 v2  c12 d13 _ hw) (lw_V q1297 q1299 qs41 q75 q1300) rfl rfl (by decide +kernel) ⟨Nat.le_of_ble_eq_true rfl, Nat.le_of_ble_eq_true rfl⟩ rfl (Nat.le_of_ble_eq_true rfl) rfl dX1_work_106 ⟨by show cells + c12 ≤ MC; omega, by show slots + d13 ≤ MS; omega⟩) (fun x17 h16 H locs hw hM => ?_)
      have hbud : cells + c12 + mc14 ≤ MC ∧ slots + d13 + ms15 ≤ MS := ⟨by omega, by omega⟩
      refine lv_goto (tgt := 119) hx hb dX1_work_109 (by decide) ?_
      exact wk_X1_work_119 C hst hZ htab  a0 v2 v4 x17 h16 mc14 ms15 _ _ _ _ ls hw hM hbud (lv_sub hl [0, 2, 3] rfl)
  · replace hw := hw.2 hc
    refine lv_aload_n hx hb dX1_work_87 rfl (lv_at hl 0 rfl) ?_
    refine lv_aload hx hb dX1_work_88 (lv_at hl 3 rfl) ?_
    refine lv_iload_n hx hb dX1_work_90 rfl (lv_at hl 2 rfl) ?_
    obtain ⟨c20, d21, mc22, ms23, emc22, ems23, hw⟩ := hw
    have o26 := hw.1
    replace hw := hw.2
    refine rX_goi C hM (runX_V C hM hl.1 0 2 (As := [.ref v4, .int v2]) rfl (by decide) o26 (mt_X1_summands l D dA ev _ h1 a0 v4 v2  c20 d21 _ hw) (lw_V q931 q933 qs27 q75 q934) rfl rfl (by decide +kernel) ⟨Nat.le_of_ble_eq_true rfl, Nat.le_of_ble_eq_true rfl⟩ rfl (Nat.le_of_ble_eq_true rfl) rfl dX1_work_91 ⟨by show cells + c20 ≤ MC; omega, by show slots + d21 ≤ MS; omega⟩) (fun x25 h24 H locs hw hM => ?_)
    have hbud : cells + c20 + mc22 ≤ MC ∧ slots + d21 + ms23 ≤ MS := ⟨by omega, by omega⟩
    refine lv_goto (tgt := 119) hx hb dX1_work_94 (by decide) ?_
    exact wk_X1_work_119 C hst hZ htab  a0 v2 v4 x25 h24 mc22 ms23 _ _ _ _ ls hw hM hbud (lv_sub hl [0, 2, 3] rfl)
set_option maxHeartbeats 4000000 in
theorem wk_X1_work_34 {p : Program} {l : Launch} {e : Env} {s : State} {m : MethodId} {args : Array Value} {below : List Frame} {meth : Method} {c : Code} {D : va_G} {dA : Nat → ClassId} {ev : Nat → Nat} {h0 : Hp} {sz : Nat} {MC MS : Nat} (C : CxM p s m meth c args (AX dA h0 sz) "LeastSolutions" cX1_work 6 (some .int)) (hst : l.stackTraces = false) (hZ : ZX (AX dA h0 sz) s s.heap) (htab : ∀ x ∈ c.exceptionTable.toList, False) {Qr : Int32 → Hp → Prop} {Xr : String → Hp → Prop} : ∀ (a0 : Nat) (v1 : Int32) (v2 : Int32) (u0 : Int32) (h : Hp) (mc ms : Nat) (cells slots : Nat) (H : Heap) (locs : List Loc) (ls : Array Slot), wp_X1_work_34 ev Qr Xr a0 v1 v2 u0 h mc ms → wX D dA ev (AX dA h0 sz) s h H locs → cells + mc ≤ MC ∧ slots + ms ≤ MS → lv_has ls 6 [(0, .ref a0), (1, .int v1), (2, .int v2)] → W p l e (rm_X1_work MC MS) s m args below meth c H locs cells slots (vx_MQ below (va_Qi Qr (BX D dA (AX dA h0 sz)) (AX dA h0 sz)) (XP D dA (AX dA h0 sz) Xr) args s MC MS (AX dA h0 sz)) (F0 m 34 ls [.int u0]) := by
  intro a0 v1 v2 u0 h mc ms cells slots H locs ls hw hM hbud hl
  have hx := C.1
  have hb := C.2.1
  have hown := C.2.2.2.2.2.1
  have hts := C.2.2.2.2.2.2.1
  unfold wp_X1_work_34 at hw
  refine lv_istore_n (lv' := [(3, .int u0), (0, .ref a0), (1, .int v1), (2, .int v2)]) hx hb dX1_work_34 rfl hl (by decide) rfl (fun ls hl => ?_)
  refine lv_iload_n hx hb dX1_work_35 rfl (lv_at hl 0 rfl) ?_
  refine lv_if_ne (tgt := 47) hx hb dX1_work_36 (by decide) (fun hc => ?_) (fun hc => ?_)
  · replace hw := hw.1 hc
    refine lv_aload_n hx hb dX1_work_47 rfl (lv_at hl 1 rfl) ?_
    obtain ⟨c1, d2, mc3, ms4, emc3, ems4, hw⟩ := hw
    have o6 := hw.1
    replace hw := hw.2
    refine rZ_gov C hM (runZ_V C hM hZ hl.1 0 0 (As := []) rfl (by decide) o6 (mt_X1_needSystem l hst D dA ev _ h a0  c1 d2 _ _ hw) (lw_V q789 q791 qs25 q75 q792) rfl rfl (by decide +kernel) ⟨Nat.le_of_ble_eq_true rfl, Nat.le_of_ble_eq_true rfl⟩ rfl (Nat.le_of_ble_eq_true rfl) rfl dX1_work_48 ⟨by show cells + c1 ≤ MC; omega, by show slots + d2 ≤ MS; omega⟩) (fun E ce q9 h7 H locs hw hM g1 g2 g3 => rZ_out C hM (fun x hx => (htab x hx).elim) ⟨by show cells + c1 ≤ MC; omega, by show slots + d2 ≤ MS; omega⟩ hw g1 g2 g3) (fun h5 H locs hw hM => ?_)
    have hbud : cells + c1 + mc3 ≤ MC ∧ slots + d2 + ms4 ≤ MS := ⟨by omega, by omega⟩
    refine lv_aload_n hx hb dX1_work_51 rfl (lv_at hl 1 rfl) ?_
    have o8 := hw.1
    replace hw := hw.2
    obtain ⟨b9, ebb9, hw⟩ := hw
    refine rX_getRs C hM 0 7 rfl in_X1 (by decide) (by decide) rfl q470 o8 ebb9 dX1_work_52 ?_
    refine lv_iload_n hx hb dX1_work_55 rfl (lv_at hl 2 rfl) ?_
    have o10 := hw.1
    replace hw := hw.2
    have o11 := hw.1
    replace hw := hw.2
    obtain ⟨b12, ebb12, hw⟩ := hw
    refine rX_aalds C hM 7 (by decide) (by decide) o10 o11 ebb12 dX1_work_56 ?_
    refine lv_astore (lv' := [(4, .ref b12), (3, .int u0), (0, .ref a0), (1, .int v1), (2, .int v2)]) hx hb dX1_work_57 hl (by decide) rfl (fun ls hl => ?_)
    refine lv_aload hx hb dX1_work_59 (lv_at hl 0 rfl) ?_
    obtain ⟨c13, d14, mc15, ms16, emc15, ems16, hw⟩ := hw
    have o18 := hw.1
    replace hw := hw.2
    refine rX_gov C hM (runX_V C hM hl.1 8 0 (As := []) rfl (by decide) o18 (mt_X9_clear l D dA ev _ h5 b12  c13 d14 _ hw) (lw_V q667 q668 q669 q92 q670) rfl rfl (by decide +kernel) ⟨Nat.le_of_ble_eq_true rfl, Nat.le_of_ble_eq_true rfl⟩ rfl (Nat.le_of_ble_eq_true rfl) rfl dX1_work_61 ⟨by show cells + c1 + c13 ≤ MC; omega, by show slots + d2 + d14 ≤ MS; omega⟩) (fun h17 H locs hw hM => ?_)
    have hbud : cells + c1 + c13 + mc15 ≤ MC ∧ slots + d2 + d14 + ms16 ≤ MS := ⟨by omega, by omega⟩
    refine lv_aload_n hx hb dX1_work_64 rfl (lv_at hl 2 rfl) ?_
    refine lv_dup hx hb dX1_work_65 rfl ?_
    have o20 := hw.1
    replace hw := hw.2
    refine rX_getI C hM 0 12 rfl in_X1 (by decide) (by decide) rfl q475 o20 dX1_work_66 ?_
    refine lv_iload_n hx hb dX1_work_69 rfl (lv_at hl 3 rfl) ?_
    refine lv_iconst (v := 2) hx hb dX1_work_70 (by decide) ?_
    refine lv_icmp_ne (tgt := 78) hx hb dX1_work_71 (by decide) (fun hc => ?_) (fun hc => ?_)
    · replace hw := hw.1 hc
      refine lv_iconst (v := 0) hx hb dX1_work_78 (by decide) ?_
      exact wk_X1_work_79 C hst hZ htab  a0 v1 v2 b12 a0 ((hI h17 a0 12)) 0 h17 mc15 ms16 _ _ _ _ ls hw hM hbud (lv_sub hl [2, 3, 4, 0] rfl)
    · replace hw := hw.2 hc
      refine lv_iconst (v := 1) hx hb dX1_work_74 (by decide) ?_
      refine lv_goto (tgt := 79) hx hb dX1_work_75 (by decide) ?_
      exact wk_X1_work_79 C hst hZ htab  a0 v1 v2 b12 a0 ((hI h17 a0 12)) 1 h17 mc15 ms16 _ _ _ _ ls hw hM hbud (lv_sub hl [2, 3, 4, 0] rfl)
  · replace hw := hw.2 hc
    obtain ⟨mc21, ms22, emc21, ems22, hw⟩ := hw
    exact rZ_throw (cls := eIAE) hst C hM hZ hl.1 (by decide +kernel) atk_iae _ at_iae atg_iae.1 atg_iae.2 (fun x hx => (htab x hx).elim) ⟨Nat.le_of_ble_eq_true rfl, Nat.le_of_ble_eq_true rfl, by show cells + 1 ≤ MC; omega, by show slots + 6 ≤ MS; omega⟩ ⟨by show cells + 1 ≤ MC; omega, by show slots + 6 ≤ MS; omega⟩ hw dX1_work_39 dX1_work_42 dX1_work_43 dX1_work_46
set_option maxHeartbeats 4000000 in
theorem wk_X1_work_33 {p : Program} {l : Launch} {e : Env} {s : State} {m : MethodId} {args : Array Value} {below : List Frame} {meth : Method} {c : Code} {D : va_G} {dA : Nat → ClassId} {ev : Nat → Nat} {h0 : Hp} {sz : Nat} {MC MS : Nat} (C : CxM p s m meth c args (AX dA h0 sz) "LeastSolutions" cX1_work 6 (some .int)) (hst : l.stackTraces = false) (hZ : ZX (AX dA h0 sz) s s.heap) (htab : ∀ x ∈ c.exceptionTable.toList, False) {Qr : Int32 → Hp → Prop} {Xr : String → Hp → Prop} : ∀ (a0 : Nat) (v1 : Int32) (v2 : Int32) (h : Hp) (mc ms : Nat) (cells slots : Nat) (H : Heap) (locs : List Loc) (ls : Array Slot), wp_X1_work_33 ev Qr Xr a0 v1 v2 h mc ms → wX D dA ev (AX dA h0 sz) s h H locs → cells + mc ≤ MC ∧ slots + ms ≤ MS → lv_has ls 6 [(0, .ref a0), (1, .int v1), (2, .int v2)] → W p l e (rm_X1_work MC MS) s m args below meth c H locs cells slots (vx_MQ below (va_Qi Qr (BX D dA (AX dA h0 sz)) (AX dA h0 sz)) (XP D dA (AX dA h0 sz) Xr) args s MC MS (AX dA h0 sz)) (F0 m 33 ls []) := by
  intro a0 v1 v2 h mc ms cells slots H locs ls hw hM hbud hl
  have hx := C.1
  have hb := C.2.1
  have hown := C.2.2.2.2.2.1
  have hts := C.2.2.2.2.2.2.1
  unfold wp_X1_work_33 at hw
  refine lv_iconst (v := 0) hx hb dX1_work_33 (by decide) ?_
  exact wk_X1_work_34 C hst hZ htab  a0 v1 v2 0 h mc ms _ _ _ _ ls hw hM hbud (lv_sub hl [0, 1, 2] rfl)
set_option maxHeartbeats 4000000 in
theorem wk_X1_work_26 {p : Program} {l : Launch} {e : Env} {s : State} {m : MethodId} {args : Array Value} {below : List Frame} {meth : Method} {c : Code} {D : va_G} {dA : Nat → ClassId} {ev : Nat → Nat} {h0 : Hp} {sz : Nat} {MC MS : Nat} (C : CxM p s m meth c args (AX dA h0 sz) "LeastSolutions" cX1_work 6 (some .int)) (hst : l.stackTraces = false) (hZ : ZX (AX dA h0 sz) s s.heap) (htab : ∀ x ∈ c.exceptionTable.toList, False) {Qr : Int32 → Hp → Prop} {Xr : String → Hp → Prop} : ∀ (a0 : Nat) (v1 : Int32) (v2 : Int32) (u0 : Int32) (u1 : Int32) (h : Hp) (mc ms : Nat) (cells slots : Nat) (H : Heap) (locs : List Loc) (ls : Array Slot), wp_X1_work_26 ev Qr Xr a0 v1 v2 u0 u1 h mc ms → wX D dA ev (AX dA h0 sz) s h H locs → cells + mc ≤ MC ∧ slots + ms ≤ MS → lv_has ls 6 [(0, .ref a0), (1, .int v1), (2, .int v2)] → W p l e (rm_X1_work MC MS) s m args below meth c H locs cells slots (vx_MQ below (va_Qi Qr (BX D dA (AX dA h0 sz)) (AX dA h0 sz)) (XP D dA (AX dA h0 sz) Xr) args s MC MS (AX dA h0 sz)) (F0 m 26 ls [.int u1, .int u0]) := by
  intro a0 v1 v2 u0 u1 h mc ms cells slots H locs ls hw hM hbud hl
  have hx := C.1
  have hb := C.2.1
  have hown := C.2.2.2.2.2.1
  have hts := C.2.2.2.2.2.2.1
  unfold wp_X1_work_26 at hw
  refine lv_icmp_gt (tgt := 33) hx hb dX1_work_26 (by decide) (fun hc => ?_) (fun hc => ?_)
  · replace hw := hw.1 hc
    exact wk_X1_work_33 C hst hZ htab  a0 v1 v2 h mc ms _ _ _ _ ls hw hM hbud (lv_sub hl [0, 1, 2] rfl)
  · replace hw := hw.2 hc
    refine lv_iconst (v := 1) hx hb dX1_work_29 (by decide) ?_
    refine lv_goto (tgt := 34) hx hb dX1_work_30 (by decide) ?_
    exact wk_X1_work_34 C hst hZ htab  a0 v1 v2 1 h mc ms _ _ _ _ ls hw hM hbud (lv_sub hl [0, 1, 2] rfl)
set_option maxHeartbeats 4000000 in
/-- LeastSolutions.work(II)I -/
theorem mt_X1_work (l : Launch) (hst : l.stackTraces = false) (D : va_G) (dA : Nat → ClassId) (ev : Nat → Nat) (sz : Nat) (h : Hp) (a0 : Nat) (p1 : Int32) (p2 : Int32) (MC MS : Nat) (Qr : Int32 → Hp → Prop) (Xr : String → Hp → Prop) (hw : wp_X1_work ev h a0 p1 p2 MC MS Qr Xr) : vx_Met l yX1_work (ws_ yX1_work cX1_work 6 (some .int)) (rm_X1_work MC MS) (PcZ D dA ev h sz [.ref a0, .int p1, .int p2]) (va_Qi Qr (BX D dA (AX dA h sz)) (AX dA h sz)) (XP D dA (AX dA h sz) Xr) MC MS (AX dA h sz) := by
  refine vx_ofW (cc := cX1_work) (maxL := 6) (ret := (some .int)) (by decide) rfl ?_
  intro p e s m args below meth c s₁ B hml htab hv
  obtain ⟨rfl, ⟨hsz, hP, hK, hD0, hE⟩, hZ⟩ := hv
  subst hsz
  have hts0 := atoms_spec (ws := ws_ yX1_work cX1_work 6 (some .int)) B.pre
  have C : CxM p s m meth c _ (AX dA h s.heap.size) "LeastSolutions" cX1_work 6 (some .int) := ⟨B.exec, B.bytes, B.returns, B.notSynchronized, hml, findClass_of_methodNamed B.named, fun w h => hts0 w (List.mem_cons_of_mem _ h), fun q h => Or.inr h⟩
  have hM : wX D dA ev (AX dA h s.heap.size) s h s.heap [] := ⟨hK, hP, hD0.self, va_S.rf, hE⟩
  have hx := C.1
  have hb := C.2.1
  have hown := C.2.2.2.2.2.1
  have hts := C.2.2.2.2.2.2.1
  have hl := lv_entry ([.ref a0, .int p1, .int p2]) (n := 6) (Nat.le_of_ble_eq_true rfl)
  rw [lg_entry_eq]
  generalize (lg_sl ([.ref a0, .int p1, .int p2]) ++ List.replicate (6 - (lg_sl ([.ref a0, .int p1, .int p2])).length) Slot.unset).toArray = ls at hl ⊢
  have hl : lv_has ls 6 [(0, .ref a0), (1, .int p1), (2, .int p2)] := hl
  have hbud : 0 + MC ≤ MC ∧ 0 + MS ≤ MS := ⟨by omega, by omega⟩
  unfold wp_X1_work at hw
  refine lv_iload_n hx hb dX1_work_0 rfl (lv_at hl 1 rfl) ?_
  refine lv_if_lt (tgt := 33) hx hb dX1_work_1 (by decide) (fun hc => ?_) (fun hc => ?_)
  · replace hw := hw.1 hc
    exact wk_X1_work_33 C hst hZ htab  a0 p1 p2 h MC MS _ _ _ _ ls hw hM hbud (lv_sub hl [0, 1, 2] rfl)
  · replace hw := hw.2 hc
    refine lv_iload_n hx hb dX1_work_4 rfl (lv_at hl 1 rfl) ?_
    refine lv_iconst (v := 2) hx hb dX1_work_5 (by decide) ?_
    refine lv_icmp_gt (tgt := 33) hx hb dX1_work_6 (by decide) (fun hc => ?_) (fun hc => ?_)
    · replace hw := hw.1 hc
      exact wk_X1_work_33 C hst hZ htab  a0 p1 p2 h MC MS _ _ _ _ ls hw hM hbud (lv_sub hl [0, 1, 2] rfl)
    · replace hw := hw.2 hc
      refine lv_iload_n hx hb dX1_work_9 rfl (lv_at hl 2 rfl) ?_
      refine lv_if_lt (tgt := 33) hx hb dX1_work_10 (by decide) (fun hc => ?_) (fun hc => ?_)
      · replace hw := hw.1 hc
        exact wk_X1_work_33 C hst hZ htab  a0 p1 p2 h MC MS _ _ _ _ ls hw hM hbud (lv_sub hl [0, 1, 2] rfl)
      · replace hw := hw.2 hc
        refine lv_iload_n hx hb dX1_work_13 rfl (lv_at hl 2 rfl) ?_
        refine lv_iload_n hx hb dX1_work_14 rfl (lv_at hl 1 rfl) ?_
        refine lv_iconst (v := 2) hx hb dX1_work_15 (by decide) ?_
        refine lv_icmp_ne (tgt := 24) hx hb dX1_work_16 (by decide) (fun hc => ?_) (fun hc => ?_)
        · replace hw := hw.1 hc
          refine lv_bipush (v := 16) hx hb dX1_work_24 (by decide) ?_
          exact wk_X1_work_26 C hst hZ htab  a0 p1 p2 p2 16 h MC MS _ _ _ _ ls hw hM hbud (lv_sub hl [0, 1, 2] rfl)
        · replace hw := hw.2 hc
          refine lv_bipush (v := 10) hx hb dX1_work_19 (by decide) ?_
          refine lv_goto (tgt := 26) hx hb dX1_work_21 (by decide) ?_
          exact wk_X1_work_26 C hst hZ htab  a0 p1 p2 p2 10 h MC MS _ _ _ _ ls hw hM hbud (lv_sub hl [0, 1, 2] rfl)
