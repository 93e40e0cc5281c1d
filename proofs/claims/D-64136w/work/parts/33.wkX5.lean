set_option maxRecDepth 100000
abbrev rm_X3_init (MC MS : Nat) : Room := { frames := 6, cells := MC, slots := MS, locals := 110 }
set_option maxHeartbeats 4000000 in
/-- LeastSolutions$Reader.<init>(LLeastSolutions$Scanner;)V -/
theorem mt_X3_init (l : Launch) (hst : l.stackTraces = false) (D : va_G) (dA : Nat → ClassId) (ev : Nat → Nat) (sz : Nat) (h : Hp) (a0 : Nat) (p1 : Nat) (MC MS : Nat) (Qr : Hp → Prop) (Xr : String → Hp → Prop) (hw : wp_X3_init ev h a0 p1 MC MS Qr Xr) : vx_Met l yX3_init (ws_ yX3_init cX3_init 2 none) (rm_X3_init MC MS) (PcZ D dA ev h sz [.ref a0, .ref p1]) (va_Qv Qr (BX D dA (AX dA h sz)) (AX dA h sz)) (XP D dA (AX dA h sz) Xr) MC MS (AX dA h sz) := by
  refine vx_ofW (cc := cX3_init) (maxL := 2) (ret := none) (by decide) rfl ?_
  intro p e s m args below meth c s₁ B hml htab hv
  obtain ⟨rfl, ⟨hsz, hP, hK, hD0, hE⟩, hZ⟩ := hv
  subst hsz
  have hts0 := atoms_spec (ws := ws_ yX3_init cX3_init 2 none) B.pre
  have C : CxM p s m meth c _ (AX dA h s.heap.size) "LeastSolutions$Reader" cX3_init 2 none := ⟨B.exec, B.bytes, B.returns, B.notSynchronized, hml, findClass_of_methodNamed B.named, fun w h => hts0 w (List.mem_cons_of_mem _ h), fun q h => Or.inr h⟩
  have hin0 : meth.name = "<init>" := (name_of_methodNamed B.named B.method).1
  have hM : wX D dA ev (AX dA h s.heap.size) s h s.heap [] := ⟨hK, hP, hD0.self, va_S.rf, hE⟩
  have hx := C.1
  have hb := C.2.1
  have hown := C.2.2.2.2.2.1
  have hts := C.2.2.2.2.2.2.1
  have hl := lv_entry ([.ref a0, .ref p1]) (n := 2) (Nat.le_of_ble_eq_true rfl)
  rw [lg_entry_eq]
  generalize (lg_sl ([.ref a0, .ref p1]) ++ List.replicate (2 - (lg_sl ([.ref a0, .ref p1])).length) Slot.unset).toArray = ls at hl ⊢
  have hl : lv_has ls 2 [(0, .ref a0), (1, .ref p1)] := hl
  have hbud : 0 + MC ≤ MC ∧ 0 + MS ≤ MS := ⟨by omega, by omega⟩
  unfold wp_X3_init at hw
  refine lv_aload_n hx hb dX3_init_0 rfl (lv_at hl 0 rfl) ?_
  refine W.objInit hx hb hown (hts _ q158) (hts _ q118) (hts _ q119) rfl (by rw [C.2.2.2.2.1]; exact hl.1) rfl dX3_init_1 (Nat.le_of_ble_eq_true rfl) (Nat.le_of_ble_eq_true rfl) ?_
  refine W.eq (g2 := F0 m 4 ls []) rfl ?_
  refine lv_aload_n hx hb dX3_init_4 rfl (lv_at hl 0 rfl) ?_
  obtain ⟨mc1, ms2, emc1, ems2, hw⟩ := hw
  refine rZ_make (cls := eIAE) hst C hM hZ hl.1 rfl (by decide +kernel) atk_sig _ at_sig atg_sig.1 atg_sig.2 ⟨Nat.le_of_ble_eq_true rfl, Nat.le_of_ble_eq_true rfl, by show 0 + 1 ≤ MC; omega, by show 0 + 6 ≤ MS; omega⟩ dX3_init_5 dX3_init_8 dX3_init_9 (fun q3 h4 H hqq3 eσ hM => ?_)
  replace hw := hw q3 hqq3 h4 eσ
  clear eσ
  have hbud : 0 + 1 + mc1 ≤ MC ∧ 0 + 6 + ms2 ≤ MS := ⟨by omega, by omega⟩
  have o6 := hw.1
  replace hw := hw.2
  refine rX_putF C hin0 hM 2 1 rfl in_X3 (by decide) (by decide) rfl rfl q226 rfl o6 (x := (some q3)) tyX3 tyX3_ok nmX3 rfl rfl rfl dX3_init_12 (fun h5 H locs eσ hM => ?_)
  replace hw := hw h5 eσ
  clear eσ
  refine lv_aload_n hx hb dX3_init_15 rfl (lv_at hl 0 rfl) ?_
  refine lv_iconst (v := 4) hx hb dX3_init_16 (by decide) ?_
  obtain ⟨mc8, ms9, emc8, ems9, hw⟩ := hw
  refine rX_newi C hM (N := 4) q257 (by decide) (by decide) (by decide) (by show 0 + 1 + 1 ≤ MC; omega) (by show 0 + 6 + 4 ≤ MS; omega) dX3_init_17 (fun q10 h11 H hqq10 eσ hM => ?_)
  replace hw := hw q10 hqq10 h11 eσ
  clear eσ
  have hbud : 0 + 1 + 1 + mc8 ≤ MC ∧ 0 + 6 + 4 + ms9 ≤ MS := ⟨by omega, by omega⟩
  have o13 := hw.1
  replace hw := hw.2
  refine rX_putF C hin0 hM 2 2 rfl in_X3 (by decide) (by decide) rfl rfl q227 rfl o13 (x := (some q10)) tyX3 tyX3_ok nmX3 rfl rfl rfl dX3_init_19 (fun h12 H locs eσ hM => ?_)
  replace hw := hw h12 eσ
  clear eσ
  refine lv_aload_n hx hb dX3_init_22 rfl (lv_at hl 0 rfl) ?_
  refine lv_bipush (v := 6) hx hb dX3_init_23 (by decide) ?_
  obtain ⟨mc15, ms16, emc15, ems16, hw⟩ := hw
  refine rX_newi C hM (N := 6) q257 (by decide) (by decide) (by decide) (by show 0 + 1 + 1 + 1 ≤ MC; omega) (by show 0 + 6 + 4 + 6 ≤ MS; omega) dX3_init_25 (fun q17 h18 H hqq17 eσ hM => ?_)
  replace hw := hw q17 hqq17 h18 eσ
  clear eσ
  have hbud : 0 + 1 + 1 + 1 + mc15 ≤ MC ∧ 0 + 6 + 4 + 6 + ms16 ≤ MS := ⟨by omega, by omega⟩
  have o20 := hw.1
  replace hw := hw.2
  refine rX_putF C hin0 hM 2 4 rfl in_X3 (by decide) (by decide) rfl rfl q229 rfl o20 (x := (some q17)) tyX3 tyX3_ok nmX3 rfl rfl rfl dX3_init_27 (fun h19 H locs eσ hM => ?_)
  replace hw := hw h19 eσ
  clear eσ
  refine lv_aload_n hx hb dX3_init_30 rfl (lv_at hl 0 rfl) ?_
  refine lv_aload_n hx hb dX3_init_31 rfl (lv_at hl 1 rfl) ?_
  have o22 := hw.1
  replace hw := hw.2
  refine rX_putF C hin0 hM 2 0 rfl in_X3 (by decide) (by decide) rfl rfl q225 rfl o22 (x := (some p1)) tyX3 tyX3_ok nmX3 rfl rfl rfl dX3_init_32 (fun h21 H locs eσ hM => ?_)
  replace hw := hw h21 eσ
  clear eσ
  exact vx_ret (rX_vret C hM ⟨by show 0 + 1 + 1 + 1 ≤ MC; omega, by show 0 + 6 + 4 + 6 ≤ MS; omega⟩ hw dX3_init_35)
abbrev rm_X4_init (MC MS : Nat) : Room := { frames := 1, cells := MC, slots := MS, locals := 60 }
set_option maxHeartbeats 4000000 in
/-- LeastSolutions$Model.<init>()V -/
theorem mt_X4_init (l : Launch) (D : va_G) (dA : Nat → ClassId) (ev : Nat → Nat) (sz : Nat) (h : Hp) (a0 : Nat) (MC MS : Nat) (Qr : Hp → Prop) (hw : wp_X4_init ev h a0 MC MS Qr) : Met l yX4_init (ws_ yX4_init cX4_init 1 none) (rm_X4_init MC MS) (PcX D dA ev h sz [.ref a0]) (va_Qv Qr (BX D dA (AX dA h sz)) (AX dA h sz)) MC MS (AX dA h sz) := by
  refine Met.ofW (cc := cX4_init) (maxL := 1) (ret := none) (by decide) rfl ?_
  intro p e s m args below meth c s₁ B hml hv
  obtain ⟨rfl, hsz, hP, hK, hD0, hE⟩ := hv
  subst hsz
  have hts0 := atoms_spec (ws := ws_ yX4_init cX4_init 1 none) B.pre
  have C : CxM p s m meth c _ (AX dA h s.heap.size) "LeastSolutions$Model" cX4_init 1 none := ⟨B.exec, B.bytes, B.returns, B.notSynchronized, hml, findClass_of_methodNamed B.named, fun w h => hts0 w (List.mem_cons_of_mem _ h), fun q h => Or.inr h⟩
  have hin0 : meth.name = "<init>" := (name_of_methodNamed B.named B.method).1
  have hM : wX D dA ev (AX dA h s.heap.size) s h s.heap [] := ⟨hK, hP, hD0.self, va_S.rf, hE⟩
  have hx := C.1
  have hb := C.2.1
  have hown := C.2.2.2.2.2.1
  have hts := C.2.2.2.2.2.2.1
  have hl := lv_entry ([.ref a0]) (n := 1) (Nat.le_of_ble_eq_true rfl)
  rw [lg_entry_eq]
  generalize (lg_sl ([.ref a0]) ++ List.replicate (1 - (lg_sl ([.ref a0])).length) Slot.unset).toArray = ls at hl ⊢
  have hl : lv_has ls 1 [(0, .ref a0)] := hl
  have hbud : 0 + MC ≤ MC ∧ 0 + MS ≤ MS := ⟨by omega, by omega⟩
  unfold wp_X4_init at hw
  refine lv_aload_n hx hb dX4_init_0 rfl (lv_at hl 0 rfl) ?_
  refine W.objInit hx hb hown (hts _ q263) (hts _ q118) (hts _ q119) rfl (by rw [C.2.2.2.2.1]; exact hl.1) rfl dX4_init_1 (Nat.le_of_ble_eq_true rfl) (Nat.le_of_ble_eq_true rfl) ?_
  refine W.eq (g2 := F0 m 4 ls []) rfl ?_
  refine lv_aload_n hx hb dX4_init_4 rfl (lv_at hl 0 rfl) ?_
  refine lv_bipush (v := 6) hx hb dX4_init_5 (by decide) ?_
  obtain ⟨mc2, ms3, emc2, ems3, hw⟩ := hw
  refine rX_newi C hM (N := 6) q257 (by decide) (by decide) (by decide) (by show 0 + 1 ≤ MC; omega) (by show 0 + 6 ≤ MS; omega) dX4_init_7 (fun q4 h5 H hqq4 eσ hM => ?_)
  replace hw := hw q4 hqq4 h5 eσ
  clear eσ
  have hbud : 0 + 1 + mc2 ≤ MC ∧ 0 + 6 + ms3 ≤ MS := ⟨by omega, by omega⟩
  have o7 := hw.1
  replace hw := hw.2
  refine rX_putF C hin0 hM 3 3 rfl in_X4 (by decide) (by decide) rfl rfl q281 rfl o7 (x := (some q4)) tyX4 tyX4_ok nmX4 rfl rfl rfl dX4_init_9 (fun h6 H locs eσ hM => ?_)
  replace hw := hw h6 eσ
  clear eσ
  refine lv_aload_n hx hb dX4_init_12 rfl (lv_at hl 0 rfl) ?_
  refine lv_iconst (v := 4) hx hb dX4_init_13 (by decide) ?_
  refine lv_bipush (v := 6) hx hb dX4_init_14 (by decide) ?_
  obtain ⟨mc8, ms9, emc8, ems9, hw⟩ := hw
  refine rX_multi C hM 4 0 (n := 4) (k := 6) (ty := .int) (by decide) q264 q257 hM.2.2.2.2.2.2.2.2.2.2.2.1 (by decide) ⟨by decide, by decide⟩ ⟨by decide, by decide⟩ (by show 0 + 1 + (1 + 4) ≤ MC; omega) (by show 0 + 6 + (4 + 4 * 6) ≤ MS; omega) dX4_init_16 (fun q10 h11 H hqq10 eσ hM => ?_)
  replace hw := hw q10 hqq10 h11 eσ
  clear eσ
  have hbud : 0 + 1 + (1 + 4) + mc8 ≤ MC ∧ 0 + 6 + (4 + 4 * 6) + ms9 ≤ MS := ⟨by omega, by omega⟩
  have o13 := hw.1
  replace hw := hw.2
  refine rX_putF C hin0 hM 3 4 rfl in_X4 (by decide) (by decide) rfl rfl q284 rfl o13 (x := (some q10)) tyX4 tyX4_ok nmX4 rfl rfl rfl dX4_init_20 (fun h12 H locs eσ hM => ?_)
  replace hw := hw h12 eσ
  clear eσ
  refine lv_aload_n hx hb dX4_init_23 rfl (lv_at hl 0 rfl) ?_
  refine lv_iconst (v := 4) hx hb dX4_init_24 (by decide) ?_
  obtain ⟨mc15, ms16, emc15, ems16, hw⟩ := hw
  refine rX_newi C hM (N := 4) q257 (by decide) (by decide) (by decide) (by show 0 + 1 + (1 + 4) + 1 ≤ MC; omega) (by show 0 + 6 + (4 + 4 * 6) + 4 ≤ MS; omega) dX4_init_25 (fun q17 h18 H hqq17 eσ hM => ?_)
  replace hw := hw q17 hqq17 h18 eσ
  clear eσ
  have hbud : 0 + 1 + (1 + 4) + 1 + mc15 ≤ MC ∧ 0 + 6 + (4 + 4 * 6) + 4 + ms16 ≤ MS := ⟨by omega, by omega⟩
  have o20 := hw.1
  replace hw := hw.2
  refine rX_putF C hin0 hM 3 5 rfl in_X4 (by decide) (by decide) rfl rfl q290 rfl o20 (x := (some q17)) tyX4 tyX4_ok nmX4 rfl rfl rfl dX4_init_27 (fun h19 H locs eσ hM => ?_)
  replace hw := hw h19 eσ
  clear eσ
  exact rX_vret C hM ⟨by show 0 + 1 + (1 + 4) + 1 ≤ MC; omega, by show 0 + 6 + (4 + 4 * 6) + 4 ≤ MS; omega⟩ hw dX4_init_30
abbrev rm_X5_init (MC MS : Nat) : Room := { frames := 1, cells := MC, slots := MS, locals := 60 }
set_option maxHeartbeats 4000000 in
/-- LeastSolutions$Lattice.<init>()V -/
theorem mt_X5_init (l : Launch) (D : va_G) (dA : Nat → ClassId) (ev : Nat → Nat) (sz : Nat) (h : Hp) (a0 : Nat) (MC MS : Nat) (Qr : Hp → Prop) (hw : wp_X5_init ev h a0 MC MS Qr) : Met l yX5_init (ws_ yX5_init cX5_init 1 none) (rm_X5_init MC MS) (PcX D dA ev h sz [.ref a0]) (va_Qv Qr (BX D dA (AX dA h sz)) (AX dA h sz)) MC MS (AX dA h sz) := by
  refine Met.ofW (cc := cX5_init) (maxL := 1) (ret := none) (by decide) rfl ?_
  intro p e s m args below meth c s₁ B hml hv
  obtain ⟨rfl, hsz, hP, hK, hD0, hE⟩ := hv
  subst hsz
  have hts0 := atoms_spec (ws := ws_ yX5_init cX5_init 1 none) B.pre
  have C : CxM p s m meth c _ (AX dA h s.heap.size) "LeastSolutions$Lattice" cX5_init 1 none := ⟨B.exec, B.bytes, B.returns, B.notSynchronized, hml, findClass_of_methodNamed B.named, fun w h => hts0 w (List.mem_cons_of_mem _ h), fun q h => Or.inr h⟩
  have hin0 : meth.name = "<init>" := (name_of_methodNamed B.named B.method).1
  have hM : wX D dA ev (AX dA h s.heap.size) s h s.heap [] := ⟨hK, hP, hD0.self, va_S.rf, hE⟩
  have hx := C.1
  have hb := C.2.1
  have hown := C.2.2.2.2.2.1
  have hts := C.2.2.2.2.2.2.1
  have hl := lv_entry ([.ref a0]) (n := 1) (Nat.le_of_ble_eq_true rfl)
  rw [lg_entry_eq]
  generalize (lg_sl ([.ref a0]) ++ List.replicate (1 - (lg_sl ([.ref a0])).length) Slot.unset).toArray = ls at hl ⊢
  have hl : lv_has ls 1 [(0, .ref a0)] := hl
  have hbud : 0 + MC ≤ MC ∧ 0 + MS ≤ MS := ⟨by omega, by omega⟩
  unfold wp_X5_init at hw
  refine lv_aload_n hx hb dX5_init_0 rfl (lv_at hl 0 rfl) ?_
  refine W.objInit hx hb hown (hts _ q314) (hts _ q118) (hts _ q119) rfl (by rw [C.2.2.2.2.1]; exact hl.1) rfl dX5_init_1 (Nat.le_of_ble_eq_true rfl) (Nat.le_of_ble_eq_true rfl) ?_
  refine W.eq (g2 := F0 m 4 ls []) rfl ?_
  refine lv_aload_n hx hb dX5_init_4 rfl (lv_at hl 0 rfl) ?_
  refine lv_bipush (v := 6) hx hb dX5_init_5 (by decide) ?_
  refine lv_bipush (v := 10) hx hb dX5_init_7 (by decide) ?_
  obtain ⟨mc1, ms2, emc1, ems2, hw⟩ := hw
  refine rX_multi C hM 5 3 (n := 6) (k := 10) (ty := .long) (by decide) q315 q334 hM.2.2.2.2.2.2.2.2.2.2.2.2.1 (by decide) ⟨by decide, by decide⟩ ⟨by decide, by decide⟩ (by show 0 + (1 + 6) ≤ MC; omega) (by show 0 + (6 + 6 * 10) ≤ MS; omega) dX5_init_9 (fun q3 h4 H hqq3 eσ hM => ?_)
  replace hw := hw q3 hqq3 h4 eσ
  clear eσ
  have hbud : 0 + (1 + 6) + mc1 ≤ MC ∧ 0 + (6 + 6 * 10) + ms2 ≤ MS := ⟨by omega, by omega⟩
  have o6 := hw.1
  replace hw := hw.2
  refine rX_putF C hin0 hM 4 0 rfl in_X5 (by decide) (by decide) rfl rfl q317 rfl o6 (x := (some q3)) tyX5 tyX5_ok nmX5 rfl rfl rfl dX5_init_13 (fun h5 H locs eσ hM => ?_)
  replace hw := hw h5 eσ
  clear eσ
  refine lv_aload_n hx hb dX5_init_16 rfl (lv_at hl 0 rfl) ?_
  refine lv_iconst (v := 4) hx hb dX5_init_17 (by decide) ?_
  obtain ⟨mc8, ms9, emc8, ems9, hw⟩ := hw
  refine rX_newl C hM (N := 4) q334 (by decide) (by decide) (by decide) (by show 0 + (1 + 6) + 1 ≤ MC; omega) (by show 0 + (6 + 6 * 10) + 4 ≤ MS; omega) dX5_init_18 (fun q10 h11 H hqq10 eσ hM => ?_)
  replace hw := hw q10 hqq10 h11 eσ
  clear eσ
  have hbud : 0 + (1 + 6) + 1 + mc8 ≤ MC ∧ 0 + (6 + 6 * 10) + 4 + ms9 ≤ MS := ⟨by omega, by omega⟩
  have o13 := hw.1
  replace hw := hw.2
  refine rX_putF C hin0 hM 4 1 rfl in_X5 (by decide) (by decide) rfl rfl q318 rfl o13 (x := (some q10)) tyX5 tyX5_ok nmX5 rfl rfl rfl dX5_init_20 (fun h12 H locs eσ hM => ?_)
  replace hw := hw h12 eσ
  clear eσ
  exact rX_vret C hM ⟨by show 0 + (1 + 6) + 1 ≤ MC; omega, by show 0 + (6 + 6 * 10) + 4 ≤ MS; omega⟩ hw dX5_init_23
abbrev rm_X1_init (MC MS : Nat) : Room := { frames := 7, cells := MC, slots := MS, locals := 160 }
set_option maxHeartbeats 4000000 in
/-- LeastSolutions.<init>()V -/
theorem mt_X1_init (l : Launch) (hst : l.stackTraces = false) (D : va_G) (dA : Nat → ClassId) (ev : Nat → Nat) (sz : Nat) (h : Hp) (a0 : Nat) (MC MS : Nat) (Qr : Hp → Prop) (Xr : String → Hp → Prop) (hw : wp_X1_init ev h a0 MC MS Qr Xr) : vx_Met l yX1_init (ws_ yX1_init cX1_init 1 none) (rm_X1_init MC MS) (PcZ D dA ev h sz [.ref a0]) (va_Qv Qr (BX D dA (AX dA h sz)) (AX dA h sz)) (XP D dA (AX dA h sz) Xr) MC MS (AX dA h sz) := by
  refine vx_ofW (cc := cX1_init) (maxL := 1) (ret := none) (by decide) rfl ?_
  intro p e s m args below meth c s₁ B hml htab hv
  obtain ⟨rfl, ⟨hsz, hP, hK, hD0, hE⟩, hZ⟩ := hv
  subst hsz
  have hts0 := atoms_spec (ws := ws_ yX1_init cX1_init 1 none) B.pre
  have C : CxM p s m meth c _ (AX dA h s.heap.size) "LeastSolutions" cX1_init 1 none := ⟨B.exec, B.bytes, B.returns, B.notSynchronized, hml, findClass_of_methodNamed B.named, fun w h => hts0 w (List.mem_cons_of_mem _ h), fun q h => Or.inr h⟩
  have hin0 : meth.name = "<init>" := (name_of_methodNamed B.named B.method).1
  have hM : wX D dA ev (AX dA h s.heap.size) s h s.heap [] := ⟨hK, hP, hD0.self, va_S.rf, hE⟩
  have hx := C.1
  have hb := C.2.1
  have hown := C.2.2.2.2.2.1
  have hts := C.2.2.2.2.2.2.1
  have hl := lv_entry ([.ref a0]) (n := 1) (Nat.le_of_ble_eq_true rfl)
  rw [lg_entry_eq]
  generalize (lg_sl ([.ref a0]) ++ List.replicate (1 - (lg_sl ([.ref a0])).length) Slot.unset).toArray = ls at hl ⊢
  have hl : lv_has ls 1 [(0, .ref a0)] := hl
  have hbud : 0 + MC ≤ MC ∧ 0 + MS ≤ MS := ⟨by omega, by omega⟩
  unfold wp_X1_init at hw
  refine lv_aload_n hx hb dX1_init_0 rfl (lv_at hl 0 rfl) ?_
  refine W.objInit hx hb hown (hts _ q117) (hts _ q118) (hts _ q119) rfl (by rw [C.2.2.2.2.1]; exact hl.1) rfl dX1_init_1 (Nat.le_of_ble_eq_true rfl) (Nat.le_of_ble_eq_true rfl) ?_
  refine W.eq (g2 := F0 m 4 ls []) rfl ?_
  refine lv_aload_n hx hb dX1_init_4 rfl (lv_at hl 0 rfl) ?_
  obtain ⟨mc1, ms2, emc1, ems2, hw⟩ := hw
  refine rX_new C hM 1 rfl in_X2 (by decide) tyX2 tyX2_ok q120 q121 q76 (fun j hj => by match j, hj with | 0, _ => rfl | 1, _ => rfl | 2, _ => rfl | 3, _ => rfl | 4, _ => rfl | 5, _ => rfl) (by show 0 + 1 ≤ MC; omega) (by show 0 + 6 ≤ MS; omega) dX1_init_5 (fun q3 h4 H hqq3 eσ hM => ?_)
  replace hw := hw q3 hqq3 h4 eσ
  clear eσ
  have hbud : 0 + 1 + mc1 ≤ MC ∧ 0 + 6 + ms2 ≤ MS := ⟨by omega, by omega⟩
  refine lv_dup hx hb dX1_init_8 rfl ?_
  obtain ⟨c5, d6, mc7, ms8, emc7, ems8, hw⟩ := hw
  refine rX_gov C hM (runX_IN C hM hl.1 0 (As := []) (mt_X2_init l D dA ev _ h4 q3  c5 d6 _ hw) q124 q76 q122 q123 rfl rfl rfl (by decide +kernel) ⟨Nat.le_of_ble_eq_true rfl, Nat.le_of_ble_eq_true rfl⟩ rfl (Nat.le_of_ble_eq_true rfl) rfl dX1_init_9 ⟨by show 0 + 1 + c5 ≤ MC; omega, by show 0 + 6 + d6 ≤ MS; omega⟩) (fun h9 H locs hw hM => ?_)
  have hbud : 0 + 1 + c5 + mc7 ≤ MC ∧ 0 + 6 + d6 + ms8 ≤ MS := ⟨by omega, by omega⟩
  have o12 := hw.1
  replace hw := hw.2
  refine rX_putF C hin0 hM 0 0 rfl in_X1 (by decide) (by decide) rfl rfl q463 rfl o12 (x := (some q3)) tyX1 tyX1_ok nmX1 rfl rfl rfl dX1_init_12 (fun h11 H locs eσ hM => ?_)
  replace hw := hw h11 eσ
  clear eσ
  refine lv_aload_n hx hb dX1_init_15 rfl (lv_at hl 0 rfl) ?_
  obtain ⟨mc13, ms14, emc13, ems14, hw⟩ := hw
  refine rX_new C hM 2 rfl in_X3 (by decide) tyX3 tyX3_ok q153 q154 q79 (fun j hj => by match j, hj with | 0, _ => rfl | 1, _ => rfl | 2, _ => rfl | 3, _ => rfl | 4, _ => rfl | 5, _ => rfl | 6, _ => rfl | 7, _ => rfl | 8, _ => rfl | 9, _ => rfl) (by show 0 + 1 + c5 + 1 ≤ MC; omega) (by show 0 + 6 + d6 + 10 ≤ MS; omega) dX1_init_16 (fun q15 h16 H hqq15 eσ hM => ?_)
  replace hw := hw q15 hqq15 h16 eσ
  clear eσ
  have hbud : 0 + 1 + c5 + 1 + mc13 ≤ MC ∧ 0 + 6 + d6 + 10 + ms14 ≤ MS := ⟨by omega, by omega⟩
  refine lv_dup hx hb dX1_init_19 rfl ?_
  refine lv_aload_n hx hb dX1_init_20 rfl (lv_at hl 0 rfl) ?_
  have o17 := hw.1
  replace hw := hw.2
  obtain ⟨b18, ebb18, hw⟩ := hw
  refine rX_getRs C hM 0 0 rfl in_X1 (by decide) (by decide) rfl q463 o17 ebb18 dX1_init_21 ?_
  obtain ⟨c19, d20, mc21, ms22, emc21, ems22, hw⟩ := hw
  refine rZ_gov C hM (runZ_I C hM hZ hl.1 1 (As := [.ref b18]) (mt_X3_init l hst D dA ev _ h16 q15 b18  c19 d20 _ _ hw) q157 q79 q155 q156 rfl rfl rfl (by decide +kernel) ⟨Nat.le_of_ble_eq_true rfl, Nat.le_of_ble_eq_true rfl⟩ rfl (Nat.le_of_ble_eq_true rfl) rfl dX1_init_24 ⟨by show 0 + 1 + c5 + 1 + c19 ≤ MC; omega, by show 0 + 6 + d6 + 10 + d20 ≤ MS; omega⟩) (fun E ce q9 h24 H locs hw hM g1 g2 g3 => rZ_out C hM (fun x hx => (htab x hx).elim) ⟨by show 0 + 1 + c5 + 1 + c19 ≤ MC; omega, by show 0 + 6 + d6 + 10 + d20 ≤ MS; omega⟩ hw g1 g2 g3) (fun h23 H locs hw hM => ?_)
  have hbud : 0 + 1 + c5 + 1 + c19 + mc21 ≤ MC ∧ 0 + 6 + d6 + 10 + d20 + ms22 ≤ MS := ⟨by omega, by omega⟩
  have o26 := hw.1
  replace hw := hw.2
  refine rX_putF C hin0 hM 0 1 rfl in_X1 (by decide) (by decide) rfl rfl q464 rfl o26 (x := (some q15)) tyX1 tyX1_ok nmX1 rfl rfl rfl dX1_init_27 (fun h25 H locs eσ hM => ?_)
  replace hw := hw h25 eσ
  clear eσ
  refine lv_aload_n hx hb dX1_init_30 rfl (lv_at hl 0 rfl) ?_
  obtain ⟨mc27, ms28, emc27, ems28, hw⟩ := hw
  refine rX_new C hM 3 rfl in_X4 (by decide) tyX4 tyX4_ok q258 q259 q84 (fun j hj => by match j, hj with | 0, _ => rfl | 1, _ => rfl | 2, _ => rfl | 3, _ => rfl | 4, _ => rfl | 5, _ => rfl) (by show 0 + 1 + c5 + 1 + c19 + 1 ≤ MC; omega) (by show 0 + 6 + d6 + 10 + d20 + 6 ≤ MS; omega) dX1_init_31 (fun q29 h30 H hqq29 eσ hM => ?_)
  replace hw := hw q29 hqq29 h30 eσ
  clear eσ
  have hbud : 0 + 1 + c5 + 1 + c19 + 1 + mc27 ≤ MC ∧ 0 + 6 + d6 + 10 + d20 + 6 + ms28 ≤ MS := ⟨by omega, by omega⟩
  refine lv_dup hx hb dX1_init_34 rfl ?_
  obtain ⟨c31, d32, mc33, ms34, emc33, ems34, hw⟩ := hw
  refine rX_gov C hM (runX_IN C hM hl.1 0 (As := []) (mt_X4_init l D dA ev _ h30 q29  c31 d32 _ hw) q262 q84 q260 q261 rfl rfl rfl (by decide +kernel) ⟨Nat.le_of_ble_eq_true rfl, Nat.le_of_ble_eq_true rfl⟩ rfl (Nat.le_of_ble_eq_true rfl) rfl dX1_init_35 ⟨by show 0 + 1 + c5 + 1 + c19 + 1 + c31 ≤ MC; omega, by show 0 + 6 + d6 + 10 + d20 + 6 + d32 ≤ MS; omega⟩) (fun h35 H locs hw hM => ?_)
  have hbud : 0 + 1 + c5 + 1 + c19 + 1 + c31 + mc33 ≤ MC ∧ 0 + 6 + d6 + 10 + d20 + 6 + d32 + ms34 ≤ MS := ⟨by omega, by omega⟩
  have o38 := hw.1
  replace hw := hw.2
  refine rX_putR C hM 0 2 rfl in_X1 (by decide) (by decide) rfl rfl q465 o38 (x := (some q29)) tyX1 tyX1_ok nmX1 rfl rfl rfl dX1_init_38 (fun h37 H locs eσ hM => ?_)
  replace hw := hw h37 eσ
  clear eσ
  refine lv_aload_n hx hb dX1_init_41 rfl (lv_at hl 0 rfl) ?_
  obtain ⟨mc39, ms40, emc39, ems40, hw⟩ := hw
  refine rX_new C hM 3 rfl in_X4 (by decide) tyX4 tyX4_ok q258 q259 q84 (fun j hj => by match j, hj with | 0, _ => rfl | 1, _ => rfl | 2, _ => rfl | 3, _ => rfl | 4, _ => rfl | 5, _ => rfl) (by show 0 + 1 + c5 + 1 + c19 + 1 + c31 + 1 ≤ MC; omega) (by show 0 + 6 + d6 + 10 + d20 + 6 + d32 + 6 ≤ MS; omega) dX1_init_42 (fun q41 h42 H hqq41 eσ hM => ?_)
  replace hw := hw q41 hqq41 h42 eσ
  clear eσ
  have hbud : 0 + 1 + c5 + 1 + c19 + 1 + c31 + 1 + mc39 ≤ MC ∧ 0 + 6 + d6 + 10 + d20 + 6 + d32 + 6 + ms40 ≤ MS := ⟨by omega, by omega⟩
  refine lv_dup hx hb dX1_init_45 rfl ?_
  obtain ⟨c43, d44, mc45, ms46, emc45, ems46, hw⟩ := hw
  refine rX_gov C hM (runX_IN C hM hl.1 0 (As := []) (mt_X4_init l D dA ev _ h42 q41  c43 d44 _ hw) q262 q84 q260 q261 rfl rfl rfl (by decide +kernel) ⟨Nat.le_of_ble_eq_true rfl, Nat.le_of_ble_eq_true rfl⟩ rfl (Nat.le_of_ble_eq_true rfl) rfl dX1_init_46 ⟨by show 0 + 1 + c5 + 1 + c19 + 1 + c31 + 1 + c43 ≤ MC; omega, by show 0 + 6 + d6 + 10 + d20 + 6 + d32 + 6 + d44 ≤ MS; omega⟩) (fun h47 H locs hw hM => ?_)
  have hbud : 0 + 1 + c5 + 1 + c19 + 1 + c31 + 1 + c43 + mc45 ≤ MC ∧ 0 + 6 + d6 + 10 + d20 + 6 + d32 + 6 + d44 + ms46 ≤ MS := ⟨by omega, by omega⟩
  have o50 := hw.1
  replace hw := hw.2
  refine rX_putR C hM 0 3 rfl in_X1 (by decide) (by decide) rfl rfl q466 o50 (x := (some q41)) tyX1 tyX1_ok nmX1 rfl rfl rfl dX1_init_49 (fun h49 H locs eσ hM => ?_)
  replace hw := hw h49 eσ
  clear eσ
  refine lv_aload_n hx hb dX1_init_52 rfl (lv_at hl 0 rfl) ?_
  obtain ⟨mc51, ms52, emc51, ems52, hw⟩ := hw
  refine rX_new C hM 4 rfl in_X5 (by decide) tyX5 tyX5_ok q309 q310 q85 (fun j hj => by match j, hj with | 0, _ => rfl | 1, _ => rfl | 2, _ => rfl | 3, _ => rfl | 4, _ => rfl) (by show 0 + 1 + c5 + 1 + c19 + 1 + c31 + 1 + c43 + 1 ≤ MC; omega) (by show 0 + 6 + d6 + 10 + d20 + 6 + d32 + 6 + d44 + 5 ≤ MS; omega) dX1_init_53 (fun q53 h54 H hqq53 eσ hM => ?_)
  replace hw := hw q53 hqq53 h54 eσ
  clear eσ
  have hbud : 0 + 1 + c5 + 1 + c19 + 1 + c31 + 1 + c43 + 1 + mc51 ≤ MC ∧ 0 + 6 + d6 + 10 + d20 + 6 + d32 + 6 + d44 + 5 + ms52 ≤ MS := ⟨by omega, by omega⟩
  refine lv_dup hx hb dX1_init_56 rfl ?_
  obtain ⟨c55, d56, mc57, ms58, emc57, ems58, hw⟩ := hw
  refine rX_gov C hM (runX_IN C hM hl.1 0 (As := []) (mt_X5_init l D dA ev _ h54 q53  c55 d56 _ hw) q313 q85 q311 q312 rfl rfl rfl (by decide +kernel) ⟨Nat.le_of_ble_eq_true rfl, Nat.le_of_ble_eq_true rfl⟩ rfl (Nat.le_of_ble_eq_true rfl) rfl dX1_init_57 ⟨by show 0 + 1 + c5 + 1 + c19 + 1 + c31 + 1 + c43 + 1 + c55 ≤ MC; omega, by show 0 + 6 + d6 + 10 + d20 + 6 + d32 + 6 + d44 + 5 + d56 ≤ MS; omega⟩) (fun h59 H locs hw hM => ?_)
  have hbud : 0 + 1 + c5 + 1 + c19 + 1 + c31 + 1 + c43 + 1 + c55 + mc57 ≤ MC ∧ 0 + 6 + d6 + 10 + d20 + 6 + d32 + 6 + d44 + 5 + d56 + ms58 ≤ MS := ⟨by omega, by omega⟩
  have o62 := hw.1
  replace hw := hw.2
  refine rX_putF C hin0 hM 0 4 rfl in_X1 (by decide) (by decide) rfl rfl q467 rfl o62 (x := (some q53)) tyX1 tyX1_ok nmX1 rfl rfl rfl dX1_init_60 (fun h61 H locs eσ hM => ?_)
  replace hw := hw h61 eσ
  clear eσ
  refine lv_aload_n hx hb dX1_init_63 rfl (lv_at hl 0 rfl) ?_
  obtain ⟨mc63, ms64, emc63, ems64, hw⟩ := hw
  refine rX_new C hM 5 rfl in_X6 (by decide) tyX6 tyX6_ok q335 q336 q86 (fun j hj => by match j, hj with | 0, _ => rfl | 1, _ => rfl | 2, _ => rfl | 3, _ => rfl | 4, _ => rfl | 5, _ => rfl | 6, _ => rfl | 7, _ => rfl | 8, _ => rfl | 9, _ => rfl | 10, _ => rfl) (by show 0 + 1 + c5 + 1 + c19 + 1 + c31 + 1 + c43 + 1 + c55 + 1 ≤ MC; omega) (by show 0 + 6 + d6 + 10 + d20 + 6 + d32 + 6 + d44 + 5 + d56 + 11 ≤ MS; omega) dX1_init_64 (fun q65 h66 H hqq65 eσ hM => ?_)
  replace hw := hw q65 hqq65 h66 eσ
  clear eσ
  have hbud : 0 + 1 + c5 + 1 + c19 + 1 + c31 + 1 + c43 + 1 + c55 + 1 + mc63 ≤ MC ∧ 0 + 6 + d6 + 10 + d20 + 6 + d32 + 6 + d44 + 5 + d56 + 11 + ms64 ≤ MS := ⟨by omega, by omega⟩
  refine lv_dup hx hb dX1_init_67 rfl ?_
  obtain ⟨c67, d68, mc69, ms70, emc69, ems70, hw⟩ := hw
  refine rX_gov C hM (runX_IN C hM hl.1 0 (As := []) (mt_X6_init l D dA ev _ h66 q65  c67 d68 _ hw) q339 q86 q337 q338 rfl rfl rfl (by decide +kernel) ⟨Nat.le_of_ble_eq_true rfl, Nat.le_of_ble_eq_true rfl⟩ rfl (Nat.le_of_ble_eq_true rfl) rfl dX1_init_68 ⟨by show 0 + 1 + c5 + 1 + c19 + 1 + c31 + 1 + c43 + 1 + c55 + 1 + c67 ≤ MC; omega, by show 0 + 6 + d6 + 10 + d20 + 6 + d32 + 6 + d44 + 5 + d56 + 11 + d68 ≤ MS; omega⟩) (fun h71 H locs hw hM => ?_)
  have hbud : 0 + 1 + c5 + 1 + c19 + 1 + c31 + 1 + c43 + 1 + c55 + 1 + c67 + mc69 ≤ MC ∧ 0 + 6 + d6 + 10 + d20 + 6 + d32 + 6 + d44 + 5 + d56 + 11 + d68 + ms70 ≤ MS := ⟨by omega, by omega⟩
  have o74 := hw.1
  replace hw := hw.2
  refine rX_putF C hin0 hM 0 5 rfl in_X1 (by decide) (by decide) rfl rfl q468 rfl o74 (x := (some q65)) tyX1 tyX1_ok nmX1 rfl rfl rfl dX1_init_71 (fun h73 H locs eσ hM => ?_)
  replace hw := hw h73 eσ
  clear eσ
  refine lv_aload_n hx hb dX1_init_74 rfl (lv_at hl 0 rfl) ?_
  obtain ⟨mc75, ms76, emc75, ems76, hw⟩ := hw
  refine rX_new C hM 7 rfl in_X8 (by decide) tyX8 tyX8_ok q415 q416 q91 (fun j hj => by match j, hj with | 0, _ => rfl | 1, _ => rfl | 2, _ => rfl | 3, _ => rfl | 4, _ => rfl | 5, _ => rfl) (by show 0 + 1 + c5 + 1 + c19 + 1 + c31 + 1 + c43 + 1 + c55 + 1 + c67 + 1 ≤ MC; omega) (by show 0 + 6 + d6 + 10 + d20 + 6 + d32 + 6 + d44 + 5 + d56 + 11 + d68 + 6 ≤ MS; omega) dX1_init_75 (fun q77 h78 H hqq77 eσ hM => ?_)
  replace hw := hw q77 hqq77 h78 eσ
  clear eσ
  have hbud : 0 + 1 + c5 + 1 + c19 + 1 + c31 + 1 + c43 + 1 + c55 + 1 + c67 + 1 + mc75 ≤ MC ∧ 0 + 6 + d6 + 10 + d20 + 6 + d32 + 6 + d44 + 5 + d56 + 11 + d68 + 6 + ms76 ≤ MS := ⟨by omega, by omega⟩
  refine lv_dup hx hb dX1_init_78 rfl ?_
  obtain ⟨c79, d80, mc81, ms82, emc81, ems82, hw⟩ := hw
  refine rX_gov C hM (runX_IN C hM hl.1 0 (As := []) (mt_X8_init l D dA ev _ h78 q77  c79 d80 _ hw) q419 q91 q417 q418 rfl rfl rfl (by decide +kernel) ⟨Nat.le_of_ble_eq_true rfl, Nat.le_of_ble_eq_true rfl⟩ rfl (Nat.le_of_ble_eq_true rfl) rfl dX1_init_79 ⟨by show 0 + 1 + c5 + 1 + c19 + 1 + c31 + 1 + c43 + 1 + c55 + 1 + c67 + 1 + c79 ≤ MC; omega, by show 0 + 6 + d6 + 10 + d20 + 6 + d32 + 6 + d44 + 5 + d56 + 11 + d68 + 6 + d80 ≤ MS; omega⟩) (fun h83 H locs hw hM => ?_)
  have hbud : 0 + 1 + c5 + 1 + c19 + 1 + c31 + 1 + c43 + 1 + c55 + 1 + c67 + 1 + c79 + mc81 ≤ MC ∧ 0 + 6 + d6 + 10 + d20 + 6 + d32 + 6 + d44 + 5 + d56 + 11 + d68 + 6 + d80 + ms82 ≤ MS := ⟨by omega, by omega⟩
  have o86 := hw.1
  replace hw := hw.2
  refine rX_putF C hin0 hM 0 6 rfl in_X1 (by decide) (by decide) rfl rfl q469 rfl o86 (x := (some q77)) tyX1 tyX1_ok nmX1 rfl rfl rfl dX1_init_82 (fun h85 H locs eσ hM => ?_)
  replace hw := hw h85 eσ
  clear eσ
  refine lv_aload_n hx hb dX1_init_85 rfl (lv_at hl 0 rfl) ?_
  refine lv_iconst (v := 3) hx hb dX1_init_86 (by decide) ?_
  obtain ⟨mc88, ms89, emc88, ems89, hw⟩ := hw
  refine rX_newo C hM (N := 3) 7 (by decide) rfl q443 hM.2.2.2.2.2.2.2.2.2.2.1 (by decide) (by decide) (by decide) (by show 0 + 1 + c5 + 1 + c19 + 1 + c31 + 1 + c43 + 1 + c55 + 1 + c67 + 1 + c79 + 1 ≤ MC; omega) (by show 0 + 6 + d6 + 10 + d20 + 6 + d32 + 6 + d44 + 5 + d56 + 11 + d68 + 6 + d80 + 3 ≤ MS; omega) dX1_init_87 (fun q90 h91 H hqq90 eσ hM => ?_)
  replace hw := hw q90 hqq90 h91 eσ
  clear eσ
  have hbud : 0 + 1 + c5 + 1 + c19 + 1 + c31 + 1 + c43 + 1 + c55 + 1 + c67 + 1 + c79 + 1 + mc88 ≤ MC ∧ 0 + 6 + d6 + 10 + d20 + 6 + d32 + 6 + d44 + 5 + d56 + 11 + d68 + 6 + d80 + 3 + ms89 ≤ MS := ⟨by omega, by omega⟩
  refine lv_dup hx hb dX1_init_90 rfl ?_
  refine lv_iconst (v := 0) hx hb dX1_init_91 (by decide) ?_
  obtain ⟨mc92, ms93, emc92, ems93, hw⟩ := hw
  refine rX_new C hM 8 rfl in_X9 (by decide) tyX9 tyX9_ok q443 q445 q92 (fun j hj => by match j, hj with | 0, _ => rfl | 1, _ => rfl) (by show 0 + 1 + c5 + 1 + c19 + 1 + c31 + 1 + c43 + 1 + c55 + 1 + c67 + 1 + c79 + 1 + 1 ≤ MC; omega) (by show 0 + 6 + d6 + 10 + d20 + 6 + d32 + 6 + d44 + 5 + d56 + 11 + d68 + 6 + d80 + 3 + 2 ≤ MS; omega) dX1_init_92 (fun q94 h95 H hqq94 eσ hM => ?_)
  replace hw := hw q94 hqq94 h95 eσ
  clear eσ
  have hbud : 0 + 1 + c5 + 1 + c19 + 1 + c31 + 1 + c43 + 1 + c55 + 1 + c67 + 1 + c79 + 1 + 1 + mc92 ≤ MC ∧ 0 + 6 + d6 + 10 + d20 + 6 + d32 + 6 + d44 + 5 + d56 + 11 + d68 + 6 + d80 + 3 + 2 + ms93 ≤ MS := ⟨by omega, by omega⟩
  refine lv_dup hx hb dX1_init_95 rfl ?_
  obtain ⟨c96, d97, mc98, ms99, emc98, ems99, hw⟩ := hw
  refine rX_gov C hM (runX_IN C hM hl.1 0 (As := []) (mt_X9_init l D dA ev _ h95 q94  c96 d97 _ hw) q448 q92 q446 q447 rfl rfl rfl (by decide +kernel) ⟨Nat.le_of_ble_eq_true rfl, Nat.le_of_ble_eq_true rfl⟩ rfl (Nat.le_of_ble_eq_true rfl) rfl dX1_init_96 ⟨by show 0 + 1 + c5 + 1 + c19 + 1 + c31 + 1 + c43 + 1 + c55 + 1 + c67 + 1 + c79 + 1 + 1 + c96 ≤ MC; omega, by show 0 + 6 + d6 + 10 + d20 + 6 + d32 + 6 + d44 + 5 + d56 + 11 + d68 + 6 + d80 + 3 + 2 + d97 ≤ MS; omega⟩) (fun h100 H locs hw hM => ?_)
  have hbud : 0 + 1 + c5 + 1 + c19 + 1 + c31 + 1 + c43 + 1 + c55 + 1 + c67 + 1 + c79 + 1 + 1 + c96 + mc98 ≤ MC ∧ 0 + 6 + d6 + 10 + d20 + 6 + d32 + 6 + d44 + 5 + d56 + 11 + d68 + 6 + d80 + 3 + 2 + d97 + ms99 ≤ MS := ⟨by omega, by omega⟩
  have o103 := hw.1
  replace hw := hw.2
  have o104 := hw.1
  replace hw := hw.2
  have o105 := hw.1
  replace hw := hw.2
  refine rX_aastF C hM o103 o104 o105 dX1_init_99 (fun h102 H locs eσ hM => ?_)
  replace hw := hw h102 eσ
  clear eσ
  refine lv_dup hx hb dX1_init_100 rfl ?_
  refine lv_iconst (v := 1) hx hb dX1_init_101 (by decide) ?_
  obtain ⟨mc106, ms107, emc106, ems107, hw⟩ := hw
  refine rX_new C hM 8 rfl in_X9 (by decide) tyX9 tyX9_ok q443 q445 q92 (fun j hj => by match j, hj with | 0, _ => rfl | 1, _ => rfl) (by show 0 + 1 + c5 + 1 + c19 + 1 + c31 + 1 + c43 + 1 + c55 + 1 + c67 + 1 + c79 + 1 + 1 + c96 + 1 ≤ MC; omega) (by show 0 + 6 + d6 + 10 + d20 + 6 + d32 + 6 + d44 + 5 + d56 + 11 + d68 + 6 + d80 + 3 + 2 + d97 + 2 ≤ MS; omega) dX1_init_102 (fun q108 h109 H hqq108 eσ hM => ?_)
  replace hw := hw q108 hqq108 h109 eσ
  clear eσ
  have hbud : 0 + 1 + c5 + 1 + c19 + 1 + c31 + 1 + c43 + 1 + c55 + 1 + c67 + 1 + c79 + 1 + 1 + c96 + 1 + mc106 ≤ MC ∧ 0 + 6 + d6 + 10 + d20 + 6 + d32 + 6 + d44 + 5 + d56 + 11 + d68 + 6 + d80 + 3 + 2 + d97 + 2 + ms107 ≤ MS := ⟨by omega, by omega⟩
  refine lv_dup hx hb dX1_init_105 rfl ?_
  obtain ⟨c110, d111, mc112, ms113, emc112, ems113, hw⟩ := hw
  refine rX_gov C hM (runX_IN C hM hl.1 0 (As := []) (mt_X9_init l D dA ev _ h109 q108  c110 d111 _ hw) q448 q92 q446 q447 rfl rfl rfl (by decide +kernel) ⟨Nat.le_of_ble_eq_true rfl, Nat.le_of_ble_eq_true rfl⟩ rfl (Nat.le_of_ble_eq_true rfl) rfl dX1_init_106 ⟨by show 0 + 1 + c5 + 1 + c19 + 1 + c31 + 1 + c43 + 1 + c55 + 1 + c67 + 1 + c79 + 1 + 1 + c96 + 1 + c110 ≤ MC; omega, by show 0 + 6 + d6 + 10 + d20 + 6 + d32 + 6 + d44 + 5 + d56 + 11 + d68 + 6 + d80 + 3 + 2 + d97 + 2 + d111 ≤ MS; omega⟩) (fun h114 H locs hw hM => ?_)
  have hbud : 0 + 1 + c5 + 1 + c19 + 1 + c31 + 1 + c43 + 1 + c55 + 1 + c67 + 1 + c79 + 1 + 1 + c96 + 1 + c110 + mc112 ≤ MC ∧ 0 + 6 + d6 + 10 + d20 + 6 + d32 + 6 + d44 + 5 + d56 + 11 + d68 + 6 + d80 + 3 + 2 + d97 + 2 + d111 + ms113 ≤ MS := ⟨by omega, by omega⟩
  have o117 := hw.1
  replace hw := hw.2
  have o118 := hw.1
  replace hw := hw.2
  have o119 := hw.1
  replace hw := hw.2
  refine rX_aastF C hM o117 o118 o119 dX1_init_109 (fun h116 H locs eσ hM => ?_)
  replace hw := hw h116 eσ
  clear eσ
  refine lv_dup hx hb dX1_init_110 rfl ?_
  refine lv_iconst (v := 2) hx hb dX1_init_111 (by decide) ?_
  obtain ⟨mc120, ms121, emc120, ems121, hw⟩ := hw
  refine rX_new C hM 8 rfl in_X9 (by decide) tyX9 tyX9_ok q443 q445 q92 (fun j hj => by match j, hj with | 0, _ => rfl | 1, _ => rfl) (by show 0 + 1 + c5 + 1 + c19 + 1 + c31 + 1 + c43 + 1 + c55 + 1 + c67 + 1 + c79 + 1 + 1 + c96 + 1 + c110 + 1 ≤ MC; omega) (by show 0 + 6 + d6 + 10 + d20 + 6 + d32 + 6 + d44 + 5 + d56 + 11 + d68 + 6 + d80 + 3 + 2 + d97 + 2 + d111 + 2 ≤ MS; omega) dX1_init_112 (fun q122 h123 H hqq122 eσ hM => ?_)
  replace hw := hw q122 hqq122 h123 eσ
  clear eσ
  have hbud : 0 + 1 + c5 + 1 + c19 + 1 + c31 + 1 + c43 + 1 + c55 + 1 + c67 + 1 + c79 + 1 + 1 + c96 + 1 + c110 + 1 + mc120 ≤ MC ∧ 0 + 6 + d6 + 10 + d20 + 6 + d32 + 6 + d44 + 5 + d56 + 11 + d68 + 6 + d80 + 3 + 2 + d97 + 2 + d111 + 2 + ms121 ≤ MS := ⟨by omega, by omega⟩
  refine lv_dup hx hb dX1_init_115 rfl ?_
  obtain ⟨c124, d125, mc126, ms127, emc126, ems127, hw⟩ := hw
  refine rX_gov C hM (runX_IN C hM hl.1 0 (As := []) (mt_X9_init l D dA ev _ h123 q122  c124 d125 _ hw) q448 q92 q446 q447 rfl rfl rfl (by decide +kernel) ⟨Nat.le_of_ble_eq_true rfl, Nat.le_of_ble_eq_true rfl⟩ rfl (Nat.le_of_ble_eq_true rfl) rfl dX1_init_116 ⟨by show 0 + 1 + c5 + 1 + c19 + 1 + c31 + 1 + c43 + 1 + c55 + 1 + c67 + 1 + c79 + 1 + 1 + c96 + 1 + c110 + 1 + c124 ≤ MC; omega, by show 0 + 6 + d6 + 10 + d20 + 6 + d32 + 6 + d44 + 5 + d56 + 11 + d68 + 6 + d80 + 3 + 2 + d97 + 2 + d111 + 2 + d125 ≤ MS; omega⟩) (fun h128 H locs hw hM => ?_)
  have hbud : 0 + 1 + c5 + 1 + c19 + 1 + c31 + 1 + c43 + 1 + c55 + 1 + c67 + 1 + c79 + 1 + 1 + c96 + 1 + c110 + 1 + c124 + mc126 ≤ MC ∧ 0 + 6 + d6 + 10 + d20 + 6 + d32 + 6 + d44 + 5 + d56 + 11 + d68 + 6 + d80 + 3 + 2 + d97 + 2 + d111 + 2 + d125 + ms127 ≤ MS := ⟨by omega, by omega⟩
  have o131 := hw.1
  replace hw := hw.2
  have o132 := hw.1
  replace hw := hw.2
  have o133 := hw.1
  replace hw := hw.2
  refine rX_aastF C hM o131 o132 o133 dX1_init_119 (fun h130 H locs eσ hM => ?_)
  replace hw := hw h130 eσ
  clear eσ
  have o135 := hw.1
  replace hw := hw.2
  refine rX_putF C hin0 hM 0 7 rfl in_X1 (by decide) (by decide) rfl rfl q470 rfl o135 (x := (some q90)) tyX1 tyX1_ok nmX1 rfl rfl rfl dX1_init_120 (fun h134 H locs eσ hM => ?_)
  replace hw := hw h134 eσ
  clear eσ
  refine lv_aload_n hx hb dX1_init_123 rfl (lv_at hl 0 rfl) ?_
  refine lv_iconst (v := (-1)) hx hb dX1_init_124 (by decide) ?_
  have o137 := hw.1
  replace hw := hw.2
  refine rX_putI C hM 0 9 rfl in_X1 (by decide) (by decide) rfl rfl q472 o137 tyX1 tyX1_ok nmX1 rfl rfl rfl dX1_init_125 (fun h136 H locs eσ hM => ?_)
  replace hw := hw h136 eσ
  clear eσ
  refine lv_aload_n hx hb dX1_init_128 rfl (lv_at hl 0 rfl) ?_
  refine lv_bipush (v := 6) hx hb dX1_init_129 (by decide) ?_
  obtain ⟨mc139, ms140, emc139, ems140, hw⟩ := hw
  refine rX_newi C hM (N := 6) q257 (by decide) (by decide) (by decide) (by show 0 + 1 + c5 + 1 + c19 + 1 + c31 + 1 + c43 + 1 + c55 + 1 + c67 + 1 + c79 + 1 + 1 + c96 + 1 + c110 + 1 + c124 + 1 ≤ MC; omega) (by show 0 + 6 + d6 + 10 + d20 + 6 + d32 + 6 + d44 + 5 + d56 + 11 + d68 + 6 + d80 + 3 + 2 + d97 + 2 + d111 + 2 + d125 + 6 ≤ MS; omega) dX1_init_131 (fun q141 h142 H hqq141 eσ hM => ?_)
  replace hw := hw q141 hqq141 h142 eσ
  clear eσ
  have hbud : 0 + 1 + c5 + 1 + c19 + 1 + c31 + 1 + c43 + 1 + c55 + 1 + c67 + 1 + c79 + 1 + 1 + c96 + 1 + c110 + 1 + c124 + 1 + mc139 ≤ MC ∧ 0 + 6 + d6 + 10 + d20 + 6 + d32 + 6 + d44 + 5 + d56 + 11 + d68 + 6 + d80 + 3 + 2 + d97 + 2 + d111 + 2 + d125 + 6 + ms140 ≤ MS := ⟨by omega, by omega⟩
  have o144 := hw.1
  replace hw := hw.2
  refine rX_putF C hin0 hM 0 10 rfl in_X1 (by decide) (by decide) rfl rfl q473 rfl o144 (x := (some q141)) tyX1 tyX1_ok nmX1 rfl rfl rfl dX1_init_133 (fun h143 H locs eσ hM => ?_)
  replace hw := hw h143 eσ
  clear eσ
  refine lv_aload_n hx hb dX1_init_136 rfl (lv_at hl 0 rfl) ?_
  refine lv_sipush (v := 2000) hx hb dX1_init_137 (by decide) ?_
  obtain ⟨mc146, ms147, emc146, ems147, hw⟩ := hw
  refine rX_newi C hM (N := 2000) q257 (by decide) (by decide) (by decide) (by show 0 + 1 + c5 + 1 + c19 + 1 + c31 + 1 + c43 + 1 + c55 + 1 + c67 + 1 + c79 + 1 + 1 + c96 + 1 + c110 + 1 + c124 + 1 + 1 ≤ MC; omega) (by show 0 + 6 + d6 + 10 + d20 + 6 + d32 + 6 + d44 + 5 + d56 + 11 + d68 + 6 + d80 + 3 + 2 + d97 + 2 + d111 + 2 + d125 + 6 + 2000 ≤ MS; omega) dX1_init_140 (fun q148 h149 H hqq148 eσ hM => ?_)
  replace hw := hw q148 hqq148 h149 eσ
  clear eσ
  have hbud : 0 + 1 + c5 + 1 + c19 + 1 + c31 + 1 + c43 + 1 + c55 + 1 + c67 + 1 + c79 + 1 + 1 + c96 + 1 + c110 + 1 + c124 + 1 + 1 + mc146 ≤ MC ∧ 0 + 6 + d6 + 10 + d20 + 6 + d32 + 6 + d44 + 5 + d56 + 11 + d68 + 6 + d80 + 3 + 2 + d97 + 2 + d111 + 2 + d125 + 6 + 2000 + ms147 ≤ MS := ⟨by omega, by omega⟩
  have o151 := hw.1
  replace hw := hw.2
  refine rX_putF C hin0 hM 0 11 rfl in_X1 (by decide) (by decide) rfl rfl q474 rfl o151 (x := (some q148)) tyX1 tyX1_ok nmX1 rfl rfl rfl dX1_init_142 (fun h150 H locs eσ hM => ?_)
  replace hw := hw h150 eσ
  clear eσ
  refine lv_aload_n hx hb dX1_init_145 rfl (lv_at hl 0 rfl) ?_
  obtain ⟨mc152, ms153, emc152, ems153, hw⟩ := hw
  refine rX_new C hM 6 rfl in_X7 (by decide) tyX7 tyX7_ok q461 q342 q87 (fun j hj => by match j, hj with | 0, _ => rfl | 1, _ => rfl) (by show 0 + 1 + c5 + 1 + c19 + 1 + c31 + 1 + c43 + 1 + c55 + 1 + c67 + 1 + c79 + 1 + 1 + c96 + 1 + c110 + 1 + c124 + 1 + 1 + 1 ≤ MC; omega) (by show 0 + 6 + d6 + 10 + d20 + 6 + d32 + 6 + d44 + 5 + d56 + 11 + d68 + 6 + d80 + 3 + 2 + d97 + 2 + d111 + 2 + d125 + 6 + 2000 + 2 ≤ MS; omega) dX1_init_146 (fun q154 h155 H hqq154 eσ hM => ?_)
  replace hw := hw q154 hqq154 h155 eσ
  clear eσ
  have hbud : 0 + 1 + c5 + 1 + c19 + 1 + c31 + 1 + c43 + 1 + c55 + 1 + c67 + 1 + c79 + 1 + 1 + c96 + 1 + c110 + 1 + c124 + 1 + 1 + 1 + mc152 ≤ MC ∧ 0 + 6 + d6 + 10 + d20 + 6 + d32 + 6 + d44 + 5 + d56 + 11 + d68 + 6 + d80 + 3 + 2 + d97 + 2 + d111 + 2 + d125 + 6 + 2000 + 2 + ms153 ≤ MS := ⟨by omega, by omega⟩
  refine lv_dup hx hb dX1_init_149 rfl ?_
  obtain ⟨c156, d157, mc158, ms159, emc158, ems159, hw⟩ := hw
  refine rX_gov C hM (runX_IN C hM hl.1 0 (As := []) (mt_X7_init l D dA ev _ h155 q154  c156 d157 _ hw) q345 q87 q462 q344 rfl rfl rfl (by decide +kernel) ⟨Nat.le_of_ble_eq_true rfl, Nat.le_of_ble_eq_true rfl⟩ rfl (Nat.le_of_ble_eq_true rfl) rfl dX1_init_150 ⟨by show 0 + 1 + c5 + 1 + c19 + 1 + c31 + 1 + c43 + 1 + c55 + 1 + c67 + 1 + c79 + 1 + 1 + c96 + 1 + c110 + 1 + c124 + 1 + 1 + 1 + c156 ≤ MC; omega, by show 0 + 6 + d6 + 10 + d20 + 6 + d32 + 6 + d44 + 5 + d56 + 11 + d68 + 6 + d80 + 3 + 2 + d97 + 2 + d111 + 2 + d125 + 6 + 2000 + 2 + d157 ≤ MS; omega⟩) (fun h160 H locs hw hM => ?_)
  have hbud : 0 + 1 + c5 + 1 + c19 + 1 + c31 + 1 + c43 + 1 + c55 + 1 + c67 + 1 + c79 + 1 + 1 + c96 + 1 + c110 + 1 + c124 + 1 + 1 + 1 + c156 + mc158 ≤ MC ∧ 0 + 6 + d6 + 10 + d20 + 6 + d32 + 6 + d44 + 5 + d56 + 11 + d68 + 6 + d80 + 3 + 2 + d97 + 2 + d111 + 2 + d125 + 6 + 2000 + 2 + d157 + ms159 ≤ MS := ⟨by omega, by omega⟩
  have o163 := hw.1
  replace hw := hw.2
  refine rX_putF C hin0 hM 0 14 rfl in_X1 (by decide) (by decide) rfl rfl q477 rfl o163 (x := (some q154)) tyX1 tyX1_ok nmX1 rfl rfl rfl dX1_init_153 (fun h162 H locs eσ hM => ?_)
  replace hw := hw h162 eσ
  clear eσ
  refine lv_aload_n hx hb dX1_init_156 rfl (lv_at hl 0 rfl) ?_
  refine lv_bipush (v := 6) hx hb dX1_init_157 (by decide) ?_
  obtain ⟨mc165, ms166, emc165, ems166, hw⟩ := hw
  refine rX_newi C hM (N := 6) q257 (by decide) (by decide) (by decide) (by show 0 + 1 + c5 + 1 + c19 + 1 + c31 + 1 + c43 + 1 + c55 + 1 + c67 + 1 + c79 + 1 + 1 + c96 + 1 + c110 + 1 + c124 + 1 + 1 + 1 + c156 + 1 ≤ MC; omega) (by show 0 + 6 + d6 + 10 + d20 + 6 + d32 + 6 + d44 + 5 + d56 + 11 + d68 + 6 + d80 + 3 + 2 + d97 + 2 + d111 + 2 + d125 + 6 + 2000 + 2 + d157 + 6 ≤ MS; omega) dX1_init_159 (fun q167 h168 H hqq167 eσ hM => ?_)
  replace hw := hw q167 hqq167 h168 eσ
  clear eσ
  have hbud : 0 + 1 + c5 + 1 + c19 + 1 + c31 + 1 + c43 + 1 + c55 + 1 + c67 + 1 + c79 + 1 + 1 + c96 + 1 + c110 + 1 + c124 + 1 + 1 + 1 + c156 + 1 + mc165 ≤ MC ∧ 0 + 6 + d6 + 10 + d20 + 6 + d32 + 6 + d44 + 5 + d56 + 11 + d68 + 6 + d80 + 3 + 2 + d97 + 2 + d111 + 2 + d125 + 6 + 2000 + 2 + d157 + 6 + ms166 ≤ MS := ⟨by omega, by omega⟩
  have o170 := hw.1
  replace hw := hw.2
  refine rX_putF C hin0 hM 0 15 rfl in_X1 (by decide) (by decide) rfl rfl q478 rfl o170 (x := (some q167)) tyX1 tyX1_ok nmX1 rfl rfl rfl dX1_init_161 (fun h169 H locs eσ hM => ?_)
  replace hw := hw h169 eσ
  clear eσ
  exact vx_ret (rX_vret C hM ⟨by show 0 + 1 + c5 + 1 + c19 + 1 + c31 + 1 + c43 + 1 + c55 + 1 + c67 + 1 + c79 + 1 + 1 + c96 + 1 + c110 + 1 + c124 + 1 + 1 + 1 + c156 + 1 ≤ MC; omega, by show 0 + 6 + d6 + 10 + d20 + 6 + d32 + 6 + d44 + 5 + d56 + 11 + d68 + 6 + d80 + 3 + 2 + d97 + 2 + d111 + 2 + d125 + 6 + 2000 + 2 + d157 + 6 ≤ MS; omega⟩ hw dX1_init_164)
