set_option maxRecDepth 100000
abbrev rm_X10_init (MC MS : Nat) : Room := { frames := 1, cells := MC, slots := MS, locals := 60 }
set_option maxHeartbeats 4000000 in
/-- LeastSolutionsModel.<init>()V -/
theorem mt_X10_init (l : Launch) (D : va_G) (dA : Nat → ClassId) (ev : Nat → Nat) (sz : Nat) (h : Hp) (a0 : Nat) (MC MS : Nat) (Qr : Hp → Prop) (hw : wp_X10_init ev h a0 MC MS Qr) : Met l yX10_init (ws_ yX10_init cX10_init 1 none) (rm_X10_init MC MS) (PcX D dA ev h sz [.ref a0]) (va_Qv Qr (BX D dA (AX dA h sz)) (AX dA h sz)) MC MS (AX dA h sz) := by
  refine Met.ofW (cc := cX10_init) (maxL := 1) (ret := none) (by decide) rfl ?_
  intro p e s m args below meth c s₁ B hml hv
  obtain ⟨rfl, hsz, hP, hK, hD0, hE⟩ := hv
  subst hsz
  have hts0 := atoms_spec (ws := ws_ yX10_init cX10_init 1 none) B.pre
  have C : CxM p s m meth c _ (AX dA h s.heap.size) "LeastSolutionsModel" cX10_init 1 none := ⟨B.exec, B.bytes, B.returns, B.notSynchronized, hml, findClass_of_methodNamed B.named, fun w h => hts0 w (List.mem_cons_of_mem _ h), fun q h => Or.inr h⟩
  have hin0 : meth.name = "<init>" := (name_of_methodNamed B.named B.method).1
  have hM : wX D dA ev (AX dA h s.heap.size) s h s.heap [] := ⟨hK, hP, hD0.self, va_S.rf, hE⟩
  have hx := C.1
  have hb := C.2.1
  have hown := C.2.2.2.2.2.1
  have hts := C.2.2.2.2.2.2.1
  have hl := lv_entry ([.ref a0]) (n := 1) (Nat.le_of_ble_eq_true rfl)
  rw [lg_entry_eq]
  generalize (lg_sl ([.ref a0]) ++ List.replicate (1 - (lg_sl ([.ref a0])).length) Slot.unset).toArray = ls at hl ⊢
  have hl : lv_has ls 1 [(0, .ref a0)] := hl
  have hbud : 0 + MC ≤ MC ∧ 0 + MS ≤ MS := ⟨by omega, by omega⟩
  unfold wp_X10_init at hw
  refine lv_aload_n hx hb dX10_init_0 rfl (lv_at hl 0 rfl) ?_
  refine W.objInit hx hb hown (hts _ q1388) (hts _ q118) (hts _ q119) rfl (by rw [C.2.2.2.2.1]; exact hl.1) rfl dX10_init_1 (Nat.le_of_ble_eq_true rfl) (Nat.le_of_ble_eq_true rfl) ?_
  refine W.eq (g2 := F0 m 4 ls []) rfl ?_
  refine lv_aload_n hx hb dX10_init_4 rfl (lv_at hl 0 rfl) ?_
  refine lv_sipush (v := 300) hx hb dX10_init_5 (by decide) ?_
  obtain ⟨mc2, ms3, emc2, ems3, hw⟩ := hw
  refine rX_newi C hM (N := 300) q257 (by decide) (by decide) (by decide) (by show 0 + 1 ≤ MC; omega) (by show 0 + 300 ≤ MS; omega) dX10_init_8 (fun q4 h5 H hqq4 eσ hM => ?_)
  replace hw := hw q4 hqq4 h5 eσ
  clear eσ
  have hbud : 0 + 1 + mc2 ≤ MC ∧ 0 + 300 + ms3 ≤ MS := ⟨by omega, by omega⟩
  have o7 := hw.1
  replace hw := hw.2
  refine rX_putF C hin0 hM 9 1 rfl in_X10 (by decide) (by decide) rfl rfl q1391 rfl o7 (x := (some q4)) tyX10 tyX10_ok nmX10 rfl rfl rfl dX10_init_10 (fun h6 H locs eσ hM => ?_)
  replace hw := hw h6 eσ
  clear eσ
  refine lv_aload_n hx hb dX10_init_13 rfl (lv_at hl 0 rfl) ?_
  refine lv_iconst (v := (-1)) hx hb dX10_init_14 (by decide) ?_
  have o9 := hw.1
  replace hw := hw.2
  refine rX_putI C hM 9 3 rfl in_X10 (by decide) (by decide) rfl rfl q1393 o9 tyX10 tyX10_ok nmX10 rfl rfl rfl dX10_init_15 (fun h8 H locs eσ hM => ?_)
  replace hw := hw h8 eσ
  clear eσ
  refine lv_aload_n hx hb dX10_init_18 rfl (lv_at hl 0 rfl) ?_
  refine lv_sipush (v := 301) hx hb dX10_init_19 (by decide) ?_
  obtain ⟨mc11, ms12, emc11, ems12, hw⟩ := hw
  refine rX_newi C hM (N := 301) q257 (by decide) (by decide) (by decide) (by show 0 + 1 + 1 ≤ MC; omega) (by show 0 + 300 + 301 ≤ MS; omega) dX10_init_22 (fun q13 h14 H hqq13 eσ hM => ?_)
  replace hw := hw q13 hqq13 h14 eσ
  clear eσ
  have hbud : 0 + 1 + 1 + mc11 ≤ MC ∧ 0 + 300 + 301 + ms12 ≤ MS := ⟨by omega, by omega⟩
  have o16 := hw.1
  replace hw := hw.2
  refine rX_putF C hin0 hM 9 4 rfl in_X10 (by decide) (by decide) rfl rfl q1394 rfl o16 (x := (some q13)) tyX10 tyX10_ok nmX10 rfl rfl rfl dX10_init_24 (fun h15 H locs eσ hM => ?_)
  replace hw := hw h15 eσ
  clear eσ
  refine lv_aload_n hx hb dX10_init_27 rfl (lv_at hl 0 rfl) ?_
  refine lv_sipush (v := 301) hx hb dX10_init_28 (by decide) ?_
  obtain ⟨mc18, ms19, emc18, ems19, hw⟩ := hw
  refine rX_newi C hM (N := 301) q257 (by decide) (by decide) (by decide) (by show 0 + 1 + 1 + 1 ≤ MC; omega) (by show 0 + 300 + 301 + 301 ≤ MS; omega) dX10_init_31 (fun q20 h21 H hqq20 eσ hM => ?_)
  replace hw := hw q20 hqq20 h21 eσ
  clear eσ
  have hbud : 0 + 1 + 1 + 1 + mc18 ≤ MC ∧ 0 + 300 + 301 + 301 + ms19 ≤ MS := ⟨by omega, by omega⟩
  have o23 := hw.1
  replace hw := hw.2
  refine rX_putF C hin0 hM 9 5 rfl in_X10 (by decide) (by decide) rfl rfl q1395 rfl o23 (x := (some q20)) tyX10 tyX10_ok nmX10 rfl rfl rfl dX10_init_33 (fun h22 H locs eσ hM => ?_)
  replace hw := hw h22 eσ
  clear eσ
  refine lv_aload_n hx hb dX10_init_36 rfl (lv_at hl 0 rfl) ?_
  refine lv_sipush (v := 301) hx hb dX10_init_37 (by decide) ?_
  obtain ⟨mc25, ms26, emc25, ems26, hw⟩ := hw
  refine rX_newi C hM (N := 301) q257 (by decide) (by decide) (by decide) (by show 0 + 1 + 1 + 1 + 1 ≤ MC; omega) (by show 0 + 300 + 301 + 301 + 301 ≤ MS; omega) dX10_init_40 (fun q27 h28 H hqq27 eσ hM => ?_)
  replace hw := hw q27 hqq27 h28 eσ
  clear eσ
  have hbud : 0 + 1 + 1 + 1 + 1 + mc25 ≤ MC ∧ 0 + 300 + 301 + 301 + 301 + ms26 ≤ MS := ⟨by omega, by omega⟩
  have o30 := hw.1
  replace hw := hw.2
  refine rX_putF C hin0 hM 9 6 rfl in_X10 (by decide) (by decide) rfl rfl q1396 rfl o30 (x := (some q27)) tyX10 tyX10_ok nmX10 rfl rfl rfl dX10_init_42 (fun h29 H locs eσ hM => ?_)
  replace hw := hw h29 eσ
  clear eσ
  refine lv_aload_n hx hb dX10_init_45 rfl (lv_at hl 0 rfl) ?_
  refine lv_bipush (v := 6) hx hb dX10_init_46 (by decide) ?_
  obtain ⟨mc32, ms33, emc32, ems33, hw⟩ := hw
  refine rX_newi C hM (N := 6) q257 (by decide) (by decide) (by decide) (by show 0 + 1 + 1 + 1 + 1 + 1 ≤ MC; omega) (by show 0 + 300 + 301 + 301 + 301 + 6 ≤ MS; omega) dX10_init_48 (fun q34 h35 H hqq34 eσ hM => ?_)
  replace hw := hw q34 hqq34 h35 eσ
  clear eσ
  have hbud : 0 + 1 + 1 + 1 + 1 + 1 + mc32 ≤ MC ∧ 0 + 300 + 301 + 301 + 301 + 6 + ms33 ≤ MS := ⟨by omega, by omega⟩
  have o37 := hw.1
  replace hw := hw.2
  refine rX_putF C hin0 hM 9 8 rfl in_X10 (by decide) (by decide) rfl rfl q1398 rfl o37 (x := (some q34)) tyX10 tyX10_ok nmX10 rfl rfl rfl dX10_init_50 (fun h36 H locs eσ hM => ?_)
  replace hw := hw h36 eσ
  clear eσ
  refine lv_aload_n hx hb dX10_init_53 rfl (lv_at hl 0 rfl) ?_
  refine lv_bipush (v := 28) hx hb dX10_init_54 (by decide) ?_
  obtain ⟨mc39, ms40, emc39, ems40, hw⟩ := hw
  refine rX_newi C hM (N := 28) q257 (by decide) (by decide) (by decide) (by show 0 + 1 + 1 + 1 + 1 + 1 + 1 ≤ MC; omega) (by show 0 + 300 + 301 + 301 + 301 + 6 + 28 ≤ MS; omega) dX10_init_56 (fun q41 h42 H hqq41 eσ hM => ?_)
  replace hw := hw q41 hqq41 h42 eσ
  clear eσ
  have hbud : 0 + 1 + 1 + 1 + 1 + 1 + 1 + mc39 ≤ MC ∧ 0 + 300 + 301 + 301 + 301 + 6 + 28 + ms40 ≤ MS := ⟨by omega, by omega⟩
  have o44 := hw.1
  replace hw := hw.2
  refine rX_putF C hin0 hM 9 12 rfl in_X10 (by decide) (by decide) rfl rfl q1402 rfl o44 (x := (some q41)) tyX10 tyX10_ok nmX10 rfl rfl rfl dX10_init_58 (fun h43 H locs eσ hM => ?_)
  replace hw := hw h43 eσ
  clear eσ
  refine lv_aload_n hx hb dX10_init_61 rfl (lv_at hl 0 rfl) ?_
  refine lv_iconst (v := 4) hx hb dX10_init_62 (by decide) ?_
  obtain ⟨mc46, ms47, emc46, ems47, hw⟩ := hw
  refine rX_newi C hM (N := 4) q257 (by decide) (by decide) (by decide) (by show 0 + 1 + 1 + 1 + 1 + 1 + 1 + 1 ≤ MC; omega) (by show 0 + 300 + 301 + 301 + 301 + 6 + 28 + 4 ≤ MS; omega) dX10_init_63 (fun q48 h49 H hqq48 eσ hM => ?_)
  replace hw := hw q48 hqq48 h49 eσ
  clear eσ
  have hbud : 0 + 1 + 1 + 1 + 1 + 1 + 1 + 1 + mc46 ≤ MC ∧ 0 + 300 + 301 + 301 + 301 + 6 + 28 + 4 + ms47 ≤ MS := ⟨by omega, by omega⟩
  have o51 := hw.1
  replace hw := hw.2
  refine rX_putF C hin0 hM 9 13 rfl in_X10 (by decide) (by decide) rfl rfl q1403 rfl o51 (x := (some q48)) tyX10 tyX10_ok nmX10 rfl rfl rfl dX10_init_65 (fun h50 H locs eσ hM => ?_)
  replace hw := hw h50 eσ
  clear eσ
  refine lv_aload_n hx hb dX10_init_68 rfl (lv_at hl 0 rfl) ?_
  refine lv_bipush (v := 6) hx hb dX10_init_69 (by decide) ?_
  obtain ⟨mc53, ms54, emc53, ems54, hw⟩ := hw
  refine rX_newi C hM (N := 6) q257 (by decide) (by decide) (by decide) (by show 0 + 1 + 1 + 1 + 1 + 1 + 1 + 1 + 1 ≤ MC; omega) (by show 0 + 300 + 301 + 301 + 301 + 6 + 28 + 4 + 6 ≤ MS; omega) dX10_init_71 (fun q55 h56 H hqq55 eσ hM => ?_)
  replace hw := hw q55 hqq55 h56 eσ
  clear eσ
  have hbud : 0 + 1 + 1 + 1 + 1 + 1 + 1 + 1 + 1 + mc53 ≤ MC ∧ 0 + 300 + 301 + 301 + 301 + 6 + 28 + 4 + 6 + ms54 ≤ MS := ⟨by omega, by omega⟩
  have o58 := hw.1
  replace hw := hw.2
  refine rX_putF C hin0 hM 9 18 rfl in_X10 (by decide) (by decide) rfl rfl q1408 rfl o58 (x := (some q55)) tyX10 tyX10_ok nmX10 rfl rfl rfl dX10_init_73 (fun h57 H locs eσ hM => ?_)
  replace hw := hw h57 eσ
  clear eσ
  refine lv_aload_n hx hb dX10_init_76 rfl (lv_at hl 0 rfl) ?_
  refine lv_bipush (v := 28) hx hb dX10_init_77 (by decide) ?_
  obtain ⟨mc60, ms61, emc60, ems61, hw⟩ := hw
  refine rX_newi C hM (N := 28) q257 (by decide) (by decide) (by decide) (by show 0 + 1 + 1 + 1 + 1 + 1 + 1 + 1 + 1 + 1 ≤ MC; omega) (by show 0 + 300 + 301 + 301 + 301 + 6 + 28 + 4 + 6 + 28 ≤ MS; omega) dX10_init_79 (fun q62 h63 H hqq62 eσ hM => ?_)
  replace hw := hw q62 hqq62 h63 eσ
  clear eσ
  have hbud : 0 + 1 + 1 + 1 + 1 + 1 + 1 + 1 + 1 + 1 + mc60 ≤ MC ∧ 0 + 300 + 301 + 301 + 301 + 6 + 28 + 4 + 6 + 28 + ms61 ≤ MS := ⟨by omega, by omega⟩
  have o65 := hw.1
  replace hw := hw.2
  refine rX_putF C hin0 hM 9 19 rfl in_X10 (by decide) (by decide) rfl rfl q1409 rfl o65 (x := (some q62)) tyX10 tyX10_ok nmX10 rfl rfl rfl dX10_init_81 (fun h64 H locs eσ hM => ?_)
  replace hw := hw h64 eσ
  clear eσ
  refine lv_aload_n hx hb dX10_init_84 rfl (lv_at hl 0 rfl) ?_
  refine lv_iconst (v := 3) hx hb dX10_init_85 (by decide) ?_
  obtain ⟨mc67, ms68, emc67, ems68, hw⟩ := hw
  refine rX_newz C hM (N := 3) q1499 (by decide) (by decide) (by decide) (by show 0 + 1 + 1 + 1 + 1 + 1 + 1 + 1 + 1 + 1 + 1 ≤ MC; omega) (by show 0 + 300 + 301 + 301 + 301 + 6 + 28 + 4 + 6 + 28 + 3 ≤ MS; omega) dX10_init_86 (fun q69 h70 H hqq69 eσ hM => ?_)
  replace hw := hw q69 hqq69 h70 eσ
  clear eσ
  have hbud : 0 + 1 + 1 + 1 + 1 + 1 + 1 + 1 + 1 + 1 + 1 + mc67 ≤ MC ∧ 0 + 300 + 301 + 301 + 301 + 6 + 28 + 4 + 6 + 28 + 3 + ms68 ≤ MS := ⟨by omega, by omega⟩
  have o72 := hw.1
  replace hw := hw.2
  refine rX_putF C hin0 hM 9 20 rfl in_X10 (by decide) (by decide) rfl rfl q1410 rfl o72 (x := (some q69)) tyX10 tyX10_ok nmX10 rfl rfl rfl dX10_init_88 (fun h71 H locs eσ hM => ?_)
  replace hw := hw h71 eσ
  clear eσ
  refine lv_aload_n hx hb dX10_init_91 rfl (lv_at hl 0 rfl) ?_
  refine lv_iconst (v := 3) hx hb dX10_init_92 (by decide) ?_
  obtain ⟨mc74, ms75, emc74, ems75, hw⟩ := hw
  refine rX_newi C hM (N := 3) q257 (by decide) (by decide) (by decide) (by show 0 + 1 + 1 + 1 + 1 + 1 + 1 + 1 + 1 + 1 + 1 + 1 ≤ MC; omega) (by show 0 + 300 + 301 + 301 + 301 + 6 + 28 + 4 + 6 + 28 + 3 + 3 ≤ MS; omega) dX10_init_93 (fun q76 h77 H hqq76 eσ hM => ?_)
  replace hw := hw q76 hqq76 h77 eσ
  clear eσ
  have hbud : 0 + 1 + 1 + 1 + 1 + 1 + 1 + 1 + 1 + 1 + 1 + 1 + mc74 ≤ MC ∧ 0 + 300 + 301 + 301 + 301 + 6 + 28 + 4 + 6 + 28 + 3 + 3 + ms75 ≤ MS := ⟨by omega, by omega⟩
  have o79 := hw.1
  replace hw := hw.2
  refine rX_putF C hin0 hM 9 21 rfl in_X10 (by decide) (by decide) rfl rfl q1411 rfl o79 (x := (some q76)) tyX10 tyX10_ok nmX10 rfl rfl rfl dX10_init_95 (fun h78 H locs eσ hM => ?_)
  replace hw := hw h78 eσ
  clear eσ
  refine lv_aload_n hx hb dX10_init_98 rfl (lv_at hl 0 rfl) ?_
  refine lv_iconst (v := 3) hx hb dX10_init_99 (by decide) ?_
  obtain ⟨mc81, ms82, emc81, ems82, hw⟩ := hw
  refine rX_newi C hM (N := 3) q257 (by decide) (by decide) (by decide) (by show 0 + 1 + 1 + 1 + 1 + 1 + 1 + 1 + 1 + 1 + 1 + 1 + 1 ≤ MC; omega) (by show 0 + 300 + 301 + 301 + 301 + 6 + 28 + 4 + 6 + 28 + 3 + 3 + 3 ≤ MS; omega) dX10_init_100 (fun q83 h84 H hqq83 eσ hM => ?_)
  replace hw := hw q83 hqq83 h84 eσ
  clear eσ
  have hbud : 0 + 1 + 1 + 1 + 1 + 1 + 1 + 1 + 1 + 1 + 1 + 1 + 1 + mc81 ≤ MC ∧ 0 + 300 + 301 + 301 + 301 + 6 + 28 + 4 + 6 + 28 + 3 + 3 + 3 + ms82 ≤ MS := ⟨by omega, by omega⟩
  have o86 := hw.1
  replace hw := hw.2
  refine rX_putF C hin0 hM 9 22 rfl in_X10 (by decide) (by decide) rfl rfl q1412 rfl o86 (x := (some q83)) tyX10 tyX10_ok nmX10 rfl rfl rfl dX10_init_102 (fun h85 H locs eσ hM => ?_)
  replace hw := hw h85 eσ
  clear eσ
  refine lv_aload_n hx hb dX10_init_105 rfl (lv_at hl 0 rfl) ?_
  refine lv_ldc hx hb hown (hts _ q1389) dX10_init_106 ?_
  obtain ⟨mc88, ms89, emc88, ems89, hw⟩ := hw
  refine rX_newb C hM (N := 36000) q152 (by decide) (by decide) (by decide) (by show 0 + 1 + 1 + 1 + 1 + 1 + 1 + 1 + 1 + 1 + 1 + 1 + 1 + 1 ≤ MC; omega) (by show 0 + 300 + 301 + 301 + 301 + 6 + 28 + 4 + 6 + 28 + 3 + 3 + 3 + 36000 ≤ MS; omega) dX10_init_108 (fun q90 h91 H hqq90 eσ hM => ?_)
  replace hw := hw q90 hqq90 h91 eσ
  clear eσ
  have hbud : 0 + 1 + 1 + 1 + 1 + 1 + 1 + 1 + 1 + 1 + 1 + 1 + 1 + 1 + mc88 ≤ MC ∧ 0 + 300 + 301 + 301 + 301 + 6 + 28 + 4 + 6 + 28 + 3 + 3 + 3 + 36000 + ms89 ≤ MS := ⟨by omega, by omega⟩
  have o93 := hw.1
  replace hw := hw.2
  refine rX_putF C hin0 hM 9 23 rfl in_X10 (by decide) (by decide) rfl rfl q1413 rfl o93 (x := (some q90)) tyX10 tyX10_ok nmX10 rfl rfl rfl dX10_init_110 (fun h92 H locs eσ hM => ?_)
  replace hw := hw h92 eσ
  clear eσ
  refine lv_aload_n hx hb dX10_init_113 rfl (lv_at hl 0 rfl) ?_
  refine lv_bipush (v := 6) hx hb dX10_init_114 (by decide) ?_
  obtain ⟨mc95, ms96, emc95, ems96, hw⟩ := hw
  refine rX_newi C hM (N := 6) q257 (by decide) (by decide) (by decide) (by show 0 + 1 + 1 + 1 + 1 + 1 + 1 + 1 + 1 + 1 + 1 + 1 + 1 + 1 + 1 ≤ MC; omega) (by show 0 + 300 + 301 + 301 + 301 + 6 + 28 + 4 + 6 + 28 + 3 + 3 + 3 + 36000 + 6 ≤ MS; omega) dX10_init_116 (fun q97 h98 H hqq97 eσ hM => ?_)
  replace hw := hw q97 hqq97 h98 eσ
  clear eσ
  have hbud : 0 + 1 + 1 + 1 + 1 + 1 + 1 + 1 + 1 + 1 + 1 + 1 + 1 + 1 + 1 + mc95 ≤ MC ∧ 0 + 300 + 301 + 301 + 301 + 6 + 28 + 4 + 6 + 28 + 3 + 3 + 3 + 36000 + 6 + ms96 ≤ MS := ⟨by omega, by omega⟩
  have o100 := hw.1
  replace hw := hw.2
  refine rX_putF C hin0 hM 9 24 rfl in_X10 (by decide) (by decide) rfl rfl q1414 rfl o100 (x := (some q97)) tyX10 tyX10_ok nmX10 rfl rfl rfl dX10_init_118 (fun h99 H locs eσ hM => ?_)
  replace hw := hw h99 eσ
  clear eσ
  refine lv_aload_n hx hb dX10_init_121 rfl (lv_at hl 0 rfl) ?_
  refine lv_bipush (v := 6) hx hb dX10_init_122 (by decide) ?_
  obtain ⟨mc102, ms103, emc102, ems103, hw⟩ := hw
  refine rX_newi C hM (N := 6) q257 (by decide) (by decide) (by decide) (by show 0 + 1 + 1 + 1 + 1 + 1 + 1 + 1 + 1 + 1 + 1 + 1 + 1 + 1 + 1 + 1 ≤ MC; omega) (by show 0 + 300 + 301 + 301 + 301 + 6 + 28 + 4 + 6 + 28 + 3 + 3 + 3 + 36000 + 6 + 6 ≤ MS; omega) dX10_init_124 (fun q104 h105 H hqq104 eσ hM => ?_)
  replace hw := hw q104 hqq104 h105 eσ
  clear eσ
  have hbud : 0 + 1 + 1 + 1 + 1 + 1 + 1 + 1 + 1 + 1 + 1 + 1 + 1 + 1 + 1 + 1 + mc102 ≤ MC ∧ 0 + 300 + 301 + 301 + 301 + 6 + 28 + 4 + 6 + 28 + 3 + 3 + 3 + 36000 + 6 + 6 + ms103 ≤ MS := ⟨by omega, by omega⟩
  have o107 := hw.1
  replace hw := hw.2
  refine rX_putF C hin0 hM 9 25 rfl in_X10 (by decide) (by decide) rfl rfl q1415 rfl o107 (x := (some q104)) tyX10 tyX10_ok nmX10 rfl rfl rfl dX10_init_126 (fun h106 H locs eσ hM => ?_)
  replace hw := hw h106 eσ
  clear eσ
  refine lv_aload_n hx hb dX10_init_129 rfl (lv_at hl 0 rfl) ?_
  refine lv_sipush (v := 2000) hx hb dX10_init_130 (by decide) ?_
  obtain ⟨mc109, ms110, emc109, ems110, hw⟩ := hw
  refine rX_newi C hM (N := 2000) q257 (by decide) (by decide) (by decide) (by show 0 + 1 + 1 + 1 + 1 + 1 + 1 + 1 + 1 + 1 + 1 + 1 + 1 + 1 + 1 + 1 + 1 ≤ MC; omega) (by show 0 + 300 + 301 + 301 + 301 + 6 + 28 + 4 + 6 + 28 + 3 + 3 + 3 + 36000 + 6 + 6 + 2000 ≤ MS; omega) dX10_init_133 (fun q111 h112 H hqq111 eσ hM => ?_)
  replace hw := hw q111 hqq111 h112 eσ
  clear eσ
  have hbud : 0 + 1 + 1 + 1 + 1 + 1 + 1 + 1 + 1 + 1 + 1 + 1 + 1 + 1 + 1 + 1 + 1 + mc109 ≤ MC ∧ 0 + 300 + 301 + 301 + 301 + 6 + 28 + 4 + 6 + 28 + 3 + 3 + 3 + 36000 + 6 + 6 + 2000 + ms110 ≤ MS := ⟨by omega, by omega⟩
  have o114 := hw.1
  replace hw := hw.2
  refine rX_putF C hin0 hM 9 27 rfl in_X10 (by decide) (by decide) rfl rfl q1417 rfl o114 (x := (some q111)) tyX10 tyX10_ok nmX10 rfl rfl rfl dX10_init_135 (fun h113 H locs eσ hM => ?_)
  replace hw := hw h113 eσ
  clear eσ
  refine lv_aload_n hx hb dX10_init_138 rfl (lv_at hl 0 rfl) ?_
  refine lv_bipush (v := 6) hx hb dX10_init_139 (by decide) ?_
  obtain ⟨mc116, ms117, emc116, ems117, hw⟩ := hw
  refine rX_newi C hM (N := 6) q257 (by decide) (by decide) (by decide) (by show 0 + 1 + 1 + 1 + 1 + 1 + 1 + 1 + 1 + 1 + 1 + 1 + 1 + 1 + 1 + 1 + 1 + 1 ≤ MC; omega) (by show 0 + 300 + 301 + 301 + 301 + 6 + 28 + 4 + 6 + 28 + 3 + 3 + 3 + 36000 + 6 + 6 + 2000 + 6 ≤ MS; omega) dX10_init_141 (fun q118 h119 H hqq118 eσ hM => ?_)
  replace hw := hw q118 hqq118 h119 eσ
  clear eσ
  have hbud : 0 + 1 + 1 + 1 + 1 + 1 + 1 + 1 + 1 + 1 + 1 + 1 + 1 + 1 + 1 + 1 + 1 + 1 + mc116 ≤ MC ∧ 0 + 300 + 301 + 301 + 301 + 6 + 28 + 4 + 6 + 28 + 3 + 3 + 3 + 36000 + 6 + 6 + 2000 + 6 + ms117 ≤ MS := ⟨by omega, by omega⟩
  have o121 := hw.1
  replace hw := hw.2
  refine rX_putF C hin0 hM 9 29 rfl in_X10 (by decide) (by decide) rfl rfl q1419 rfl o121 (x := (some q118)) tyX10 tyX10_ok nmX10 rfl rfl rfl dX10_init_143 (fun h120 H locs eσ hM => ?_)
  replace hw := hw h120 eσ
  clear eσ
  refine lv_aload_n hx hb dX10_init_146 rfl (lv_at hl 0 rfl) ?_
  refine lv_bipush (v := 36) hx hb dX10_init_147 (by decide) ?_
  obtain ⟨mc123, ms124, emc123, ems124, hw⟩ := hw
  refine rX_newl C hM (N := 36) q334 (by decide) (by decide) (by decide) (by show 0 + 1 + 1 + 1 + 1 + 1 + 1 + 1 + 1 + 1 + 1 + 1 + 1 + 1 + 1 + 1 + 1 + 1 + 1 ≤ MC; omega) (by show 0 + 300 + 301 + 301 + 301 + 6 + 28 + 4 + 6 + 28 + 3 + 3 + 3 + 36000 + 6 + 6 + 2000 + 6 + 36 ≤ MS; omega) dX10_init_149 (fun q125 h126 H hqq125 eσ hM => ?_)
  replace hw := hw q125 hqq125 h126 eσ
  clear eσ
  have hbud : 0 + 1 + 1 + 1 + 1 + 1 + 1 + 1 + 1 + 1 + 1 + 1 + 1 + 1 + 1 + 1 + 1 + 1 + 1 + mc123 ≤ MC ∧ 0 + 300 + 301 + 301 + 301 + 6 + 28 + 4 + 6 + 28 + 3 + 3 + 3 + 36000 + 6 + 6 + 2000 + 6 + 36 + ms124 ≤ MS := ⟨by omega, by omega⟩
  have o128 := hw.1
  replace hw := hw.2
  refine rX_putF C hin0 hM 9 30 rfl in_X10 (by decide) (by decide) rfl rfl q1420 rfl o128 (x := (some q125)) tyX10 tyX10_ok nmX10 rfl rfl rfl dX10_init_151 (fun h127 H locs eσ hM => ?_)
  replace hw := hw h127 eσ
  clear eσ
  refine lv_aload_n hx hb dX10_init_154 rfl (lv_at hl 0 rfl) ?_
  refine lv_bipush (v := 6) hx hb dX10_init_155 (by decide) ?_
  obtain ⟨mc130, ms131, emc130, ems131, hw⟩ := hw
  refine rX_newl C hM (N := 6) q334 (by decide) (by decide) (by decide) (by show 0 + 1 + 1 + 1 + 1 + 1 + 1 + 1 + 1 + 1 + 1 + 1 + 1 + 1 + 1 + 1 + 1 + 1 + 1 + 1 ≤ MC; omega) (by show 0 + 300 + 301 + 301 + 301 + 6 + 28 + 4 + 6 + 28 + 3 + 3 + 3 + 36000 + 6 + 6 + 2000 + 6 + 36 + 6 ≤ MS; omega) dX10_init_157 (fun q132 h133 H hqq132 eσ hM => ?_)
  replace hw := hw q132 hqq132 h133 eσ
  clear eσ
  have hbud : 0 + 1 + 1 + 1 + 1 + 1 + 1 + 1 + 1 + 1 + 1 + 1 + 1 + 1 + 1 + 1 + 1 + 1 + 1 + 1 + mc130 ≤ MC ∧ 0 + 300 + 301 + 301 + 301 + 6 + 28 + 4 + 6 + 28 + 3 + 3 + 3 + 36000 + 6 + 6 + 2000 + 6 + 36 + 6 + ms131 ≤ MS := ⟨by omega, by omega⟩
  have o135 := hw.1
  replace hw := hw.2
  refine rX_putF C hin0 hM 9 32 rfl in_X10 (by decide) (by decide) rfl rfl q1422 rfl o135 (x := (some q132)) tyX10 tyX10_ok nmX10 rfl rfl rfl dX10_init_159 (fun h134 H locs eσ hM => ?_)
  replace hw := hw h134 eσ
  clear eσ
  refine lv_aload_n hx hb dX10_init_162 rfl (lv_at hl 0 rfl) ?_
  refine lv_bipush (v := 6) hx hb dX10_init_163 (by decide) ?_
  obtain ⟨mc137, ms138, emc137, ems138, hw⟩ := hw
  refine rX_newl C hM (N := 6) q334 (by decide) (by decide) (by decide) (by show 0 + 1 + 1 + 1 + 1 + 1 + 1 + 1 + 1 + 1 + 1 + 1 + 1 + 1 + 1 + 1 + 1 + 1 + 1 + 1 + 1 ≤ MC; omega) (by show 0 + 300 + 301 + 301 + 301 + 6 + 28 + 4 + 6 + 28 + 3 + 3 + 3 + 36000 + 6 + 6 + 2000 + 6 + 36 + 6 + 6 ≤ MS; omega) dX10_init_165 (fun q139 h140 H hqq139 eσ hM => ?_)
  replace hw := hw q139 hqq139 h140 eσ
  clear eσ
  have hbud : 0 + 1 + 1 + 1 + 1 + 1 + 1 + 1 + 1 + 1 + 1 + 1 + 1 + 1 + 1 + 1 + 1 + 1 + 1 + 1 + 1 + mc137 ≤ MC ∧ 0 + 300 + 301 + 301 + 301 + 6 + 28 + 4 + 6 + 28 + 3 + 3 + 3 + 36000 + 6 + 6 + 2000 + 6 + 36 + 6 + 6 + ms138 ≤ MS := ⟨by omega, by omega⟩
  have o142 := hw.1
  replace hw := hw.2
  refine rX_putF C hin0 hM 9 34 rfl in_X10 (by decide) (by decide) rfl rfl q1424 rfl o142 (x := (some q139)) tyX10 tyX10_ok nmX10 rfl rfl rfl dX10_init_167 (fun h141 H locs eσ hM => ?_)
  replace hw := hw h141 eσ
  clear eσ
  refine lv_aload_n hx hb dX10_init_170 rfl (lv_at hl 0 rfl) ?_
  refine lv_bipush (v := 6) hx hb dX10_init_171 (by decide) ?_
  obtain ⟨mc144, ms145, emc144, ems145, hw⟩ := hw
  refine rX_newi C hM (N := 6) q257 (by decide) (by decide) (by decide) (by show 0 + 1 + 1 + 1 + 1 + 1 + 1 + 1 + 1 + 1 + 1 + 1 + 1 + 1 + 1 + 1 + 1 + 1 + 1 + 1 + 1 + 1 ≤ MC; omega) (by show 0 + 300 + 301 + 301 + 301 + 6 + 28 + 4 + 6 + 28 + 3 + 3 + 3 + 36000 + 6 + 6 + 2000 + 6 + 36 + 6 + 6 + 6 ≤ MS; omega) dX10_init_173 (fun q146 h147 H hqq146 eσ hM => ?_)
  replace hw := hw q146 hqq146 h147 eσ
  clear eσ
  have hbud : 0 + 1 + 1 + 1 + 1 + 1 + 1 + 1 + 1 + 1 + 1 + 1 + 1 + 1 + 1 + 1 + 1 + 1 + 1 + 1 + 1 + 1 + mc144 ≤ MC ∧ 0 + 300 + 301 + 301 + 301 + 6 + 28 + 4 + 6 + 28 + 3 + 3 + 3 + 36000 + 6 + 6 + 2000 + 6 + 36 + 6 + 6 + 6 + ms145 ≤ MS := ⟨by omega, by omega⟩
  have o149 := hw.1
  replace hw := hw.2
  refine rX_putF C hin0 hM 9 35 rfl in_X10 (by decide) (by decide) rfl rfl q1425 rfl o149 (x := (some q146)) tyX10 tyX10_ok nmX10 rfl rfl rfl dX10_init_175 (fun h148 H locs eσ hM => ?_)
  replace hw := hw h148 eσ
  clear eσ
  exact rX_vret C hM ⟨by show 0 + 1 + 1 + 1 + 1 + 1 + 1 + 1 + 1 + 1 + 1 + 1 + 1 + 1 + 1 + 1 + 1 + 1 + 1 + 1 + 1 + 1 ≤ MC; omega, by show 0 + 300 + 301 + 301 + 301 + 6 + 28 + 4 + 6 + 28 + 3 + 3 + 3 + 36000 + 6 + 6 + 2000 + 6 + 36 + 6 + 6 + 6 ≤ MS; omega⟩ hw dX10_init_178
