set_option maxRecDepth 100000
abbrev rm_X12_isBefore : Room := { frames := 2, cells := 0, slots := 0, locals := 43 }
set_option maxHeartbeats 4000000 in
theorem wk_X12_isBefore_15 {p : Program} {l : Launch} {e : Env} {s : State} {m : MethodId} {args : Array Value} {below : List Frame} {meth : Method} {c : Code} {D : va_G} {dA : Nat → ClassId} {ev : Nat → Nat} {h0 : Hp} {sz : Nat} (C : CxM p s m meth c args (AX dA h0 sz) "LeastSolutions$Ranked" cX12_isBefore 2 (some .boolean)) {Qr : Int32 → Hp → Prop} : ∀ (a0 : Nat) (u0 : Int32) (h : Hp) (H : Heap) (locs : List Loc) (ls : Array Slot), wp_X12_isBefore_15 ev Qr a0 u0 h → wX D dA ev (AX dA h0 sz) s h H locs → lv_has ls 2 [(0, .ref a0)] → W p l e rm_X12_isBefore s m args below meth c H locs 0 0 (MQ below (va_Qi Qr (BX D dA (AX dA h0 sz)) (AX dA h0 sz)) args s 0 0 (AX dA h0 sz)) (F0 m 15 ls [.int u0]) := by
  intro a0 u0 h H locs ls hw hM hl
  have hx := C.1
  have hb := C.2.1
  have hown := C.2.2.2.2.2.1
  have hts := C.2.2.2.2.2.2.1
  unfold wp_X12_isBefore_15 at hw
  exact rX_zret C hM ⟨Nat.le_refl _, Nat.le_refl _⟩ hw dX12_isBefore_15
set_option maxHeartbeats 4000000 in
/-- LeastSolutions$Ranked.isBefore(Ljava/lang/Object;)Z -/
theorem mt_X12_isBefore (l : Launch) (D : va_G) (dA : Nat → ClassId) (ev : Nat → Nat) (sz : Nat) (h : Hp) (a0 : Nat) (p1 : Nat) (Qr : Int32 → Hp → Prop) (hw : wp_X12_isBefore ev h a0 p1 Qr) : Met l yX12_isBefore (ws_ yX12_isBefore cX12_isBefore 2 (some .boolean)) rm_X12_isBefore (PcX D dA ev h sz [.ref a0, .ref p1]) (va_Qi Qr (BX D dA (AX dA h sz)) (AX dA h sz)) 0 0 (AX dA h sz) := by
  refine Met.ofW (cc := cX12_isBefore) (maxL := 2) (ret := (some .boolean)) (by decide) rfl ?_
  intro p e s m args below meth c s₁ B hml hv
  obtain ⟨rfl, hsz, hP, hK, hD0, hE⟩ := hv
  subst hsz
  have hts0 := atoms_spec (ws := ws_ yX12_isBefore cX12_isBefore 2 (some .boolean)) B.pre
  have C : CxM p s m meth c _ (AX dA h s.heap.size) "LeastSolutions$Ranked" cX12_isBefore 2 (some .boolean) := ⟨B.exec, B.bytes, B.returns, B.notSynchronized, hml, findClass_of_methodNamed B.named, fun w h => hts0 w (List.mem_cons_of_mem _ h), fun q h => Or.inr h⟩
  have hM : wX D dA ev (AX dA h s.heap.size) s h s.heap [] := ⟨hK, hP, hD0.self, va_S.rf, hE⟩
  have hx := C.1
  have hb := C.2.1
  have hown := C.2.2.2.2.2.1
  have hts := C.2.2.2.2.2.2.1
  have hl := lv_entry ([.ref a0, .ref p1]) (n := 2) (Nat.le_of_ble_eq_true rfl)
  rw [lg_entry_eq]
  generalize (lg_sl ([.ref a0, .ref p1]) ++ List.replicate (2 - (lg_sl ([.ref a0, .ref p1])).length) Slot.unset).toArray = ls at hl ⊢
  have hl : lv_has ls 2 [(0, .ref a0), (1, .ref p1)] := hl
  unfold wp_X12_isBefore at hw
  refine lv_aload_n hx hb dX12_isBefore_0 rfl (lv_at hl 0 rfl) ?_
  refine lv_aload_n hx hb dX12_isBefore_1 rfl (lv_at hl 1 rfl) ?_
  have o1 := hw.1
  replace hw := hw.2
  refine rX_goFi C hM (runX_F C hM hl.1 1 (As := [.ref p1]) o1 (mt_X11_against l D dA ev _ h a0 p1 _ hw) (lw_F q1024 q1027 q1029 q104 q1031) rfl rfl (by decide +kernel) ⟨Nat.le_of_ble_eq_true rfl, Nat.le_of_ble_eq_true rfl⟩ rfl (Nat.le_of_ble_eq_true rfl) rfl dX12_isBefore_2 ⟨Nat.le_refl _, Nat.le_refl _⟩) (fun x3 h2 H locs hw hM => ?_)
  refine lv_if_ge (tgt := 14) hx hb dX12_isBefore_7 (by decide) (fun hc => ?_) (fun hc => ?_)
  · replace hw := hw.1 hc
    refine lv_iconst (v := 0) hx hb dX12_isBefore_14 (by decide) ?_
    exact wk_X12_isBefore_15 C  a0 0 h2 _ _ ls hw hM (lv_sub hl [0] rfl)
  · replace hw := hw.2 hc
    refine lv_iconst (v := 1) hx hb dX12_isBefore_10 (by decide) ?_
    refine lv_goto (tgt := 15) hx hb dX12_isBefore_11 (by decide) ?_
    exact wk_X12_isBefore_15 C  a0 1 h2 _ _ ls hw hM (lv_sub hl [0] rfl)
abbrev rm_X7_put (MC MS : Nat) : Room := { frames := 6, cells := MC, slots := MS, locals := 171 }
set_option maxHeartbeats 4000000 in
theorem wk_X7_put_54 {p : Program} {l : Launch} {e : Env} {s : State} {m : MethodId} {args : Array Value} {below : List Frame} {meth : Method} {c : Code} {D : va_G} {dA : Nat → ClassId} {ev : Nat → Nat} {h0 : Hp} {sz : Nat} {MC MS : Nat} (C : CxM p s m meth c args (AX dA h0 sz) "LeastSolutions$Shelf" cX7_put 5 none) {Qr : Hp → Prop} {K10 : Nat → Nat → Int32 → Int32 → Hp → Nat → Nat → Prop} (hK10 : ∀ (a0 : Nat) (v1 : Nat) (v2 : Int32) (v3 : Int32) (h : Hp) (mc ms : Nat) (cells slots : Nat) (H : Heap) (locs : List Loc) (ls : Array Slot), K10 a0 v1 v2 v3 h mc ms → wX D dA ev (AX dA h0 sz) s h H locs → cells + mc ≤ MC ∧ slots + ms ≤ MS → lv_has ls 5 [(0, .ref a0), (1, .ref v1), (2, .int v2), (3, .int v3)] → W p l e (rm_X7_put MC MS) s m args below meth c H locs cells slots (MQ below (va_Qv Qr (BX D dA (AX dA h0 sz)) (AX dA h0 sz)) args s MC MS (AX dA h0 sz)) (F0 m 10 ls [])) : ∀ (a0 : Nat) (v1 : Nat) (v2 : Int32) (v3 : Int32) (h : Hp) (mc ms : Nat) (cells slots : Nat) (H : Heap) (locs : List Loc) (ls : Array Slot), wp_X7_put_54 ev Qr K10 a0 v1 v2 v3 h mc ms → wX D dA ev (AX dA h0 sz) s h H locs → cells + mc ≤ MC ∧ slots + ms ≤ MS → lv_has ls 5 [(0, .ref a0), (1, .ref v1), (2, .int v2), (3, .int v3)] → W p l e (rm_X7_put MC MS) s m args below meth c H locs cells slots (MQ below (va_Qv Qr (BX D dA (AX dA h0 sz)) (AX dA h0 sz)) args s MC MS (AX dA h0 sz)) (F0 m 54 ls []) := by
  intro a0 v1 v2 v3 h mc ms cells slots H locs ls hw hM hbud hl
  have hx := C.1
  have hb := C.2.1
  have hown := C.2.2.2.2.2.1
  have hts := C.2.2.2.2.2.2.1
  unfold wp_X7_put_54 at hw
  refine lv_goto (tgt := 10) hx hb dX7_put_54 (by decide) ?_
  exact hK10 a0 v1 v2 v3 h mc ms _ _ _ _ ls hw hM hbud (lv_sub hl [0, 1, 2, 3] rfl)
set_option maxHeartbeats 4000000 in
theorem wk_X7_put_10 {p : Program} {l : Launch} {e : Env} {s : State} {m : MethodId} {args : Array Value} {below : List Frame} {meth : Method} {c : Code} {D : va_G} {dA : Nat → ClassId} {ev : Nat → Nat} {h0 : Hp} {sz : Nat} {MC MS : Nat} (C : CxM p s m meth c args (AX dA h0 sz) "LeastSolutions$Shelf" cX7_put 5 none) {Qr : Hp → Prop} : ∀ (n : Nat) (a0 : Nat) (v1 : Nat) (v2 : Int32) (v3 : Int32) (h : Hp) (mc ms : Nat) (cells slots : Nat) (H : Heap) (locs : List Loc) (ls : Array Slot), wp_X7_put_10 ev Qr n a0 v1 v2 v3 h mc ms → wX D dA ev (AX dA h0 sz) s h H locs → cells + mc ≤ MC ∧ slots + ms ≤ MS → lv_has ls 5 [(0, .ref a0), (1, .ref v1), (2, .int v2), (3, .int v3)] → W p l e (rm_X7_put MC MS) s m args below meth c H locs cells slots (MQ below (va_Qv Qr (BX D dA (AX dA h0 sz)) (AX dA h0 sz)) args s MC MS (AX dA h0 sz)) (F0 m 10 ls []) := by
  intro n
  induction n with
  | zero => intro a0 v1 v2 v3 h mc ms cells slots H locs ls hw; exact hw.elim
  | succ n10 ih =>
    intro a0 v1 v2 v3 h mc ms cells slots H locs ls hw hM hbud hl
    have hx := C.1
    have hb := C.2.1
    have hown := C.2.2.2.2.2.1
    have hts := C.2.2.2.2.2.2.1
    unfold wp_X7_put_10 at hw
    refine lv_iload_n hx hb dX7_put_10 rfl (lv_at hl 2 rfl) ?_
    refine lv_iload_n hx hb dX7_put_11 rfl (lv_at hl 3 rfl) ?_
    refine lv_icmp_ge (tgt := 57) hx hb dX7_put_12 (by decide) (fun hc => ?_) (fun hc => ?_)
    · replace hw := hw.1 hc
      refine lv_aload_n hx hb dX7_put_57 rfl (lv_at hl 0 rfl) ?_
      have o1 := hw.1
      replace hw := hw.2
      obtain ⟨b2, ebb2, hw⟩ := hw
      refine rX_getRs C hM 6 0 rfl in_X7 (by decide) (by decide) rfl q373 o1 ebb2 dX7_put_58 ?_
      refine lv_iload_n hx hb dX7_put_61 rfl (lv_at hl 2 rfl) ?_
      refine lv_aload_n hx hb dX7_put_62 rfl (lv_at hl 1 rfl) ?_
      obtain ⟨c3, d4, mc5, ms6, emc5, ems6, hw⟩ := hw
      have o8 := hw.1
      replace hw := hw.2
      refine rX_gov C hM (runX_V C hM hl.1 11 2 (As := [.int v2, .ref v1]) rfl (by decide) o8 (mt_J6_add_3 l D dA ev _ h b2 v2 v1  c3 d4 _ hw) (lw_V q1037 q1038 q1039 q90 q1040) rfl rfl (by decide +kernel) ⟨Nat.le_of_ble_eq_true rfl, Nat.le_of_ble_eq_true rfl⟩ rfl (Nat.le_of_ble_eq_true rfl) rfl dX7_put_63 ⟨by show cells + c3 ≤ MC; omega, by show slots + d4 ≤ MS; omega⟩) (fun h7 H locs hw hM => ?_)
      have hbud : cells + c3 + mc5 ≤ MC ∧ slots + d4 + ms6 ≤ MS := ⟨by omega, by omega⟩
      exact rX_vret C hM ⟨by show cells + c3 ≤ MC; omega, by show slots + d4 ≤ MS; omega⟩ hw dX7_put_66
    · replace hw := hw.2 hc
      refine lv_iload_n hx hb dX7_put_15 rfl (lv_at hl 2 rfl) ?_
      refine lv_iload_n hx hb dX7_put_16 rfl (lv_at hl 3 rfl) ?_
      refine lv_iadd hx hb dX7_put_17 ?_
      refine lv_iconst (v := 2) hx hb dX7_put_18 (by decide) ?_
      refine lv_idiv hx hb dX7_put_19 (by decide) ?_
      refine lv_topi (fun x9 ex9 => ?_)
      replace hw := hw x9 ex9
      refine lv_istore (lv' := [(4, .int x9), (0, .ref a0), (1, .ref v1), (2, .int v2), (3, .int v3)]) hx hb dX7_put_20 hl (by decide) rfl (fun ls hl => ?_)
      refine lv_aload_n hx hb dX7_put_22 rfl (lv_at hl 2 rfl) ?_
      refine lv_aload_n hx hb dX7_put_23 rfl (lv_at hl 1 rfl) ?_
      have o10 := hw.1
      replace hw := hw.2
      obtain ⟨b11, ebb11, hw⟩ := hw
      refine rX_getRs C hM 6 0 rfl in_X7 (by decide) (by decide) rfl q373 o10 ebb11 dX7_put_24 ?_
      refine lv_iload hx hb dX7_put_27 (lv_at hl 0 rfl) ?_
      have o14 := hw.1
      replace hw := hw.2
      refine rX_goq C hM (runX_V C hM hl.1 11 1 (As := [.int x9]) rfl (by decide) o14 (mt_J6_get l D dA ev _ h b11 x9  _ hw) (lw_V q679 q680 q681 q90 q682) rfl rfl (by decide +kernel) ⟨Nat.le_of_ble_eq_true rfl, Nat.le_of_ble_eq_true rfl⟩ rfl (Nat.le_of_ble_eq_true rfl) rfl dX7_put_29 ⟨by show cells + 0 ≤ MC; omega, by show slots + 0 ≤ MS; omega⟩) (fun r13 h12 H locs hw hM => ?_)
      have o15 := hw.1
      replace hw := hw.2
      refine rX_castY (r := r13) C hM 10 rfl (by decide) q693 q1018 o15 dX7_put_32 ?_
      obtain ⟨b16, eb, hw⟩ := hw
      subst eb
      have o17 := hw.1
      replace hw := hw.2
      refine rX_goFi C hM (runX_D C hM hl.1 1 (As := [.ref b16]) o17 rfl (mt_X12_isBefore l D dA ev _ h12 v1 b16 _ hw) q1022 q1015 q1020 q1705 rfl rfl (by decide +kernel) ⟨Nat.le_of_ble_eq_true rfl, Nat.le_of_ble_eq_true rfl⟩ rfl (Nat.le_of_ble_eq_true rfl) rfl dX7_put_35 ⟨by show cells + 0 ≤ MC; omega, by show slots + 0 ≤ MS; omega⟩) (fun x19 h18 H locs hw hM => ?_)
      refine lv_if_eq (tgt := 49) hx hb dX7_put_40 (by decide) (fun hc => ?_) (fun hc => ?_)
      · replace hw := hw.1 hc
        refine lv_iload hx hb dX7_put_49 (lv_at hl 0 rfl) ?_
        refine lv_iconst (v := 1) hx hb dX7_put_51 (by decide) ?_
        refine lv_iadd hx hb dX7_put_52 ?_
        refine lv_topi (fun x20 ex20 => ?_)
        replace hw := hw x20 ex20
        refine lv_istore_n (lv' := [(2, .int x20), (4, .int x9), (0, .ref a0), (1, .ref v1), (3, .int v3)]) hx hb dX7_put_53 rfl hl (by decide) rfl (fun ls hl => ?_)
        exact wk_X7_put_54 C ih a0 v1 x20 v3 h18 mc ms _ _ _ _ ls hw hM hbud (lv_sub hl [2, 3, 0, 4] rfl)
      · replace hw := hw.2 hc
        refine lv_iload hx hb dX7_put_43 (lv_at hl 0 rfl) ?_
        refine lv_istore_n (lv' := [(3, .int x9), (4, .int x9), (0, .ref a0), (1, .ref v1), (2, .int v2)]) hx hb dX7_put_45 rfl hl (by decide) rfl (fun ls hl => ?_)
        refine lv_goto (tgt := 54) hx hb dX7_put_46 (by decide) ?_
        exact wk_X7_put_54 C ih a0 v1 v2 x9 h18 mc ms _ _ _ _ ls hw hM hbud (lv_sub hl [2, 3, 4, 0] rfl)
set_option maxHeartbeats 4000000 in
/-- LeastSolutions$Shelf.put(LLeastSolutions$Ranked;)V -/
theorem mt_X7_put (l : Launch) (D : va_G) (dA : Nat → ClassId) (ev : Nat → Nat) (sz : Nat) (h : Hp) (a0 : Nat) (p1 : Nat) (MC MS : Nat) (Qr : Hp → Prop) (hw : wp_X7_put ev h a0 p1 MC MS Qr) : Met l yX7_put (ws_ yX7_put cX7_put 5 none) (rm_X7_put MC MS) (PcX D dA ev h sz [.ref a0, .ref p1]) (va_Qv Qr (BX D dA (AX dA h sz)) (AX dA h sz)) MC MS (AX dA h sz) := by
  refine Met.ofW (cc := cX7_put) (maxL := 5) (ret := none) (by decide) rfl ?_
  intro p e s m args below meth c s₁ B hml hv
  obtain ⟨rfl, hsz, hP, hK, hD0, hE⟩ := hv
  subst hsz
  have hts0 := atoms_spec (ws := ws_ yX7_put cX7_put 5 none) B.pre
  have C : CxM p s m meth c _ (AX dA h s.heap.size) "LeastSolutions$Shelf" cX7_put 5 none := ⟨B.exec, B.bytes, B.returns, B.notSynchronized, hml, findClass_of_methodNamed B.named, fun w h => hts0 w (List.mem_cons_of_mem _ h), fun q h => Or.inr h⟩
  have hM : wX D dA ev (AX dA h s.heap.size) s h s.heap [] := ⟨hK, hP, hD0.self, va_S.rf, hE⟩
  have hx := C.1
  have hb := C.2.1
  have hown := C.2.2.2.2.2.1
  have hts := C.2.2.2.2.2.2.1
  have hl := lv_entry ([.ref a0, .ref p1]) (n := 5) (Nat.le_of_ble_eq_true rfl)
  rw [lg_entry_eq]
  generalize (lg_sl ([.ref a0, .ref p1]) ++ List.replicate (5 - (lg_sl ([.ref a0, .ref p1])).length) Slot.unset).toArray = ls at hl ⊢
  have hl : lv_has ls 5 [(0, .ref a0), (1, .ref p1)] := hl
  have hbud : 0 + MC ≤ MC ∧ 0 + MS ≤ MS := ⟨by omega, by omega⟩
  unfold wp_X7_put at hw
  refine lv_iconst (v := 0) hx hb dX7_put_0 (by decide) ?_
  refine lv_istore_n (lv' := [(2, .int 0), (0, .ref a0), (1, .ref p1)]) hx hb dX7_put_1 rfl hl (by decide) rfl (fun ls hl => ?_)
  refine lv_aload_n hx hb dX7_put_2 rfl (lv_at hl 1 rfl) ?_
  have o1 := hw.1
  replace hw := hw.2
  obtain ⟨b2, ebb2, hw⟩ := hw
  refine rX_getRs C hM 6 0 rfl in_X7 (by decide) (by decide) rfl q373 o1 ebb2 dX7_put_3 ?_
  have o5 := hw.1
  replace hw := hw.2
  refine rX_goi C hM (runX_V C hM hl.1 11 0 (As := []) rfl (by decide) o5 (mt_J6_size l D dA ev _ h b2  _ hw) (lw_V q675 q676 q677 q90 q678) rfl rfl (by decide +kernel) ⟨Nat.le_of_ble_eq_true rfl, Nat.le_of_ble_eq_true rfl⟩ rfl (Nat.le_of_ble_eq_true rfl) rfl dX7_put_6 ⟨by show 0 + 0 ≤ MC; omega, by show 0 + 0 ≤ MS; omega⟩) (fun x4 h3 H locs hw hM => ?_)
  refine lv_istore_n (lv' := [(3, .int x4), (2, .int 0), (0, .ref a0), (1, .ref p1)]) hx hb dX7_put_9 rfl hl (by decide) rfl (fun ls hl => ?_)
  obtain ⟨n10, hw⟩ := hw
  exact wk_X7_put_10 C  n10 a0 p1 0 x4 h3 MC MS _ _ _ _ ls hw hM hbud (lv_sub hl [2, 3, 1, 0] rfl)
def rm_X8_seek (d : Nat) : Room := { frames := 2 + d, cells := 0, slots := 0, locals := 60 + 24 * d }
set_option maxHeartbeats 4000000 in
theorem wk_X8_seek_65 {p : Program} {l : Launch} {e : Env} {s : State} {m : MethodId} {args : Array Value} {below : List Frame} {meth : Method} {c : Code} {D : va_G} {dA : Nat → ClassId} {ev : Nat → Nat} {h0 : Hp} {sz : Nat} (C : CxM p s m meth c args (AX dA h0 sz) "LeastSolutions$Seeker" cX8_seek 5 none) {dd : Nat} {RK : Hp → Nat → Int32 → Int32 → Int32 → (Hp → Prop) → Prop} (hRK : ∀ (sz : Nat) (h : Hp) (a0 : Nat) (p1 : Int32) (p2 : Int32) (p3 : Int32) (Qr : Hp → Prop), RK h a0 p1 p2 p3 Qr → Met l yX8_seek (ws_ yX8_seek cX8_seek 5 none) (rm_X8_seek dd) (PcX D dA ev h sz [.ref a0, .int p1, .int p2, .int p3]) (va_Qv Qr (BX D dA (AX dA h sz)) (AX dA h sz)) 0 0 (AX dA h sz)) {Qr : Hp → Prop} : ∀ (n : Nat) (a0 : Nat) (v1 : Int32) (v2 : Int32) (v3 : Int32) (v4 : Int32) (h : Hp) (H : Heap) (locs : List Loc) (ls : Array Slot), wp_X8_seek_65 ev RK Qr n a0 v1 v2 v3 v4 h → wX D dA ev (AX dA h0 sz) s h H locs → lv_has ls 5 [(0, .ref a0), (1, .int v1), (2, .int v2), (3, .int v3), (4, .int v4)] → W p l e (rm_X8_seek (dd + 1)) s m args below meth c H locs 0 0 (MQ below (va_Qv Qr (BX D dA (AX dA h0 sz)) (AX dA h0 sz)) args s 0 0 (AX dA h0 sz)) (F0 m 65 ls []) := by
  intro n
  induction n with
  | zero => intro a0 v1 v2 v3 v4 h H locs ls hw; exact hw.elim
  | succ n65 ih =>
    intro a0 v1 v2 v3 v4 h H locs ls hw hM hl
    have hx := C.1
    have hb := C.2.1
    have hown := C.2.2.2.2.2.1
    have hts := C.2.2.2.2.2.2.1
    unfold wp_X8_seek_65 at hw
    refine lv_iload hx hb dX8_seek_65 (lv_at hl 4 rfl) ?_
    refine lv_iload_n hx hb dX8_seek_67 rfl (lv_at hl 2 rfl) ?_
    refine lv_icmp_gt (tgt := 107) hx hb dX8_seek_68 (by decide) (fun hc => ?_) (fun hc => ?_)
    · replace hw := hw.1 hc
      refine lv_aload_n hx hb dX8_seek_107 rfl (lv_at hl 0 rfl) ?_
      have o1 := hw.1
      replace hw := hw.2
      obtain ⟨b2, ebb2, hw⟩ := hw
      refine rX_getRs C hM 7 2 rfl in_X8 (by decide) (by decide) rfl q424 o1 ebb2 dX8_seek_108 ?_
      refine lv_iload_n hx hb dX8_seek_111 rfl (lv_at hl 1 rfl) ?_
      refine lv_iconst (v := 0) hx hb dX8_seek_112 (by decide) ?_
      have o4 := hw.1
      replace hw := hw.2
      have o5 := hw.1
      replace hw := hw.2
      refine rX_iast C hM o4 o5 dX8_seek_113 (fun h3 H locs eσ hM => ?_)
      replace hw := hw h3 eσ
      clear eσ
      exact rX_vret C hM ⟨Nat.le_refl _, Nat.le_refl _⟩ hw dX8_seek_114
    · replace hw := hw.2 hc
      refine lv_aload_n hx hb dX8_seek_71 rfl (lv_at hl 0 rfl) ?_
      have o6 := hw.1
      replace hw := hw.2
      obtain ⟨b7, ebb7, hw⟩ := hw
      refine rX_getRs C hM 7 2 rfl in_X8 (by decide) (by decide) rfl q424 o6 ebb7 dX8_seek_72 ?_
      refine lv_iload_n hx hb dX8_seek_75 rfl (lv_at hl 1 rfl) ?_
      refine lv_iload hx hb dX8_seek_76 (lv_at hl 4 rfl) ?_
      have o9 := hw.1
      replace hw := hw.2
      have o10 := hw.1
      replace hw := hw.2
      refine rX_iast C hM o9 o10 dX8_seek_78 (fun h8 H locs eσ hM => ?_)
      replace hw := hw h8 eσ
      clear eσ
      refine lv_aload_n hx hb dX8_seek_79 rfl (lv_at hl 0 rfl) ?_
      refine lv_iload_n hx hb dX8_seek_80 rfl (lv_at hl 1 rfl) ?_
      refine lv_iconst (v := 1) hx hb dX8_seek_81 (by decide) ?_
      refine lv_iadd hx hb dX8_seek_82 ?_
      refine lv_iload_n hx hb dX8_seek_83 rfl (lv_at hl 2 rfl) ?_
      refine lv_iload hx hb dX8_seek_84 (lv_at hl 4 rfl) ?_
      refine lv_isub hx hb dX8_seek_86 ?_
      refine lv_iload_n hx hb dX8_seek_87 rfl (lv_at hl 3 rfl) ?_
      refine lv_iload hx hb dX8_seek_88 (lv_at hl 4 rfl) ?_
      refine lv_aload_n hx hb dX8_seek_90 rfl (lv_at hl 0 rfl) ?_
      have o11 := hw.1
      replace hw := hw.2
      obtain ⟨b12, ebb12, hw⟩ := hw
      refine rX_getRs C hM 7 1 rfl in_X8 (by decide) (by decide) rfl q422 o11 ebb12 dX8_seek_91 ?_
      refine lv_iload_n hx hb dX8_seek_94 rfl (lv_at hl 1 rfl) ?_
      have o13 := hw.1
      replace hw := hw.2
      have o14 := hw.1
      replace hw := hw.2
      refine rX_iald C hM o13 o14 dX8_seek_95 ?_
      refine lv_imul hx hb dX8_seek_96 ?_
      refine lv_iadd hx hb dX8_seek_97 ?_
      have o16 := hw.1
      replace hw := hw.2
      refine rX_gov C hM (runX_V C hM hl.1 7 3 (As := [.int (v1 + 1), .int (v2 - v4), .int (v3 + (v4 * (hA h8 b12 v1)))]) rfl (by decide) o16 (hRK _ h8 a0 (v1 + 1) (v2 - v4) (v3 + (v4 * (hA h8 b12 v1))) _ hw) (lw_V q1353 q1355 qs43 q91 q1356) rfl rfl (by decide +kernel) ⟨by show _ ≤ _; simp [rm_X8_seek, headSpec]; try omega, by show _ ≤ _; simp [rm_X8_seek, headSpec]; try omega⟩ rfl (Nat.le_of_ble_eq_true rfl) rfl dX8_seek_98 ⟨Nat.le_refl _, Nat.le_refl _⟩) (fun h15 H locs hw hM => ?_)
      obtain ⟨x17, ex17⟩ : ∃ y : Int32, y = v4 + 1 := ⟨_, rfl⟩
      replace hw := hw x17 ex17
      refine lv_iinc (v := x17) (lv' := [(4, .int x17), (0, .ref a0), (1, .int v1), (2, .int v2), (3, .int v3)]) hx hb dX8_seek_101 hl (k := 4) rfl (by rw [ex17]; rfl) (by decide) rfl (fun ls hl => ?_)
      refine lv_goto (tgt := 65) hx hb dX8_seek_104 (by decide) ?_
      exact ih a0 v1 v2 v3 x17 h15 _ _ ls hw hM (lv_sub hl [1, 2, 3, 4, 0] rfl)
set_option maxHeartbeats 4000000 in
theorem wk_X8_seek_61 {p : Program} {l : Launch} {e : Env} {s : State} {m : MethodId} {args : Array Value} {below : List Frame} {meth : Method} {c : Code} {D : va_G} {dA : Nat → ClassId} {ev : Nat → Nat} {h0 : Hp} {sz : Nat} (C : CxM p s m meth c args (AX dA h0 sz) "LeastSolutions$Seeker" cX8_seek 5 none) {dd : Nat} {RK : Hp → Nat → Int32 → Int32 → Int32 → (Hp → Prop) → Prop} (hRK : ∀ (sz : Nat) (h : Hp) (a0 : Nat) (p1 : Int32) (p2 : Int32) (p3 : Int32) (Qr : Hp → Prop), RK h a0 p1 p2 p3 Qr → Met l yX8_seek (ws_ yX8_seek cX8_seek 5 none) (rm_X8_seek dd) (PcX D dA ev h sz [.ref a0, .int p1, .int p2, .int p3]) (va_Qv Qr (BX D dA (AX dA h sz)) (AX dA h sz)) 0 0 (AX dA h sz)) {Qr : Hp → Prop} : ∀ (a0 : Nat) (h : Hp) (H : Heap) (locs : List Loc) (ls : Array Slot), wp_X8_seek_61 ev RK Qr a0 h → wX D dA ev (AX dA h0 sz) s h H locs → lv_has ls 5 [(0, .ref a0)] → W p l e (rm_X8_seek (dd + 1)) s m args below meth c H locs 0 0 (MQ below (va_Qv Qr (BX D dA (AX dA h0 sz)) (AX dA h0 sz)) args s 0 0 (AX dA h0 sz)) (F0 m 61 ls []) := by
  intro a0 h H locs ls hw hM hl
  have hx := C.1
  have hb := C.2.1
  have hown := C.2.2.2.2.2.1
  have hts := C.2.2.2.2.2.2.1
  unfold wp_X8_seek_61 at hw
  exact rX_vret C hM ⟨Nat.le_refl _, Nat.le_refl _⟩ hw dX8_seek_61
set_option maxHeartbeats 4000000 in
theorem wk_X8_seek_36 {p : Program} {l : Launch} {e : Env} {s : State} {m : MethodId} {args : Array Value} {below : List Frame} {meth : Method} {c : Code} {D : va_G} {dA : Nat → ClassId} {ev : Nat → Nat} {h0 : Hp} {sz : Nat} (C : CxM p s m meth c args (AX dA h0 sz) "LeastSolutions$Seeker" cX8_seek 5 none) {dd : Nat} {RK : Hp → Nat → Int32 → Int32 → Int32 → (Hp → Prop) → Prop} (hRK : ∀ (sz : Nat) (h : Hp) (a0 : Nat) (p1 : Int32) (p2 : Int32) (p3 : Int32) (Qr : Hp → Prop), RK h a0 p1 p2 p3 Qr → Met l yX8_seek (ws_ yX8_seek cX8_seek 5 none) (rm_X8_seek dd) (PcX D dA ev h sz [.ref a0, .int p1, .int p2, .int p3]) (va_Qv Qr (BX D dA (AX dA h sz)) (AX dA h sz)) 0 0 (AX dA h sz)) {Qr : Hp → Prop} : ∀ (a0 : Nat) (v3 : Int32) (h : Hp) (H : Heap) (locs : List Loc) (ls : Array Slot), wp_X8_seek_36 ev RK Qr a0 v3 h → wX D dA ev (AX dA h0 sz) s h H locs → lv_has ls 5 [(0, .ref a0), (3, .int v3)] → W p l e (rm_X8_seek (dd + 1)) s m args below meth c H locs 0 0 (MQ below (va_Qv Qr (BX D dA (AX dA h0 sz)) (AX dA h0 sz)) args s 0 0 (AX dA h0 sz)) (F0 m 36 ls []) := by
  intro a0 v3 h H locs ls hw hM hl
  have hx := C.1
  have hb := C.2.1
  have hown := C.2.2.2.2.2.1
  have hts := C.2.2.2.2.2.2.1
  unfold wp_X8_seek_36 at hw
  refine lv_aload_n hx hb dX8_seek_36 rfl (lv_at hl 0 rfl) ?_
  refine lv_iconst (v := 1) hx hb dX8_seek_37 (by decide) ?_
  have o2 := hw.1
  replace hw := hw.2
  refine rX_putI C hM 7 5 rfl in_X8 (by decide) (by decide) rfl rfl q429 o2 tyX8 tyX8_ok nmX8 rfl (isB_n isB_1) (isB_f isB_1) dX8_seek_38 (fun h1 H locs eσ hM => ?_)
  replace hw := hw h1 eσ
  clear eσ
  refine lv_aload_n hx hb dX8_seek_41 rfl (lv_at hl 0 rfl) ?_
  refine lv_iload_n hx hb dX8_seek_42 rfl (lv_at hl 1 rfl) ?_
  have o4 := hw.1
  replace hw := hw.2
  refine rX_putI C hM 7 4 rfl in_X8 (by decide) (by decide) rfl rfl q427 o4 tyX8 tyX8_ok nmX8 rfl rfl rfl dX8_seek_43 (fun h3 H locs eσ hM => ?_)
  replace hw := hw h3 eσ
  clear eσ
  refine lv_aload_n hx hb dX8_seek_46 rfl (lv_at hl 0 rfl) ?_
  have o5 := hw.1
  replace hw := hw.2
  obtain ⟨b6, ebb6, hw⟩ := hw
  refine rX_getRs C hM 7 2 rfl in_X8 (by decide) (by decide) rfl q424 o5 ebb6 dX8_seek_47 ?_
  refine lv_iconst (v := 0) hx hb dX8_seek_50 (by decide) ?_
  refine lv_aload_n hx hb dX8_seek_51 rfl (lv_at hl 0 rfl) ?_
  have o7 := hw.1
  replace hw := hw.2
  obtain ⟨b8, ebb8, hw⟩ := hw
  refine rX_getRs C hM 7 3 rfl in_X8 (by decide) (by decide) rfl q425 o7 ebb8 dX8_seek_52 ?_
  refine lv_iconst (v := 0) hx hb dX8_seek_55 (by decide) ?_
  refine lv_bipush (v := 6) hx hb dX8_seek_56 (by decide) ?_
  have o10 := hw.1
  replace hw := hw.2
  have o11 := hw.1
  replace hw := hw.2
  have o12 := hw.1
  replace hw := hw.2
  refine rX_copyi C hM hl.1 q1367 q758 q757 q99 o10 o11 o12 (Nat.le_of_ble_eq_true rfl) (Nat.le_of_ble_eq_true rfl) dX8_seek_58 (fun h9 H locs eσ hM => ?_)
  replace hw := hw h9 eσ
  clear eσ
  exact wk_X8_seek_61 C hRK  a0 h9 _ _ ls hw hM (lv_sub hl [0] rfl)
set_option maxHeartbeats 4000000 in
/-- LeastSolutions$Seeker.seek(III)V -/
theorem mt_X8_seek (l : Launch) (D : va_G) (dA : Nat → ClassId) (ev : Nat → Nat) : ∀ (d : Nat) (sz : Nat) (h : Hp) (a0 : Nat) (p1 : Int32) (p2 : Int32) (p3 : Int32) (Qr : Hp → Prop), wp_X8_seek ev d h a0 p1 p2 p3 Qr → Met l yX8_seek (ws_ yX8_seek cX8_seek 5 none) (rm_X8_seek d) (PcX D dA ev h sz [.ref a0, .int p1, .int p2, .int p3]) (va_Qv Qr (BX D dA (AX dA h sz)) (AX dA h sz)) 0 0 (AX dA h sz) := by
  intro d
  induction d with
  | zero => intro sz h a0 p1 p2 p3 Qr hw; exact hw.elim
  | succ dd hRK =>
  intro sz h a0 p1 p2 p3 Qr hw
  refine Met.ofW (cc := cX8_seek) (maxL := 5) (ret := none) (by decide) rfl ?_
  intro p e s m args below meth c s₁ B hml hv
  obtain ⟨rfl, hsz, hP, hK, hD0, hE⟩ := hv
  subst hsz
  have hts0 := atoms_spec (ws := ws_ yX8_seek cX8_seek 5 none) B.pre
  have C : CxM p s m meth c _ (AX dA h s.heap.size) "LeastSolutions$Seeker" cX8_seek 5 none := ⟨B.exec, B.bytes, B.returns, B.notSynchronized, hml, findClass_of_methodNamed B.named, fun w h => hts0 w (List.mem_cons_of_mem _ h), fun q h => Or.inr h⟩
  have hM : wX D dA ev (AX dA h s.heap.size) s h s.heap [] := ⟨hK, hP, hD0.self, va_S.rf, hE⟩
  have hx := C.1
  have hb := C.2.1
  have hown := C.2.2.2.2.2.1
  have hts := C.2.2.2.2.2.2.1
  have hl := lv_entry ([.ref a0, .int p1, .int p2, .int p3]) (n := 5) (Nat.le_of_ble_eq_true rfl)
  rw [lg_entry_eq]
  generalize (lg_sl ([.ref a0, .int p1, .int p2, .int p3]) ++ List.replicate (5 - (lg_sl ([.ref a0, .int p1, .int p2, .int p3])).length) Slot.unset).toArray = ls at hl ⊢
  have hl : lv_has ls 5 [(0, .ref a0), (1, .int p1), (2, .int p2), (3, .int p3)] := hl
  unfold wp_X8_seek at hw
  refine lv_aload_n hx hb dX8_seek_0 rfl (lv_at hl 0 rfl) ?_
  refine lv_iload_n hx hb dX8_seek_1 rfl (lv_at hl 1 rfl) ?_
  refine lv_iload_n hx hb dX8_seek_2 rfl (lv_at hl 2 rfl) ?_
  have o3 := hw.1
  replace hw := hw.2
  refine rX_goi C hM (runX_V C hM hl.1 7 2 (As := [.int p1, .int p2]) rfl (by decide) o3 (mt_X8_canCome l D dA ev _ h a0 p1 p2  _ hw) (lw_V q1357 q1359 qs44 q91 q1360) rfl rfl (by decide +kernel) ⟨by show _ ≤ _; simp [rm_X8_seek, headSpec]; try omega, by show _ ≤ _; simp [rm_X8_seek, headSpec]; try omega⟩ rfl (Nat.le_of_ble_eq_true rfl) rfl dX8_seek_3 ⟨Nat.le_refl _, Nat.le_refl _⟩) (fun x2 h1 H locs hw hM => ?_)
  refine lv_if_ne (tgt := 10) hx hb dX8_seek_6 (by decide) (fun hc => ?_) (fun hc => ?_)
  · replace hw := hw.1 hc
    refine lv_iload_n hx hb dX8_seek_10 rfl (lv_at hl 1 rfl) ?_
    refine lv_aload_n hx hb dX8_seek_11 rfl (lv_at hl 0 rfl) ?_
    have o4 := hw.1
    replace hw := hw.2
    obtain ⟨b5, ebb5, hw⟩ := hw
    refine rX_getRs C hM 7 0 rfl in_X8 (by decide) (by decide) rfl q421 o4 ebb5 dX8_seek_12 ?_
    have o6 := hw.1
    replace hw := hw.2
    refine rX_getIN C hM 3 1 rfl in_X4 (by decide) (by decide) rfl q275 o6 dX8_seek_15 ?_
    refine lv_icmp_ne (tgt := 62) hx hb dX8_seek_18 (by decide) (fun hc => ?_) (fun hc => ?_)
    · replace hw := hw.1 hc
      refine lv_iconst (v := 0) hx hb dX8_seek_62 (by decide) ?_
      refine lv_istore (lv' := [(4, .int 0), (0, .ref a0), (1, .int p1), (2, .int p2), (3, .int p3)]) hx hb dX8_seek_63 hl (by decide) rfl (fun ls hl => ?_)
      obtain ⟨n65, hw⟩ := hw
      exact wk_X8_seek_65 C hRK  n65 a0 p1 p2 p3 0 h1 _ _ ls hw hM (lv_sub hl [1, 2, 3, 4, 0] rfl)
    · replace hw := hw.2 hc
      refine lv_aload_n hx hb dX8_seek_21 rfl (lv_at hl 0 rfl) ?_
      have o7 := hw.1
      replace hw := hw.2
      refine rX_getI C hM 7 5 rfl in_X8 (by decide) (by decide) rfl q429 o7 dX8_seek_22 ?_
      refine lv_if_eq (tgt := 36) hx hb dX8_seek_25 (by decide) (fun hc => ?_) (fun hc => ?_)
      · replace hw := hw.1 hc
        exact wk_X8_seek_36 C hRK  a0 p3 h1 _ _ ls hw hM (lv_sub hl [0, 3] rfl)
      · replace hw := hw.2 hc
        refine lv_iload_n hx hb dX8_seek_28 rfl (lv_at hl 3 rfl) ?_
        refine lv_aload_n hx hb dX8_seek_29 rfl (lv_at hl 0 rfl) ?_
        have o8 := hw.1
        replace hw := hw.2
        refine rX_getI C hM 7 4 rfl in_X8 (by decide) (by decide) rfl q427 o8 dX8_seek_30 ?_
        refine lv_icmp_ge (tgt := 61) hx hb dX8_seek_33 (by decide) (fun hc => ?_) (fun hc => ?_)
        · replace hw := hw.1 hc
          exact wk_X8_seek_61 C hRK  a0 h1 _ _ ls hw hM (lv_sub hl [0] rfl)
        · replace hw := hw.2 hc
          exact wk_X8_seek_36 C hRK  a0 p3 h1 _ _ ls hw hM (lv_sub hl [0, 3] rfl)
  · replace hw := hw.2 hc
    exact rX_vret C hM ⟨Nat.le_refl _, Nat.le_refl _⟩ hw dX8_seek_9
abbrev rm_X8_work : Room := { frames := 11, cells := 0, slots := 0, locals := 276 }
set_option maxHeartbeats 4000000 in
/-- LeastSolutions$Seeker.work(LLeastSolutions$Model;I)Z -/
theorem mt_X8_work (l : Launch) (D : va_G) (dA : Nat → ClassId) (ev : Nat → Nat) (sz : Nat) (h : Hp) (a0 : Nat) (p1 : Nat) (p2 : Int32) (Qr : Int32 → Hp → Prop) (hw : wp_X8_work ev h a0 p1 p2 Qr) : Met l yX8_work (ws_ yX8_work cX8_work 3 (some .boolean)) rm_X8_work (PcX D dA ev h sz [.ref a0, .ref p1, .int p2]) (va_Qi Qr (BX D dA (AX dA h sz)) (AX dA h sz)) 0 0 (AX dA h sz) := by
  refine Met.ofW (cc := cX8_work) (maxL := 3) (ret := (some .boolean)) (by decide) rfl ?_
  intro p e s m args below meth c s₁ B hml hv
  obtain ⟨rfl, hsz, hP, hK, hD0, hE⟩ := hv
  subst hsz
  have hts0 := atoms_spec (ws := ws_ yX8_work cX8_work 3 (some .boolean)) B.pre
  have C : CxM p s m meth c _ (AX dA h s.heap.size) "LeastSolutions$Seeker" cX8_work 3 (some .boolean) := ⟨B.exec, B.bytes, B.returns, B.notSynchronized, hml, findClass_of_methodNamed B.named, fun w h => hts0 w (List.mem_cons_of_mem _ h), fun q h => Or.inr h⟩
  have hM : wX D dA ev (AX dA h s.heap.size) s h s.heap [] := ⟨hK, hP, hD0.self, va_S.rf, hE⟩
  have hx := C.1
  have hb := C.2.1
  have hown := C.2.2.2.2.2.1
  have hts := C.2.2.2.2.2.2.1
  have hl := lv_entry ([.ref a0, .ref p1, .int p2]) (n := 3) (Nat.le_of_ble_eq_true rfl)
  rw [lg_entry_eq]
  generalize (lg_sl ([.ref a0, .ref p1, .int p2]) ++ List.replicate (3 - (lg_sl ([.ref a0, .ref p1, .int p2])).length) Slot.unset).toArray = ls at hl ⊢
  have hl : lv_has ls 3 [(0, .ref a0), (1, .ref p1), (2, .int p2)] := hl
  unfold wp_X8_work at hw
  refine lv_aload_n hx hb dX8_work_0 rfl (lv_at hl 0 rfl) ?_
  refine lv_aload_n hx hb dX8_work_1 rfl (lv_at hl 1 rfl) ?_
  have o2 := hw.1
  replace hw := hw.2
  refine rX_putR C hM 7 0 rfl in_X8 (by decide) (by decide) rfl rfl q421 o2 (x := (some p1)) tyX8 tyX8_ok nmX8 rfl rfl rfl dX8_work_2 (fun h1 H locs eσ hM => ?_)
  replace hw := hw h1 eσ
  clear eσ
  refine lv_aload_n hx hb dX8_work_5 rfl (lv_at hl 0 rfl) ?_
  refine lv_iconst (v := 0) hx hb dX8_work_6 (by decide) ?_
  have o4 := hw.1
  replace hw := hw.2
  refine rX_putI C hM 7 5 rfl in_X8 (by decide) (by decide) rfl rfl q429 o4 tyX8 tyX8_ok nmX8 rfl (isB_n isB_0) (isB_f isB_0) dX8_work_7 (fun h3 H locs eσ hM => ?_)
  replace hw := hw h3 eσ
  clear eσ
  refine lv_aload_n hx hb dX8_work_10 rfl (lv_at hl 0 rfl) ?_
  refine lv_iconst (v := 0) hx hb dX8_work_11 (by decide) ?_
  refine lv_iload_n hx hb dX8_work_12 rfl (lv_at hl 2 rfl) ?_
  refine lv_iconst (v := 0) hx hb dX8_work_13 (by decide) ?_
  have o6 := hw.1
  replace hw := hw.2
  refine rX_gov C hM (runX_V C hM hl.1 7 3 (As := [.int 0, .int p2, .int 0]) rfl (by decide) o6 (mt_X8_seek l D dA ev 8 _ h3 a0 0 p2 0 _ hw) (lw_V q1353 q1355 qs43 q91 q1356) rfl rfl (by decide +kernel) ⟨Nat.le_of_ble_eq_true rfl, Nat.le_of_ble_eq_true rfl⟩ rfl (Nat.le_of_ble_eq_true rfl) rfl dX8_work_14 ⟨Nat.le_refl _, Nat.le_refl _⟩) (fun h5 H locs hw hM => ?_)
  refine lv_aload_n hx hb dX8_work_17 rfl (lv_at hl 0 rfl) ?_
  have o7 := hw.1
  replace hw := hw.2
  refine rX_getI C hM 7 5 rfl in_X8 (by decide) (by decide) rfl q429 o7 dX8_work_18 ?_
  exact rX_zret C hM ⟨Nat.le_refl _, Nat.le_refl _⟩ hw dX8_work_21
abbrev rm_X1_keep (MC MS : Nat) : Room := { frames := 7, cells := MC, slots := MS, locals := 195 }
set_option maxHeartbeats 4000000 in
theorem wk_X1_keep_23 {p : Program} {l : Launch} {e : Env} {s : State} {m : MethodId} {args : Array Value} {below : List Frame} {meth : Method} {c : Code} {D : va_G} {dA : Nat → ClassId} {ev : Nat → Nat} {h0 : Hp} {sz : Nat} {MC MS : Nat} (C : CxM p s m meth c args (AX dA h0 sz) "LeastSolutions" cX1_keep 4 none) {Qr : Hp → Prop} : ∀ (v0 : Nat) (v1 : Nat) (v2 : Int32) (u0 : Option Nat) (h : Hp) (mc ms : Nat) (cells slots : Nat) (H : Heap) (locs : List Loc) (ls : Array Slot), wp_X1_keep_23 ev Qr v0 v1 v2 u0 h mc ms → wX D dA ev (AX dA h0 sz) s h H locs → cells + mc ≤ MC ∧ slots + ms ≤ MS → lv_has ls 4 [(0, .ref v0), (1, .ref v1), (2, .int v2)] → W p l e (rm_X1_keep MC MS) s m args below meth c H locs cells slots (MQ below (va_Qv Qr (BX D dA (AX dA h0 sz)) (AX dA h0 sz)) args s MC MS (AX dA h0 sz)) (F0 m 23 ls [va_rf u0]) := by
  intro v0 v1 v2 u0 h mc ms cells slots H locs ls hw hM hbud hl
  have hx := C.1
  have hb := C.2.1
  have hown := C.2.2.2.2.2.1
  have hts := C.2.2.2.2.2.2.1
  unfold wp_X1_keep_23 at hw
  refine lv_astore_nQ (lv' := [(3, va_rf u0), (0, .ref v0), (1, .ref v1), (2, .int v2)]) hx hb dX1_keep_23 rfl hl (by decide) rfl (fun ls hl => ?_)
  refine lv_aload_nQ hx hb dX1_keep_24 rfl (lv_at hl 0 rfl) ?_
  refine lv_aload_n hx hb dX1_keep_25 rfl (lv_at hl 2 rfl) ?_
  refine lv_iload_n hx hb dX1_keep_26 rfl (lv_at hl 3 rfl) ?_
  obtain ⟨b1, eb, hw⟩ := hw
  subst eb
  have o3 := hw.1
  replace hw := hw.2
  refine rX_gov C hM (runX_V C hM hl.1 10 2 (As := [.ref v1, .int v2]) rfl (by decide) o3 (mt_X11_be l D dA ev _ h b1 v1 v2  _ hw) (lw_V q1006 q1007 q1008 q104 q1009) rfl rfl (by decide +kernel) ⟨Nat.le_of_ble_eq_true rfl, Nat.le_of_ble_eq_true rfl⟩ rfl (Nat.le_of_ble_eq_true rfl) rfl dX1_keep_27 ⟨by show cells + 0 ≤ MC; omega, by show slots + 0 ≤ MS; omega⟩) (fun h2 H locs hw hM => ?_)
  refine lv_aload_n hx hb dX1_keep_30 rfl (lv_at hl 1 rfl) ?_
  refine lv_aload_n hx hb dX1_keep_31 rfl (lv_at hl 0 rfl) ?_
  obtain ⟨c4, d5, mc6, ms7, emc6, ems7, hw⟩ := hw
  have o9 := hw.1
  replace hw := hw.2
  refine rX_gov C hM (runX_V C hM hl.1 6 1 (As := [.ref b1]) rfl (by decide) o9 (mt_X7_put l D dA ev _ h2 v0 b1  c4 d5 _ hw) (lw_V q1010 q1011 q1012 q87 q1013) rfl rfl (by decide +kernel) ⟨Nat.le_of_ble_eq_true rfl, Nat.le_of_ble_eq_true rfl⟩ rfl (Nat.le_of_ble_eq_true rfl) rfl dX1_keep_32 ⟨by show cells + c4 ≤ MC; omega, by show slots + d5 ≤ MS; omega⟩) (fun h8 H locs hw hM => ?_)
  have hbud : cells + c4 + mc6 ≤ MC ∧ slots + d5 + ms7 ≤ MS := ⟨by omega, by omega⟩
  exact rX_vret C hM ⟨by show cells + c4 ≤ MC; omega, by show slots + d5 ≤ MS; omega⟩ hw dX1_keep_35
set_option maxHeartbeats 4000000 in
/-- LeastSolutions.keep(LLeastSolutions$Shelf;[II)V -/
theorem mt_X1_keep (l : Launch) (D : va_G) (dA : Nat → ClassId) (ev : Nat → Nat) (sz : Nat) (h : Hp) (p0 : Nat) (p1 : Nat) (p2 : Int32) (MC MS : Nat) (Qr : Hp → Prop) (hw : wp_X1_keep ev h p0 p1 p2 MC MS Qr) : Met l yX1_keep (ws_ yX1_keep cX1_keep 4 none) (rm_X1_keep MC MS) (PcX D dA ev h sz [.ref p0, .ref p1, .int p2]) (va_Qv Qr (BX D dA (AX dA h sz)) (AX dA h sz)) MC MS (AX dA h sz) := by
  refine Met.ofW (cc := cX1_keep) (maxL := 4) (ret := none) (by decide) rfl ?_
  intro p e s m args below meth c s₁ B hml hv
  obtain ⟨rfl, hsz, hP, hK, hD0, hE⟩ := hv
  subst hsz
  have hts0 := atoms_spec (ws := ws_ yX1_keep cX1_keep 4 none) B.pre
  have C : CxM p s m meth c _ (AX dA h s.heap.size) "LeastSolutions" cX1_keep 4 none := ⟨B.exec, B.bytes, B.returns, B.notSynchronized, hml, findClass_of_methodNamed B.named, fun w h => hts0 w (List.mem_cons_of_mem _ h), fun q h => Or.inr h⟩
  have hM : wX D dA ev (AX dA h s.heap.size) s h s.heap [] := ⟨hK, hP, hD0.self, va_S.rf, hE⟩
  have hx := C.1
  have hb := C.2.1
  have hown := C.2.2.2.2.2.1
  have hts := C.2.2.2.2.2.2.1
  have hl := lv_entry ([.ref p0, .ref p1, .int p2]) (n := 4) (Nat.le_of_ble_eq_true rfl)
  rw [lg_entry_eq]
  generalize (lg_sl ([.ref p0, .ref p1, .int p2]) ++ List.replicate (4 - (lg_sl ([.ref p0, .ref p1, .int p2])).length) Slot.unset).toArray = ls at hl ⊢
  have hl : lv_has ls 4 [(0, .ref p0), (1, .ref p1), (2, .int p2)] := hl
  have hbud : 0 + MC ≤ MC ∧ 0 + MS ≤ MS := ⟨by omega, by omega⟩
  unfold wp_X1_keep at hw
  refine lv_aload_n hx hb dX1_keep_0 rfl (lv_at hl 0 rfl) ?_
  have o3 := hw.1
  replace hw := hw.2
  refine rX_goq C hM (runX_V C hM hl.1 6 0 (As := []) rfl (by decide) o3 (mt_X7_spare l D dA ev _ h p0  _ hw) (lw_V q976 q977 q978 q87 q979) rfl rfl (by decide +kernel) ⟨Nat.le_of_ble_eq_true rfl, Nat.le_of_ble_eq_true rfl⟩ rfl (Nat.le_of_ble_eq_true rfl) rfl dX1_keep_1 ⟨by show 0 + 0 ≤ MC; omega, by show 0 + 0 ≤ MS; omega⟩) (fun r2 h1 H locs hw hM => ?_)
  have o4 := hw.1
  replace hw := hw.2
  refine rX_castS (r := r2) C hM 10 rfl (by decide) q813 o4 dX1_keep_4 ?_
  refine lv_astore_nQ (lv' := [(3, va_rf r2), (0, .ref p0), (1, .ref p1), (2, .int p2)]) hx hb dX1_keep_7 rfl hl (by decide) rfl (fun ls hl => ?_)
  refine lv_aload_nQ hx hb dX1_keep_8 rfl (lv_at hl 0 rfl) ?_
  refine rX_ifnonnull (tgt := 22) C dX1_keep_9 (by decide) (fun b5 hc => ?_) (fun hc => ?_)
  · replace hw := hw.1 b5 hc
    subst hc
    refine lv_aload_n hx hb dX1_keep_22 rfl (lv_at hl 0 rfl) ?_
    exact wk_X1_keep_23 C  p0 p1 p2 (some b5) h1 MC MS _ _ _ _ ls hw hM hbud (lv_sub hl [1, 2, 3] rfl)
  · replace hw := hw.2 hc
    subst hc
    obtain ⟨mc6, ms7, emc6, ems7, hw⟩ := hw
    refine rX_new C hM 10 rfl in_X11 (by decide) tyX11 tyX11_ok q813 q993 q104 (fun j hj => by match j, hj with | 0, _ => rfl | 1, _ => rfl) (by show 0 + 1 ≤ MC; omega) (by show 0 + 2 ≤ MS; omega) dX1_keep_12 (fun q8 h9 H hqq8 eσ hM => ?_)
    replace hw := hw q8 hqq8 h9 eσ
    clear eσ
    have hbud : 0 + 1 + mc6 ≤ MC ∧ 0 + 2 + ms7 ≤ MS := ⟨by omega, by omega⟩
    refine lv_dup hx hb dX1_keep_15 rfl ?_
    obtain ⟨c10, d11, mc12, ms13, emc12, ems13, hw⟩ := hw
    refine rX_gov C hM (runX_IN C hM hl.1 0 (As := []) (mt_X11_init l D dA ev _ h9 q8  c10 d11 _ hw) q996 q104 q994 q995 rfl rfl rfl (by decide +kernel) ⟨Nat.le_of_ble_eq_true rfl, Nat.le_of_ble_eq_true rfl⟩ rfl (Nat.le_of_ble_eq_true rfl) rfl dX1_keep_16 ⟨by show 0 + 1 + c10 ≤ MC; omega, by show 0 + 2 + d11 ≤ MS; omega⟩) (fun h14 H locs hw hM => ?_)
    have hbud : 0 + 1 + c10 + mc12 ≤ MC ∧ 0 + 2 + d11 + ms13 ≤ MS := ⟨by omega, by omega⟩
    refine lv_goto (tgt := 23) hx hb dX1_keep_19 (by decide) ?_
    exact wk_X1_keep_23 C  p0 p1 p2 (some q8) h14 mc12 ms13 _ _ _ _ ls hw hM hbud (lv_sub hl [1, 2, 3] rfl)
abbrev rm_X6_look (MC MS : Nat) : Room := { frames := 8, cells := MC, slots := MS, locals := 218 }
set_option maxHeartbeats 4000000 in
theorem wk_X6_look_24 {p : Program} {l : Launch} {e : Env} {s : State} {m : MethodId} {args : Array Value} {below : List Frame} {meth : Method} {c : Code} {D : va_G} {dA : Nat → ClassId} {ev : Nat → Nat} {h0 : Hp} {sz : Nat} {MC MS : Nat} (C : CxM p s m meth c args (AX dA h0 sz) "LeastSolutions$Grower" cX6_look 3 none) {Qr : Hp → Prop} : ∀ (a0 : Nat) (h : Hp) (mc ms : Nat) (cells slots : Nat) (H : Heap) (locs : List Loc) (ls : Array Slot), wp_X6_look_24 ev Qr a0 h mc ms → wX D dA ev (AX dA h0 sz) s h H locs → cells + mc ≤ MC ∧ slots + ms ≤ MS → lv_has ls 3 [(0, .ref a0)] → W p l e (rm_X6_look MC MS) s m args below meth c H locs cells slots (MQ below (va_Qv Qr (BX D dA (AX dA h0 sz)) (AX dA h0 sz)) args s MC MS (AX dA h0 sz)) (F0 m 24 ls []) := by
  intro a0 h mc ms cells slots H locs ls hw hM hbud hl
  have hx := C.1
  have hb := C.2.1
  have hown := C.2.2.2.2.2.1
  have hts := C.2.2.2.2.2.2.1
  unfold wp_X6_look_24 at hw
  exact rX_vret C hM ⟨by show cells ≤ MC; omega, by show slots ≤ MS; omega⟩ hw dX6_look_24
set_option maxHeartbeats 4000000 in
/-- LeastSolutions$Grower.look(IZ)V -/
theorem mt_X6_look (l : Launch) (D : va_G) (dA : Nat → ClassId) (ev : Nat → Nat) (sz : Nat) (h : Hp) (a0 : Nat) (p1 : Int32) (p2 : Int32) (MC MS : Nat) (Qr : Hp → Prop) (hw : wp_X6_look ev h a0 p1 p2 MC MS Qr) : Met l yX6_look (ws_ yX6_look cX6_look 3 none) (rm_X6_look MC MS) (PcX D dA ev h sz [.ref a0, .int p1, .int p2]) (va_Qv Qr (BX D dA (AX dA h sz)) (AX dA h sz)) MC MS (AX dA h sz) := by
  refine Met.ofW (cc := cX6_look) (maxL := 3) (ret := none) (by decide) rfl ?_
  intro p e s m args below meth c s₁ B hml hv
  obtain ⟨rfl, hsz, hP, hK, hD0, hE⟩ := hv
  subst hsz
  have hts0 := atoms_spec (ws := ws_ yX6_look cX6_look 3 none) B.pre
  have C : CxM p s m meth c _ (AX dA h s.heap.size) "LeastSolutions$Grower" cX6_look 3 none := ⟨B.exec, B.bytes, B.returns, B.notSynchronized, hml, findClass_of_methodNamed B.named, fun w h => hts0 w (List.mem_cons_of_mem _ h), fun q h => Or.inr h⟩
  have hM : wX D dA ev (AX dA h s.heap.size) s h s.heap [] := ⟨hK, hP, hD0.self, va_S.rf, hE⟩
  have hx := C.1
  have hb := C.2.1
  have hown := C.2.2.2.2.2.1
  have hts := C.2.2.2.2.2.2.1
  have hl := lv_entry ([.ref a0, .int p1, .int p2]) (n := 3) (Nat.le_of_ble_eq_true rfl)
  rw [lg_entry_eq]
  generalize (lg_sl ([.ref a0, .int p1, .int p2]) ++ List.replicate (3 - (lg_sl ([.ref a0, .int p1, .int p2])).length) Slot.unset).toArray = ls at hl ⊢
  have hl : lv_has ls 3 [(0, .ref a0), (1, .int p1), (2, .int p2)] := hl
  have hbud : 0 + MC ≤ MC ∧ 0 + MS ≤ MS := ⟨by omega, by omega⟩
  unfold wp_X6_look at hw
  refine lv_aload_n hx hb dX6_look_0 rfl (lv_at hl 0 rfl) ?_
  refine lv_iload_n hx hb dX6_look_1 rfl (lv_at hl 1 rfl) ?_
  have o2 := hw.1
  replace hw := hw.2
  refine rX_gov C hM (runX_V C hM hl.1 5 1 (As := [.int p1]) rfl (by decide) o2 (mt_X6_take l D dA ev _ h a0 p1  _ hw) (lw_V q957 q959 qs32 q86 q960) rfl rfl (by decide +kernel) ⟨Nat.le_of_ble_eq_true rfl, Nat.le_of_ble_eq_true rfl⟩ rfl (Nat.le_of_ble_eq_true rfl) rfl dX6_look_2 ⟨by show 0 + 0 ≤ MC; omega, by show 0 + 0 ≤ MS; omega⟩) (fun h1 H locs hw hM => ?_)
  refine lv_aload_n hx hb dX6_look_5 rfl (lv_at hl 0 rfl) ?_
  refine lv_iload_n hx hb dX6_look_6 rfl (lv_at hl 2 rfl) ?_
  have o5 := hw.1
  replace hw := hw.2
  refine rX_goi C hM (runX_V C hM hl.1 5 1 (As := [.int p2]) rfl (by decide) o5 (mt_X6_make l D dA ev _ h1 a0 p2  _ hw) (lw_V q961 q963 qs33 q86 q964) rfl rfl (by decide +kernel) ⟨Nat.le_of_ble_eq_true rfl, Nat.le_of_ble_eq_true rfl⟩ rfl (Nat.le_of_ble_eq_true rfl) rfl dX6_look_7 ⟨by show 0 + 0 ≤ MC; omega, by show 0 + 0 ≤ MS; omega⟩) (fun x4 h3 H locs hw hM => ?_)
  refine lv_if_eq (tgt := 24) hx hb dX6_look_10 (by decide) (fun hc => ?_) (fun hc => ?_)
  · replace hw := hw.1 hc
    exact wk_X6_look_24 C  a0 h3 MC MS _ _ _ _ ls hw hM hbud (lv_sub hl [0] rfl)
  · replace hw := hw.2 hc
    refine lv_aload_n hx hb dX6_look_13 rfl (lv_at hl 0 rfl) ?_
    refine lv_aload_n hx hb dX6_look_14 rfl (lv_at hl 0 rfl) ?_
    have o6 := hw.1
    replace hw := hw.2
    obtain ⟨b7, ebb7, hw⟩ := hw
    refine rX_getRs C hM 5 2 rfl in_X6 (by decide) (by decide) rfl q382 o6 ebb7 dX6_look_15 ?_
    have o10 := hw.1
    replace hw := hw.2
    refine rX_goi C hM (runX_V C hM hl.1 5 1 (As := [.ref b7]) rfl (by decide) o10 (mt_X6_hasBelow l D dA ev _ h3 a0 b7  _ hw) (lw_V q965 q967 qs34 q86 q968) rfl rfl (by decide +kernel) ⟨Nat.le_of_ble_eq_true rfl, Nat.le_of_ble_eq_true rfl⟩ rfl (Nat.le_of_ble_eq_true rfl) rfl dX6_look_18 ⟨by show 0 + 0 ≤ MC; omega, by show 0 + 0 ≤ MS; omega⟩) (fun x9 h8 H locs hw hM => ?_)
    refine lv_if_eq (tgt := 25) hx hb dX6_look_21 (by decide) (fun hc => ?_) (fun hc => ?_)
    · replace hw := hw.1 hc
      refine lv_aload_n hx hb dX6_look_25 rfl (lv_at hl 0 rfl) ?_
      have o11 := hw.1
      replace hw := hw.2
      obtain ⟨b12, ebb12, hw⟩ := hw
      refine rX_getRs C hM 5 2 rfl in_X6 (by decide) (by decide) rfl q382 o11 ebb12 dX6_look_26 ?_
      have o15 := hw.1
      replace hw := hw.2
      refine rX_goi C hM (runX_V C hM hl.1 6 0 (As := []) rfl (by decide) o15 (mt_X7_size l D dA ev _ h8 b12  _ hw) (lw_V q969 q822 q823 q87 q824) rfl rfl (by decide +kernel) ⟨Nat.le_of_ble_eq_true rfl, Nat.le_of_ble_eq_true rfl⟩ rfl (Nat.le_of_ble_eq_true rfl) rfl dX6_look_29 ⟨by show 0 + 0 ≤ MC; omega, by show 0 + 0 ≤ MS; omega⟩) (fun x14 h13 H locs hw hM => ?_)
      refine lv_sipush (v := 2000) hx hb dX6_look_32 (by decide) ?_
      refine lv_icmp_ne (tgt := 44) hx hb dX6_look_35 (by decide) (fun hc => ?_) (fun hc => ?_)
      · replace hw := hw.1 hc
        refine lv_aload_n hx hb dX6_look_44 rfl (lv_at hl 0 rfl) ?_
        have o16 := hw.1
        replace hw := hw.2
        obtain ⟨b17, ebb17, hw⟩ := hw
        refine rX_getRs C hM 5 2 rfl in_X6 (by decide) (by decide) rfl q382 o16 ebb17 dX6_look_45 ?_
        refine lv_aload_n hx hb dX6_look_48 rfl (lv_at hl 0 rfl) ?_
        have o18 := hw.1
        replace hw := hw.2
        obtain ⟨b19, ebb19, hw⟩ := hw
        refine rX_getRs C hM 5 7 rfl in_X6 (by decide) (by decide) rfl q388 o18 ebb19 dX6_look_49 ?_
        refine lv_iconst (v := 0) hx hb dX6_look_52 (by decide) ?_
        obtain ⟨c20, d21, mc22, ms23, emc22, ems23, hw⟩ := hw
        refine rX_gov C hM (runX_SN C hM hl.1 3 (As := [.ref b17, .ref b19, .int 0]) (mt_X1_keep l D dA ev _ h13 b17 b19 0  c20 d21 _ hw) q975 q973 q974 q75 rfl rfl (by decide +kernel) ⟨Nat.le_of_ble_eq_true rfl, Nat.le_of_ble_eq_true rfl⟩ rfl (Nat.le_of_ble_eq_true rfl) rfl dX6_look_53 ⟨by show 0 + c20 ≤ MC; omega, by show 0 + d21 ≤ MS; omega⟩) (fun h24 H locs hw hM => ?_)
        have hbud : 0 + c20 + mc22 ≤ MC ∧ 0 + d21 + ms23 ≤ MS := ⟨by omega, by omega⟩
        exact rX_vret C hM ⟨by show 0 + c20 ≤ MC; omega, by show 0 + d21 ≤ MS; omega⟩ hw dX6_look_56
      · replace hw := hw.2 hc
        refine lv_aload_n hx hb dX6_look_38 rfl (lv_at hl 0 rfl) ?_
        refine lv_iconst (v := 1) hx hb dX6_look_39 (by decide) ?_
        have o26 := hw.1
        replace hw := hw.2
        refine rX_putI C hM 5 10 rfl in_X6 (by decide) (by decide) rfl rfl q391 o26 tyX6 tyX6_ok nmX6 rfl (isB_n isB_1) (isB_f isB_1) dX6_look_40 (fun h25 H locs eσ hM => ?_)
        replace hw := hw h25 eσ
        clear eσ
        exact rX_vret C hM ⟨by show 0 ≤ MC; omega, by show 0 ≤ MS; omega⟩ hw dX6_look_43
    · replace hw := hw.2 hc
      exact wk_X6_look_24 C  a0 h8 MC MS _ _ _ _ ls hw hM hbud (lv_sub hl [0] rfl)
abbrev rm_X6_spread (MC MS : Nat) : Room := { frames := 5, cells := MC, slots := MS, locals := 108 }
set_option maxHeartbeats 4000000 in
theorem wk_X6_spread_123 {p : Program} {l : Launch} {e : Env} {s : State} {m : MethodId} {args : Array Value} {below : List Frame} {meth : Method} {c : Code} {D : va_G} {dA : Nat → ClassId} {ev : Nat → Nat} {h0 : Hp} {sz : Nat} {MC MS : Nat} (C : CxM p s m meth c args (AX dA h0 sz) "LeastSolutions$Grower" cX6_spread 6 none) {Qr : Hp → Prop} {K13 : Nat → Int32 → Int32 → Int32 → Int32 → Hp → Nat → Nat → Prop} (hK13 : ∀ (a0 : Nat) (v1 : Int32) (v2 : Int32) (v3 : Int32) (v4 : Int32) (h : Hp) (mc ms : Nat) (cells slots : Nat) (H : Heap) (locs : List Loc) (ls : Array Slot), K13 a0 v1 v2 v3 v4 h mc ms → wX D dA ev (AX dA h0 sz) s h H locs → cells + mc ≤ MC ∧ slots + ms ≤ MS → lv_has ls 6 [(0, .ref a0), (1, .int v1), (2, .int v2), (3, .int v3), (4, .int v4)] → W p l e (rm_X6_spread MC MS) s m args below meth c H locs cells slots (MQ below (va_Qv Qr (BX D dA (AX dA h0 sz)) (AX dA h0 sz)) args s MC MS (AX dA h0 sz)) (F0 m 13 ls [])) : ∀ (a0 : Nat) (v1 : Int32) (v2 : Int32) (v3 : Int32) (v4 : Int32) (h : Hp) (mc ms : Nat) (cells slots : Nat) (H : Heap) (locs : List Loc) (ls : Array Slot), wp_X6_spread_123 ev Qr K13 a0 v1 v2 v3 v4 h mc ms → wX D dA ev (AX dA h0 sz) s h H locs → cells + mc ≤ MC ∧ slots + ms ≤ MS → lv_has ls 6 [(0, .ref a0), (1, .int v1), (2, .int v2), (3, .int v3), (4, .int v4)] → W p l e (rm_X6_spread MC MS) s m args below meth c H locs cells slots (MQ below (va_Qv Qr (BX D dA (AX dA h0 sz)) (AX dA h0 sz)) args s MC MS (AX dA h0 sz)) (F0 m 123 ls []) := by
  intro a0 v1 v2 v3 v4 h mc ms cells slots H locs ls hw hM hbud hl
  have hx := C.1
  have hb := C.2.1
  have hown := C.2.2.2.2.2.1
  have hts := C.2.2.2.2.2.2.1
  unfold wp_X6_spread_123 at hw
  obtain ⟨x1, ex1⟩ : ∃ y : Int32, y = v4 + 1 := ⟨_, rfl⟩
  replace hw := hw x1 ex1
  refine lv_iinc (v := x1) (lv' := [(4, .int x1), (0, .ref a0), (1, .int v1), (2, .int v2), (3, .int v3)]) hx hb dX6_spread_123 hl (k := 4) rfl (by rw [ex1]; rfl) (by decide) rfl (fun ls hl => ?_)
  refine lv_goto (tgt := 13) hx hb dX6_spread_126 (by decide) ?_
  exact hK13 a0 v1 v2 v3 x1 h mc ms _ _ _ _ ls hw hM hbud (lv_sub hl [1, 2, 3, 4, 0] rfl)
set_option maxHeartbeats 4000000 in
theorem wk_X6_spread_107 {p : Program} {l : Launch} {e : Env} {s : State} {m : MethodId} {args : Array Value} {below : List Frame} {meth : Method} {c : Code} {D : va_G} {dA : Nat → ClassId} {ev : Nat → Nat} {h0 : Hp} {sz : Nat} {MC MS : Nat} (C : CxM p s m meth c args (AX dA h0 sz) "LeastSolutions$Grower" cX6_spread 6 none) {Qr : Hp → Prop} {K13 : Nat → Int32 → Int32 → Int32 → Int32 → Hp → Nat → Nat → Prop} (hK13 : ∀ (a0 : Nat) (v1 : Int32) (v2 : Int32) (v3 : Int32) (v4 : Int32) (h : Hp) (mc ms : Nat) (cells slots : Nat) (H : Heap) (locs : List Loc) (ls : Array Slot), K13 a0 v1 v2 v3 v4 h mc ms → wX D dA ev (AX dA h0 sz) s h H locs → cells + mc ≤ MC ∧ slots + ms ≤ MS → lv_has ls 6 [(0, .ref a0), (1, .int v1), (2, .int v2), (3, .int v3), (4, .int v4)] → W p l e (rm_X6_spread MC MS) s m args below meth c H locs cells slots (MQ below (va_Qv Qr (BX D dA (AX dA h0 sz)) (AX dA h0 sz)) args s MC MS (AX dA h0 sz)) (F0 m 13 ls [])) : ∀ (a0 : Nat) (v1 : Int32) (v2 : Int32) (v3 : Int32) (v4 : Int32) (h : Hp) (mc ms : Nat) (cells slots : Nat) (H : Heap) (locs : List Loc) (ls : Array Slot), wp_X6_spread_107 ev Qr K13 a0 v1 v2 v3 v4 h mc ms → wX D dA ev (AX dA h0 sz) s h H locs → cells + mc ≤ MC ∧ slots + ms ≤ MS → lv_has ls 6 [(0, .ref a0), (1, .int v1), (2, .int v2), (3, .int v3), (4, .int v4)] → W p l e (rm_X6_spread MC MS) s m args below meth c H locs cells slots (MQ below (va_Qv Qr (BX D dA (AX dA h0 sz)) (AX dA h0 sz)) args s MC MS (AX dA h0 sz)) (F0 m 107 ls []) := by
  intro a0 v1 v2 v3 v4 h mc ms cells slots H locs ls hw hM hbud hl
  have hx := C.1
  have hb := C.2.1
  have hown := C.2.2.2.2.2.1
  have hts := C.2.2.2.2.2.2.1
  unfold wp_X6_spread_107 at hw
  refine lv_aload_n hx hb dX6_spread_107 rfl (lv_at hl 0 rfl) ?_
  refine lv_aload_n hx hb dX6_spread_108 rfl (lv_at hl 0 rfl) ?_
  have o1 := hw.1
  replace hw := hw.2
  obtain ⟨b2, ebb2, hw⟩ := hw
  refine rX_getRs C hM 5 7 rfl in_X6 (by decide) (by decide) rfl q388 o1 ebb2 dX6_spread_109 ?_
  refine lv_iload_n hx hb dX6_spread_112 rfl (lv_at hl 3 rfl) ?_
  obtain ⟨c3, d4, mc5, ms6, emc5, ems6, hw⟩ := hw
  have o8 := hw.1
  replace hw := hw.2
  refine rX_gov C hM (runX_V C hM hl.1 5 2 (As := [.ref b2, .int v3]) rfl (by decide) o8 (mt_X6_come l D dA ev _ h a0 b2 v3  c3 d4 _ hw) (lw_V q944 q946 qs29 q86 q947) rfl rfl (by decide +kernel) ⟨Nat.le_of_ble_eq_true rfl, Nat.le_of_ble_eq_true rfl⟩ rfl (Nat.le_of_ble_eq_true rfl) rfl dX6_spread_113 ⟨by show cells + c3 ≤ MC; omega, by show slots + d4 ≤ MS; omega⟩) (fun h7 H locs hw hM => ?_)
  have hbud : cells + c3 + mc5 ≤ MC ∧ slots + d4 + ms6 ≤ MS := ⟨by omega, by omega⟩
  refine lv_iload_n hx hb dX6_spread_116 rfl (lv_at hl 3 rfl) ?_
  refine lv_iconst (v := 1) hx hb dX6_spread_117 (by decide) ?_
  refine lv_iload hx hb dX6_spread_118 (lv_at hl 4 rfl) ?_
  refine lv_ishl hx hb dX6_spread_120 ?_
  refine lv_ior hx hb dX6_spread_121 ?_
  refine lv_topi (fun x9 ex9 => ?_)
  replace hw := hw x9 ex9
  refine lv_istore_n (lv' := [(3, .int x9), (0, .ref a0), (1, .int v1), (2, .int v2), (4, .int v4)]) hx hb dX6_spread_122 rfl hl (by decide) rfl (fun ls hl => ?_)
  exact wk_X6_spread_123 C hK13 a0 v1 v2 x9 v4 h7 mc5 ms6 _ _ _ _ ls hw hM hbud (lv_sub hl [1, 2, 3, 0, 4] rfl)
set_option maxHeartbeats 4000000 in
theorem wk_X6_spread_13 {p : Program} {l : Launch} {e : Env} {s : State} {m : MethodId} {args : Array Value} {below : List Frame} {meth : Method} {c : Code} {D : va_G} {dA : Nat → ClassId} {ev : Nat → Nat} {h0 : Hp} {sz : Nat} {MC MS : Nat} (C : CxM p s m meth c args (AX dA h0 sz) "LeastSolutions$Grower" cX6_spread 6 none) {Qr : Hp → Prop} : ∀ (n : Nat) (a0 : Nat) (v1 : Int32) (v2 : Int32) (v3 : Int32) (v4 : Int32) (h : Hp) (mc ms : Nat) (cells slots : Nat) (H : Heap) (locs : List Loc) (ls : Array Slot), wp_X6_spread_13 ev Qr n a0 v1 v2 v3 v4 h mc ms → wX D dA ev (AX dA h0 sz) s h H locs → cells + mc ≤ MC ∧ slots + ms ≤ MS → lv_has ls 6 [(0, .ref a0), (1, .int v1), (2, .int v2), (3, .int v3), (4, .int v4)] → W p l e (rm_X6_spread MC MS) s m args below meth c H locs cells slots (MQ below (va_Qv Qr (BX D dA (AX dA h0 sz)) (AX dA h0 sz)) args s MC MS (AX dA h0 sz)) (F0 m 13 ls []) := by
  intro n
  induction n with
  | zero => intro a0 v1 v2 v3 v4 h mc ms cells slots H locs ls hw; exact hw.elim
  | succ n13 ih =>
    intro a0 v1 v2 v3 v4 h mc ms cells slots H locs ls hw hM hbud hl
    have hx := C.1
    have hb := C.2.1
    have hown := C.2.2.2.2.2.1
    have hts := C.2.2.2.2.2.2.1
    unfold wp_X6_spread_13 at hw
    refine lv_iload hx hb dX6_spread_13 (lv_at hl 4 rfl) ?_
    refine lv_aload_n hx hb dX6_spread_15 rfl (lv_at hl 0 rfl) ?_
    have o1 := hw.1
    replace hw := hw.2
    obtain ⟨b2, ebb2, hw⟩ := hw
    refine rX_getRs C hM 5 0 rfl in_X6 (by decide) (by decide) rfl q380 o1 ebb2 dX6_spread_16 ?_
    have o3 := hw.1
    replace hw := hw.2
    refine rX_getIN C hM 3 1 rfl in_X4 (by decide) (by decide) rfl q274 o3 dX6_spread_19 ?_
    refine lv_icmp_ge (tgt := 129) hx hb dX6_spread_22 (by decide) (fun hc => ?_) (fun hc => ?_)
    · replace hw := hw.1 hc
      exact rX_vret C hM ⟨by show cells ≤ MC; omega, by show slots ≤ MS; omega⟩ hw dX6_spread_129
    · replace hw := hw.2 hc
      refine lv_iload_n hx hb dX6_spread_25 rfl (lv_at hl 3 rfl) ?_
      refine lv_iload hx hb dX6_spread_26 (lv_at hl 4 rfl) ?_
      refine lv_ishr hx hb dX6_spread_28 ?_
      refine lv_iconst (v := 1) hx hb dX6_spread_29 (by decide) ?_
      refine lv_iand hx hb dX6_spread_30 ?_
      refine lv_iconst (v := 1) hx hb dX6_spread_31 (by decide) ?_
      refine lv_icmp_ne (tgt := 38) hx hb dX6_spread_32 (by decide) (fun hc => ?_) (fun hc => ?_)
      · replace hw := hw.1 hc
        refine lv_aload_n hx hb dX6_spread_38 rfl (lv_at hl 0 rfl) ?_
        refine lv_iload_n hx hb dX6_spread_39 rfl (lv_at hl 1 rfl) ?_
        have o5 := hw.1
        replace hw := hw.2
        refine rX_gov C hM (runX_V C hM hl.1 5 1 (As := [.int v1]) rfl (by decide) o5 (mt_X6_take l D dA ev _ h a0 v1  _ hw) (lw_V q957 q959 qs32 q86 q960) rfl rfl (by decide +kernel) ⟨Nat.le_of_ble_eq_true rfl, Nat.le_of_ble_eq_true rfl⟩ rfl (Nat.le_of_ble_eq_true rfl) rfl dX6_spread_40 ⟨by show cells + 0 ≤ MC; omega, by show slots + 0 ≤ MS; omega⟩) (fun h4 H locs hw hM => ?_)
        refine lv_aload_n hx hb dX6_spread_43 rfl (lv_at hl 0 rfl) ?_
        refine lv_iload_n hx hb dX6_spread_44 rfl (lv_at hl 2 rfl) ?_
        have o8 := hw.1
        replace hw := hw.2
        refine rX_goi C hM (runX_V C hM hl.1 5 1 (As := [.int v2]) rfl (by decide) o8 (mt_X6_make l D dA ev _ h4 a0 v2  _ hw) (lw_V q961 q963 qs33 q86 q964) rfl rfl (by decide +kernel) ⟨Nat.le_of_ble_eq_true rfl, Nat.le_of_ble_eq_true rfl⟩ rfl (Nat.le_of_ble_eq_true rfl) rfl dX6_spread_45 ⟨by show cells + 0 ≤ MC; omega, by show slots + 0 ≤ MS; omega⟩) (fun x7 h6 H locs hw hM => ?_)
        refine lv_istore (lv' := [(5, .int x7), (0, .ref a0), (1, .int v1), (2, .int v2), (3, .int v3), (4, .int v4)]) hx hb dX6_spread_48 hl (by decide) rfl (fun ls hl => ?_)
        refine lv_iload hx hb dX6_spread_50 (lv_at hl 0 rfl) ?_
        refine lv_if_ne (tgt := 123) hx hb dX6_spread_52 (by decide) (fun hc => ?_) (fun hc => ?_)
        · replace hw := hw.1 hc
          exact wk_X6_spread_123 C ih a0 v1 v2 v3 v4 h6 mc ms _ _ _ _ ls hw hM hbud (lv_sub hl [1, 2, 3, 4, 5] rfl)
        · replace hw := hw.2 hc
          refine lv_aload_n hx hb dX6_spread_55 rfl (lv_at hl 1 rfl) ?_
          refine lv_iload hx hb dX6_spread_56 (lv_at hl 5 rfl) ?_
          have o11 := hw.1
          replace hw := hw.2
          refine rX_goi C hM (runX_V C hM hl.1 5 1 (As := [.int v4]) rfl (by decide) o11 (mt_X6_turns l D dA ev _ h6 a0 v4  _ hw) (lw_V q1284 q1286 qs39 q86 q1287) rfl rfl (by decide +kernel) ⟨Nat.le_of_ble_eq_true rfl, Nat.le_of_ble_eq_true rfl⟩ rfl (Nat.le_of_ble_eq_true rfl) rfl dX6_spread_58 ⟨by show cells + 0 ≤ MC; omega, by show slots + 0 ≤ MS; omega⟩) (fun x10 h9 H locs hw hM => ?_)
          refine lv_if_lt (tgt := 67) hx hb dX6_spread_61 (by decide) (fun hc => ?_) (fun hc => ?_)
          · replace hw := hw.1 hc
            refine lv_aload_n hx hb dX6_spread_67 rfl (lv_at hl 1 rfl) ?_
            have o12 := hw.1
            replace hw := hw.2
            obtain ⟨b13, ebb13, hw⟩ := hw
            refine rX_getRs C hM 5 7 rfl in_X6 (by decide) (by decide) rfl q388 o12 ebb13 dX6_spread_68 ?_
            refine lv_iload hx hb dX6_spread_71 (lv_at hl 5 rfl) ?_
            refine lv_dup2_11 hx hb dX6_spread_73 rfl rfl ?_
            have o14 := hw.1
            replace hw := hw.2
            have o15 := hw.1
            replace hw := hw.2
            refine rX_iald C hM o14 o15 dX6_spread_74 ?_
            refine lv_iconst (v := 1) hx hb dX6_spread_75 (by decide) ?_
            refine lv_iadd hx hb dX6_spread_76 ?_
            have o17 := hw.1
            replace hw := hw.2
            have o18 := hw.1
            replace hw := hw.2
            refine rX_iast C hM o17 o18 dX6_spread_77 (fun h16 H locs eσ hM => ?_)
            replace hw := hw h16 eσ
            clear eσ
            refine lv_aload_n hx hb dX6_spread_78 rfl (lv_at hl 1 rfl) ?_
            refine lv_aload_n hx hb dX6_spread_79 rfl (lv_at hl 1 rfl) ?_
            have o19 := hw.1
            replace hw := hw.2
            obtain ⟨b20, ebb20, hw⟩ := hw
            refine rX_getRs C hM 5 2 rfl in_X6 (by decide) (by decide) rfl q382 o19 ebb20 dX6_spread_80 ?_
            have o23 := hw.1
            replace hw := hw.2
            refine rX_goi C hM (runX_V C hM hl.1 5 1 (As := [.ref b20]) rfl (by decide) o23 (mt_X6_hasBelow l D dA ev _ h16 a0 b20  _ hw) (lw_V q965 q967 qs34 q86 q968) rfl rfl (by decide +kernel) ⟨Nat.le_of_ble_eq_true rfl, Nat.le_of_ble_eq_true rfl⟩ rfl (Nat.le_of_ble_eq_true rfl) rfl dX6_spread_83 ⟨by show cells + 0 ≤ MC; omega, by show slots + 0 ≤ MS; omega⟩) (fun x22 h21 H locs hw hM => ?_)
            refine lv_if_ne (tgt := 123) hx hb dX6_spread_86 (by decide) (fun hc => ?_) (fun hc => ?_)
            · replace hw := hw.1 hc
              exact wk_X6_spread_123 C ih a0 v1 v2 v3 v4 h21 mc ms _ _ _ _ ls hw hM hbud (lv_sub hl [1, 2, 3, 4, 5] rfl)
            · replace hw := hw.2 hc
              refine lv_aload_n hx hb dX6_spread_89 rfl (lv_at hl 1 rfl) ?_
              have o24 := hw.1
              replace hw := hw.2
              refine rX_getR C hM 5 9 rfl in_X6 (by decide) (by decide) rfl q390 o24 dX6_spread_90 ?_
              refine rX_ifnull (tgt := 107) C dX6_spread_93 (by decide) (fun hc => ?_) (fun b25 hc => ?_)
              · replace hw := hw.1 hc
                exact wk_X6_spread_107 C ih a0 v1 v2 v3 v4 h21 mc ms _ _ _ _ ls hw hM hbud (lv_sub hl [1, 2, 3, 4, 5] rfl)
              · replace hw := hw.2 b25 hc
                refine lv_aload_n hx hb dX6_spread_96 rfl (lv_at hl 1 rfl) ?_
                refine lv_aload_n hx hb dX6_spread_97 rfl (lv_at hl 1 rfl) ?_
                have o26 := hw.1
                replace hw := hw.2
                refine rX_getR C hM 5 9 rfl in_X6 (by decide) (by decide) rfl q390 o26 dX6_spread_98 ?_
                obtain ⟨b27, eb, hw⟩ := hw
                rw [eb] at *
                have o30 := hw.1
                replace hw := hw.2
                refine rX_goi C hM (runX_V C hM hl.1 5 1 (As := [.ref b27]) rfl (by decide) o30 (mt_X6_hasBelow l D dA ev _ h21 a0 b27  _ hw) (lw_V q965 q967 qs34 q86 q968) rfl rfl (by decide +kernel) ⟨Nat.le_of_ble_eq_true rfl, Nat.le_of_ble_eq_true rfl⟩ rfl (Nat.le_of_ble_eq_true rfl) rfl dX6_spread_101 ⟨by show cells + 0 ≤ MC; omega, by show slots + 0 ≤ MS; omega⟩) (fun x29 h28 H locs hw hM => ?_)
                refine lv_if_ne (tgt := 123) hx hb dX6_spread_104 (by decide) (fun hc => ?_) (fun hc => ?_)
                · replace hw := hw.1 hc
                  exact wk_X6_spread_123 C ih a0 v1 v2 v3 v4 h28 mc ms _ _ _ _ ls hw hM hbud (lv_sub hl [1, 2, 3, 4, 5] rfl)
                · replace hw := hw.2 hc
                  exact wk_X6_spread_107 C ih a0 v1 v2 v3 v4 h28 mc ms _ _ _ _ ls hw hM hbud (lv_sub hl [1, 2, 3, 4, 5] rfl)
          · replace hw := hw.2 hc
            refine lv_goto (tgt := 123) hx hb dX6_spread_64 (by decide) ?_
            exact wk_X6_spread_123 C ih a0 v1 v2 v3 v4 h9 mc ms _ _ _ _ ls hw hM hbud (lv_sub hl [1, 2, 3, 4, 5] rfl)
      · replace hw := hw.2 hc
        refine lv_goto (tgt := 123) hx hb dX6_spread_35 (by decide) ?_
        exact wk_X6_spread_123 C ih a0 v1 v2 v3 v4 h mc ms _ _ _ _ ls hw hM hbud (lv_sub hl [0, 1, 2, 3, 4] rfl)
set_option maxHeartbeats 4000000 in
/-- LeastSolutions$Grower.spread(IZ)V -/
theorem mt_X6_spread (l : Launch) (D : va_G) (dA : Nat → ClassId) (ev : Nat → Nat) (sz : Nat) (h : Hp) (a0 : Nat) (p1 : Int32) (p2 : Int32) (MC MS : Nat) (Qr : Hp → Prop) (hw : wp_X6_spread ev h a0 p1 p2 MC MS Qr) : Met l yX6_spread (ws_ yX6_spread cX6_spread 6 none) (rm_X6_spread MC MS) (PcX D dA ev h sz [.ref a0, .int p1, .int p2]) (va_Qv Qr (BX D dA (AX dA h sz)) (AX dA h sz)) MC MS (AX dA h sz) := by
  refine Met.ofW (cc := cX6_spread) (maxL := 6) (ret := none) (by decide) rfl ?_
  intro p e s m args below meth c s₁ B hml hv
  obtain ⟨rfl, hsz, hP, hK, hD0, hE⟩ := hv
  subst hsz
  have hts0 := atoms_spec (ws := ws_ yX6_spread cX6_spread 6 none) B.pre
  have C : CxM p s m meth c _ (AX dA h s.heap.size) "LeastSolutions$Grower" cX6_spread 6 none := ⟨B.exec, B.bytes, B.returns, B.notSynchronized, hml, findClass_of_methodNamed B.named, fun w h => hts0 w (List.mem_cons_of_mem _ h), fun q h => Or.inr h⟩
  have hM : wX D dA ev (AX dA h s.heap.size) s h s.heap [] := ⟨hK, hP, hD0.self, va_S.rf, hE⟩
  have hx := C.1
  have hb := C.2.1
  have hown := C.2.2.2.2.2.1
  have hts := C.2.2.2.2.2.2.1
  have hl := lv_entry ([.ref a0, .int p1, .int p2]) (n := 6) (Nat.le_of_ble_eq_true rfl)
  rw [lg_entry_eq]
  generalize (lg_sl ([.ref a0, .int p1, .int p2]) ++ List.replicate (6 - (lg_sl ([.ref a0, .int p1, .int p2])).length) Slot.unset).toArray = ls at hl ⊢
  have hl : lv_has ls 6 [(0, .ref a0), (1, .int p1), (2, .int p2)] := hl
  have hbud : 0 + MC ≤ MC ∧ 0 + MS ≤ MS := ⟨by omega, by omega⟩
  unfold wp_X6_spread at hw
  refine lv_aload_n hx hb dX6_spread_0 rfl (lv_at hl 0 rfl) ?_
  have o1 := hw.1
  replace hw := hw.2
  obtain ⟨b2, ebb2, hw⟩ := hw
  refine rX_getRs C hM 5 3 rfl in_X6 (by decide) (by decide) rfl q384 o1 ebb2 dX6_spread_1 ?_
  refine lv_iload_n hx hb dX6_spread_4 rfl (lv_at hl 1 rfl) ?_
  refine lv_bipush (v := 6) hx hb dX6_spread_5 (by decide) ?_
  refine lv_iadd hx hb dX6_spread_7 ?_
  have o3 := hw.1
  replace hw := hw.2
  have o4 := hw.1
  replace hw := hw.2
  refine rX_iald C hM o3 o4 dX6_spread_8 ?_
  refine lv_topi (fun x5 ex5 => ?_)
  replace hw := hw x5 ex5
  refine lv_istore_n (lv' := [(3, .int x5), (0, .ref a0), (1, .int p1), (2, .int p2)]) hx hb dX6_spread_9 rfl hl (by decide) rfl (fun ls hl => ?_)
  refine lv_iconst (v := 0) hx hb dX6_spread_10 (by decide) ?_
  refine lv_istore (lv' := [(4, .int 0), (3, .int x5), (0, .ref a0), (1, .int p1), (2, .int p2)]) hx hb dX6_spread_11 hl (by decide) rfl (fun ls hl => ?_)
  obtain ⟨n13, hw⟩ := hw
  exact wk_X6_spread_13 C  n13 a0 p1 p2 x5 0 h MC MS _ _ _ _ ls hw hM hbud (lv_sub hl [2, 3, 4, 1, 0] rfl)
abbrev rm_X6_grow (MC MS : Nat) : Room := { frames := 9, cells := MC, slots := MS, locals := 240 }
set_option maxHeartbeats 4000000 in
theorem wk_X6_grow_132 {p : Program} {l : Launch} {e : Env} {s : State} {m : MethodId} {args : Array Value} {below : List Frame} {meth : Method} {c : Code} {D : va_G} {dA : Nat → ClassId} {ev : Nat → Nat} {h0 : Hp} {sz : Nat} {MC MS : Nat} (C : CxM p s m meth c args (AX dA h0 sz) "LeastSolutions$Grower" cX6_grow 7 none) {Qr : Hp → Prop} : ∀ (a0 : Nat) (h : Hp) (mc ms : Nat) (cells slots : Nat) (H : Heap) (locs : List Loc) (ls : Array Slot), wp_X6_grow_132 ev Qr a0 h mc ms → wX D dA ev (AX dA h0 sz) s h H locs → cells + mc ≤ MC ∧ slots + ms ≤ MS → lv_has ls 7 [(0, .ref a0)] → W p l e (rm_X6_grow MC MS) s m args below meth c H locs cells slots (MQ below (va_Qv Qr (BX D dA (AX dA h0 sz)) (AX dA h0 sz)) args s MC MS (AX dA h0 sz)) (F0 m 132 ls []) := by
  intro a0 h mc ms cells slots H locs ls hw hM hbud hl
  have hx := C.1
  have hb := C.2.1
  have hown := C.2.2.2.2.2.1
  have hts := C.2.2.2.2.2.2.1
  unfold wp_X6_grow_132 at hw
  exact rX_vret C hM ⟨by show cells ≤ MC; omega, by show slots ≤ MS; omega⟩ hw dX6_grow_132
set_option maxHeartbeats 4000000 in
theorem wk_X6_grow_126 {p : Program} {l : Launch} {e : Env} {s : State} {m : MethodId} {args : Array Value} {below : List Frame} {meth : Method} {c : Code} {D : va_G} {dA : Nat → ClassId} {ev : Nat → Nat} {h0 : Hp} {sz : Nat} {MC MS : Nat} (C : CxM p s m meth c args (AX dA h0 sz) "LeastSolutions$Grower" cX6_grow 7 none) {Qr : Hp → Prop} {K3 : Nat → Int32 → Int32 → Int32 → Hp → Nat → Nat → Prop} (hK3 : ∀ (a0 : Nat) (v2 : Int32) (v3 : Int32) (v4 : Int32) (h : Hp) (mc ms : Nat) (cells slots : Nat) (H : Heap) (locs : List Loc) (ls : Array Slot), K3 a0 v2 v3 v4 h mc ms → wX D dA ev (AX dA h0 sz) s h H locs → cells + mc ≤ MC ∧ slots + ms ≤ MS → lv_has ls 7 [(0, .ref a0), (2, .int v2), (3, .int v3), (4, .int v4)] → W p l e (rm_X6_grow MC MS) s m args below meth c H locs cells slots (MQ below (va_Qv Qr (BX D dA (AX dA h0 sz)) (AX dA h0 sz)) args s MC MS (AX dA h0 sz)) (F0 m 3 ls [])) : ∀ (a0 : Nat) (v2 : Int32) (v3 : Int32) (v4 : Int32) (h : Hp) (mc ms : Nat) (cells slots : Nat) (H : Heap) (locs : List Loc) (ls : Array Slot), wp_X6_grow_126 ev Qr K3 a0 v2 v3 v4 h mc ms → wX D dA ev (AX dA h0 sz) s h H locs → cells + mc ≤ MC ∧ slots + ms ≤ MS → lv_has ls 7 [(0, .ref a0), (2, .int v2), (3, .int v3), (4, .int v4)] → W p l e (rm_X6_grow MC MS) s m args below meth c H locs cells slots (MQ below (va_Qv Qr (BX D dA (AX dA h0 sz)) (AX dA h0 sz)) args s MC MS (AX dA h0 sz)) (F0 m 126 ls []) := by
  intro a0 v2 v3 v4 h mc ms cells slots H locs ls hw hM hbud hl
  have hx := C.1
  have hb := C.2.1
  have hown := C.2.2.2.2.2.1
  have hts := C.2.2.2.2.2.2.1
  unfold wp_X6_grow_126 at hw
  obtain ⟨x1, ex1⟩ : ∃ y : Int32, y = v4 + 1 := ⟨_, rfl⟩
  replace hw := hw x1 ex1
  refine lv_iinc (v := x1) (lv' := [(4, .int x1), (0, .ref a0), (2, .int v2), (3, .int v3)]) hx hb dX6_grow_126 hl (k := 3) rfl (by rw [ex1]; rfl) (by decide) rfl (fun ls hl => ?_)
  refine lv_goto (tgt := 3) hx hb dX6_grow_129 (by decide) ?_
  exact hK3 a0 v2 v3 x1 h mc ms _ _ _ _ ls hw hM hbud (lv_sub hl [1, 2, 3, 0] rfl)
set_option maxHeartbeats 4000000 in
theorem wk_X6_grow_91 {p : Program} {l : Launch} {e : Env} {s : State} {m : MethodId} {args : Array Value} {below : List Frame} {meth : Method} {c : Code} {D : va_G} {dA : Nat → ClassId} {ev : Nat → Nat} {h0 : Hp} {sz : Nat} {MC MS : Nat} (C : CxM p s m meth c args (AX dA h0 sz) "LeastSolutions$Grower" cX6_grow 7 none) {Qr : Hp → Prop} {K3 : Nat → Int32 → Int32 → Int32 → Hp → Nat → Nat → Prop} (hK3 : ∀ (a0 : Nat) (v2 : Int32) (v3 : Int32) (v4 : Int32) (h : Hp) (mc ms : Nat) (cells slots : Nat) (H : Heap) (locs : List Loc) (ls : Array Slot), K3 a0 v2 v3 v4 h mc ms → wX D dA ev (AX dA h0 sz) s h H locs → cells + mc ≤ MC ∧ slots + ms ≤ MS → lv_has ls 7 [(0, .ref a0), (2, .int v2), (3, .int v3), (4, .int v4)] → W p l e (rm_X6_grow MC MS) s m args below meth c H locs cells slots (MQ below (va_Qv Qr (BX D dA (AX dA h0 sz)) (AX dA h0 sz)) args s MC MS (AX dA h0 sz)) (F0 m 3 ls [])) : ∀ (n : Nat) (a0 : Nat) (v2 : Int32) (v3 : Int32) (v4 : Int32) (v6 : Int32) (h : Hp) (mc ms : Nat) (cells slots : Nat) (H : Heap) (locs : List Loc) (ls : Array Slot), wp_X6_grow_91 ev Qr K3 n a0 v2 v3 v4 v6 h mc ms → wX D dA ev (AX dA h0 sz) s h H locs → cells + mc ≤ MC ∧ slots + ms ≤ MS → lv_has ls 7 [(0, .ref a0), (2, .int v2), (3, .int v3), (4, .int v4), (6, .int v6)] → W p l e (rm_X6_grow MC MS) s m args below meth c H locs cells slots (MQ below (va_Qv Qr (BX D dA (AX dA h0 sz)) (AX dA h0 sz)) args s MC MS (AX dA h0 sz)) (F0 m 91 ls []) := by
  intro n
  induction n with
  | zero => intro a0 v2 v3 v4 v6 h mc ms cells slots H locs ls hw; exact hw.elim
  | succ n91 ih =>
    intro a0 v2 v3 v4 v6 h mc ms cells slots H locs ls hw hM hbud hl
    have hx := C.1
    have hb := C.2.1
    have hown := C.2.2.2.2.2.1
    have hts := C.2.2.2.2.2.2.1
    unfold wp_X6_grow_91 at hw
    refine lv_iload hx hb dX6_grow_91 (lv_at hl 4 rfl) ?_
    refine lv_aload_n hx hb dX6_grow_93 rfl (lv_at hl 0 rfl) ?_
    have o1 := hw.1
    replace hw := hw.2
    refine rX_getI C hM 5 5 rfl in_X6 (by decide) (by decide) rfl q386 o1 dX6_grow_94 ?_
    refine lv_icmp_ge (tgt := 126) hx hb dX6_grow_97 (by decide) (fun hc => ?_) (fun hc => ?_)
    · replace hw := hw.1 hc
      exact wk_X6_grow_126 C hK3 a0 v2 v3 v4 h mc ms _ _ _ _ ls hw hM hbud (lv_sub hl [0, 1, 2, 3] rfl)
    · replace hw := hw.2 hc
      refine lv_aload_n hx hb dX6_grow_100 rfl (lv_at hl 0 rfl) ?_
      have o2 := hw.1
      replace hw := hw.2
      refine rX_getI C hM 5 10 rfl in_X6 (by decide) (by decide) rfl q391 o2 dX6_grow_101 ?_
      refine lv_if_ne (tgt := 126) hx hb dX6_grow_104 (by decide) (fun hc => ?_) (fun hc => ?_)
      · replace hw := hw.1 hc
        exact wk_X6_grow_126 C hK3 a0 v2 v3 v4 h mc ms _ _ _ _ ls hw hM hbud (lv_sub hl [0, 1, 2, 3] rfl)
      · replace hw := hw.2 hc
        refine lv_iload hx hb dX6_grow_107 (lv_at hl 3 rfl) ?_
        refine lv_iload_n hx hb dX6_grow_109 rfl (lv_at hl 1 rfl) ?_
        refine lv_icmp_ge (tgt := 126) hx hb dX6_grow_110 (by decide) (fun hc => ?_) (fun hc => ?_)
        · replace hw := hw.1 hc
          exact wk_X6_grow_126 C hK3 a0 v2 v3 v4 h mc ms _ _ _ _ ls hw hM hbud (lv_sub hl [0, 1, 2, 3] rfl)
        · replace hw := hw.2 hc
          refine lv_aload_n hx hb dX6_grow_113 rfl (lv_at hl 0 rfl) ?_
          refine lv_iload hx hb dX6_grow_114 (lv_at hl 4 rfl) ?_
          refine lv_iload_n hx hb dX6_grow_116 rfl (lv_at hl 2 rfl) ?_
          obtain ⟨c3, d4, mc5, ms6, emc5, ems6, hw⟩ := hw
          have o8 := hw.1
          replace hw := hw.2
          refine rX_gov C hM (runX_V C hM hl.1 5 2 (As := [.int v6, .int v3]) rfl (by decide) o8 (mt_X6_spread l D dA ev _ h a0 v6 v3  c3 d4 _ hw) (lw_V q1280 q1282 qs38 q86 q1283) rfl rfl (by decide +kernel) ⟨Nat.le_of_ble_eq_true rfl, Nat.le_of_ble_eq_true rfl⟩ rfl (Nat.le_of_ble_eq_true rfl) rfl dX6_grow_117 ⟨by show cells + c3 ≤ MC; omega, by show slots + d4 ≤ MS; omega⟩) (fun h7 H locs hw hM => ?_)
          have hbud : cells + c3 + mc5 ≤ MC ∧ slots + d4 + ms6 ≤ MS := ⟨by omega, by omega⟩
          obtain ⟨x9, ex9⟩ : ∃ y : Int32, y = v6 + 7 := ⟨_, rfl⟩
          replace hw := hw x9 ex9
          refine lv_iinc (v := x9) (lv' := [(6, .int x9), (0, .ref a0), (2, .int v2), (3, .int v3), (4, .int v4)]) hx hb dX6_grow_120 hl (k := 4) rfl (by rw [ex9]; rfl) (by decide) rfl (fun ls hl => ?_)
          refine lv_goto (tgt := 91) hx hb dX6_grow_123 (by decide) ?_
          exact ih a0 v2 v3 v4 x9 h7 mc5 ms6 _ _ _ _ ls hw hM hbud (lv_sub hl [1, 2, 3, 4, 0] rfl)
set_option maxHeartbeats 4000000 in
theorem wk_X6_grow_88 {p : Program} {l : Launch} {e : Env} {s : State} {m : MethodId} {args : Array Value} {below : List Frame} {meth : Method} {c : Code} {D : va_G} {dA : Nat → ClassId} {ev : Nat → Nat} {h0 : Hp} {sz : Nat} {MC MS : Nat} (C : CxM p s m meth c args (AX dA h0 sz) "LeastSolutions$Grower" cX6_grow 7 none) {Qr : Hp → Prop} {K3 : Nat → Int32 → Int32 → Int32 → Hp → Nat → Nat → Prop} (hK3 : ∀ (a0 : Nat) (v2 : Int32) (v3 : Int32) (v4 : Int32) (h : Hp) (mc ms : Nat) (cells slots : Nat) (H : Heap) (locs : List Loc) (ls : Array Slot), K3 a0 v2 v3 v4 h mc ms → wX D dA ev (AX dA h0 sz) s h H locs → cells + mc ≤ MC ∧ slots + ms ≤ MS → lv_has ls 7 [(0, .ref a0), (2, .int v2), (3, .int v3), (4, .int v4)] → W p l e (rm_X6_grow MC MS) s m args below meth c H locs cells slots (MQ below (va_Qv Qr (BX D dA (AX dA h0 sz)) (AX dA h0 sz)) args s MC MS (AX dA h0 sz)) (F0 m 3 ls [])) : ∀ (a0 : Nat) (v2 : Int32) (v3 : Int32) (v4 : Int32) (h : Hp) (mc ms : Nat) (cells slots : Nat) (H : Heap) (locs : List Loc) (ls : Array Slot), wp_X6_grow_88 ev Qr K3 a0 v2 v3 v4 h mc ms → wX D dA ev (AX dA h0 sz) s h H locs → cells + mc ≤ MC ∧ slots + ms ≤ MS → lv_has ls 7 [(0, .ref a0), (2, .int v2), (3, .int v3), (4, .int v4)] → W p l e (rm_X6_grow MC MS) s m args below meth c H locs cells slots (MQ below (va_Qv Qr (BX D dA (AX dA h0 sz)) (AX dA h0 sz)) args s MC MS (AX dA h0 sz)) (F0 m 88 ls []) := by
  intro a0 v2 v3 v4 h mc ms cells slots H locs ls hw hM hbud hl
  have hx := C.1
  have hb := C.2.1
  have hown := C.2.2.2.2.2.1
  have hts := C.2.2.2.2.2.2.1
  unfold wp_X6_grow_88 at hw
  refine lv_iconst (v := 0) hx hb dX6_grow_88 (by decide) ?_
  refine lv_istore (lv' := [(6, .int 0), (0, .ref a0), (2, .int v2), (3, .int v3), (4, .int v4)]) hx hb dX6_grow_89 hl (by decide) rfl (fun ls hl => ?_)
  obtain ⟨n91, hw⟩ := hw
  exact wk_X6_grow_91 C hK3 n91 a0 v2 v3 v4 0 h mc ms _ _ _ _ ls hw hM hbud (lv_sub hl [1, 2, 3, 4, 0] rfl)
set_option maxHeartbeats 4000000 in
theorem wk_X6_grow_59 {p : Program} {l : Launch} {e : Env} {s : State} {m : MethodId} {args : Array Value} {below : List Frame} {meth : Method} {c : Code} {D : va_G} {dA : Nat → ClassId} {ev : Nat → Nat} {h0 : Hp} {sz : Nat} {MC MS : Nat} (C : CxM p s m meth c args (AX dA h0 sz) "LeastSolutions$Grower" cX6_grow 7 none) {Qr : Hp → Prop} {K3 : Nat → Int32 → Int32 → Int32 → Hp → Nat → Nat → Prop} (hK3 : ∀ (a0 : Nat) (v2 : Int32) (v3 : Int32) (v4 : Int32) (h : Hp) (mc ms : Nat) (cells slots : Nat) (H : Heap) (locs : List Loc) (ls : Array Slot), K3 a0 v2 v3 v4 h mc ms → wX D dA ev (AX dA h0 sz) s h H locs → cells + mc ≤ MC ∧ slots + ms ≤ MS → lv_has ls 7 [(0, .ref a0), (2, .int v2), (3, .int v3), (4, .int v4)] → W p l e (rm_X6_grow MC MS) s m args below meth c H locs cells slots (MQ below (va_Qv Qr (BX D dA (AX dA h0 sz)) (AX dA h0 sz)) args s MC MS (AX dA h0 sz)) (F0 m 3 ls [])) : ∀ (n : Nat) (a0 : Nat) (v2 : Int32) (v3 : Int32) (v4 : Int32) (v6 : Int32) (h : Hp) (mc ms : Nat) (cells slots : Nat) (H : Heap) (locs : List Loc) (ls : Array Slot), wp_X6_grow_59 ev Qr K3 n a0 v2 v3 v4 v6 h mc ms → wX D dA ev (AX dA h0 sz) s h H locs → cells + mc ≤ MC ∧ slots + ms ≤ MS → lv_has ls 7 [(0, .ref a0), (2, .int v2), (3, .int v3), (4, .int v4), (6, .int v6)] → W p l e (rm_X6_grow MC MS) s m args below meth c H locs cells slots (MQ below (va_Qv Qr (BX D dA (AX dA h0 sz)) (AX dA h0 sz)) args s MC MS (AX dA h0 sz)) (F0 m 59 ls []) := by
  intro n
  induction n with
  | zero => intro a0 v2 v3 v4 v6 h mc ms cells slots H locs ls hw; exact hw.elim
  | succ n59 ih =>
    intro a0 v2 v3 v4 v6 h mc ms cells slots H locs ls hw hM hbud hl
    have hx := C.1
    have hb := C.2.1
    have hown := C.2.2.2.2.2.1
    have hts := C.2.2.2.2.2.2.1
    unfold wp_X6_grow_59 at hw
    refine lv_iload hx hb dX6_grow_59 (lv_at hl 4 rfl) ?_
    refine lv_aload_n hx hb dX6_grow_61 rfl (lv_at hl 0 rfl) ?_
    have o1 := hw.1
    replace hw := hw.2
    refine rX_getI C hM 5 5 rfl in_X6 (by decide) (by decide) rfl q386 o1 dX6_grow_62 ?_
    refine lv_icmp_ge (tgt := 88) hx hb dX6_grow_65 (by decide) (fun hc => ?_) (fun hc => ?_)
    · replace hw := hw.1 hc
      exact wk_X6_grow_88 C hK3 a0 v2 v3 v4 h mc ms _ _ _ _ ls hw hM hbud (lv_sub hl [0, 1, 2, 3] rfl)
    · replace hw := hw.2 hc
      refine lv_aload_n hx hb dX6_grow_68 rfl (lv_at hl 0 rfl) ?_
      have o2 := hw.1
      replace hw := hw.2
      refine rX_getI C hM 5 10 rfl in_X6 (by decide) (by decide) rfl q391 o2 dX6_grow_69 ?_
      refine lv_if_ne (tgt := 88) hx hb dX6_grow_72 (by decide) (fun hc => ?_) (fun hc => ?_)
      · replace hw := hw.1 hc
        exact wk_X6_grow_88 C hK3 a0 v2 v3 v4 h mc ms _ _ _ _ ls hw hM hbud (lv_sub hl [0, 1, 2, 3] rfl)
      · replace hw := hw.2 hc
        refine lv_aload_n hx hb dX6_grow_75 rfl (lv_at hl 0 rfl) ?_
        refine lv_iload hx hb dX6_grow_76 (lv_at hl 4 rfl) ?_
        refine lv_iload_n hx hb dX6_grow_78 rfl (lv_at hl 2 rfl) ?_
        obtain ⟨c3, d4, mc5, ms6, emc5, ems6, hw⟩ := hw
        have o8 := hw.1
        replace hw := hw.2
        refine rX_gov C hM (runX_V C hM hl.1 5 2 (As := [.int v6, .int v3]) rfl (by decide) o8 (mt_X6_look l D dA ev _ h a0 v6 v3  c3 d4 _ hw) (lw_V q953 q955 qs31 q86 q956) rfl rfl (by decide +kernel) ⟨Nat.le_of_ble_eq_true rfl, Nat.le_of_ble_eq_true rfl⟩ rfl (Nat.le_of_ble_eq_true rfl) rfl dX6_grow_79 ⟨by show cells + c3 ≤ MC; omega, by show slots + d4 ≤ MS; omega⟩) (fun h7 H locs hw hM => ?_)
        have hbud : cells + c3 + mc5 ≤ MC ∧ slots + d4 + ms6 ≤ MS := ⟨by omega, by omega⟩
        obtain ⟨x9, ex9⟩ : ∃ y : Int32, y = v6 + 7 := ⟨_, rfl⟩
        replace hw := hw x9 ex9
        refine lv_iinc (v := x9) (lv' := [(6, .int x9), (0, .ref a0), (2, .int v2), (3, .int v3), (4, .int v4)]) hx hb dX6_grow_82 hl (k := 4) rfl (by rw [ex9]; rfl) (by decide) rfl (fun ls hl => ?_)
        refine lv_goto (tgt := 59) hx hb dX6_grow_85 (by decide) ?_
        exact ih a0 v2 v3 v4 x9 h7 mc5 ms6 _ _ _ _ ls hw hM hbud (lv_sub hl [1, 2, 3, 4, 0] rfl)
set_option maxHeartbeats 4000000 in
theorem wk_X6_grow_3 {p : Program} {l : Launch} {e : Env} {s : State} {m : MethodId} {args : Array Value} {below : List Frame} {meth : Method} {c : Code} {D : va_G} {dA : Nat → ClassId} {ev : Nat → Nat} {h0 : Hp} {sz : Nat} {MC MS : Nat} (C : CxM p s m meth c args (AX dA h0 sz) "LeastSolutions$Grower" cX6_grow 7 none) {Qr : Hp → Prop} : ∀ (n : Nat) (a0 : Nat) (v2 : Int32) (v3 : Int32) (v4 : Int32) (h : Hp) (mc ms : Nat) (cells slots : Nat) (H : Heap) (locs : List Loc) (ls : Array Slot), wp_X6_grow_3 ev Qr n a0 v2 v3 v4 h mc ms → wX D dA ev (AX dA h0 sz) s h H locs → cells + mc ≤ MC ∧ slots + ms ≤ MS → lv_has ls 7 [(0, .ref a0), (2, .int v2), (3, .int v3), (4, .int v4)] → W p l e (rm_X6_grow MC MS) s m args below meth c H locs cells slots (MQ below (va_Qv Qr (BX D dA (AX dA h0 sz)) (AX dA h0 sz)) args s MC MS (AX dA h0 sz)) (F0 m 3 ls []) := by
  intro n
  induction n with
  | zero => intro a0 v2 v3 v4 h mc ms cells slots H locs ls hw; exact hw.elim
  | succ n3 ih =>
    intro a0 v2 v3 v4 h mc ms cells slots H locs ls hw hM hbud hl
    have hx := C.1
    have hb := C.2.1
    have hown := C.2.2.2.2.2.1
    have hts := C.2.2.2.2.2.2.1
    unfold wp_X6_grow_3 at hw
    refine lv_iload hx hb dX6_grow_3 (lv_at hl 3 rfl) ?_
    refine lv_iload_n hx hb dX6_grow_5 rfl (lv_at hl 1 rfl) ?_
    refine lv_icmp_gt (tgt := 132) hx hb dX6_grow_6 (by decide) (fun hc => ?_) (fun hc => ?_)
    · replace hw := hw.1 hc
      exact wk_X6_grow_132 C  a0 h mc ms _ _ _ _ ls hw hM hbud (lv_sub hl [0] rfl)
    · replace hw := hw.2 hc
      refine lv_aload_n hx hb dX6_grow_9 rfl (lv_at hl 0 rfl) ?_
      have o1 := hw.1
      replace hw := hw.2
      refine rX_getI C hM 5 6 rfl in_X6 (by decide) (by decide) rfl q387 o1 dX6_grow_10 ?_
      refine lv_if_le (tgt := 132) hx hb dX6_grow_13 (by decide) (fun hc => ?_) (fun hc => ?_)
      · replace hw := hw.1 hc
        exact wk_X6_grow_132 C  a0 h mc ms _ _ _ _ ls hw hM hbud (lv_sub hl [0] rfl)
      · replace hw := hw.2 hc
        refine lv_aload_n hx hb dX6_grow_16 rfl (lv_at hl 0 rfl) ?_
        have o2 := hw.1
        replace hw := hw.2
        refine rX_getI C hM 5 10 rfl in_X6 (by decide) (by decide) rfl q391 o2 dX6_grow_17 ?_
        refine lv_if_ne (tgt := 132) hx hb dX6_grow_20 (by decide) (fun hc => ?_) (fun hc => ?_)
        · replace hw := hw.1 hc
          exact wk_X6_grow_132 C  a0 h mc ms _ _ _ _ ls hw hM hbud (lv_sub hl [0] rfl)
        · replace hw := hw.2 hc
          refine lv_aload_n hx hb dX6_grow_23 rfl (lv_at hl 0 rfl) ?_
          have o3 := hw.1
          replace hw := hw.2
          obtain ⟨b4, ebb4, hw⟩ := hw
          refine rX_getRs C hM 5 3 rfl in_X6 (by decide) (by decide) rfl q384 o3 ebb4 dX6_grow_24 ?_
          refine lv_astore (lv' := [(5, .ref b4), (0, .ref a0), (2, .int v2), (3, .int v3), (4, .int v4)]) hx hb dX6_grow_27 hl (by decide) rfl (fun ls hl => ?_)
          refine lv_aload_n hx hb dX6_grow_29 rfl (lv_at hl 1 rfl) ?_
          refine lv_aload_n hx hb dX6_grow_30 rfl (lv_at hl 1 rfl) ?_
          have o5 := hw.1
          replace hw := hw.2
          obtain ⟨b6, ebb6, hw⟩ := hw
          refine rX_getRs C hM 5 4 rfl in_X6 (by decide) (by decide) rfl q385 o5 ebb6 dX6_grow_31 ?_
          have o8 := hw.1
          replace hw := hw.2
          refine rX_putR C hM 5 3 rfl in_X6 (by decide) (by decide) rfl rfl q384 o8 (x := (some b6)) tyX6 tyX6_ok nmX6 rfl rfl rfl dX6_grow_34 (fun h7 H locs eσ hM => ?_)
          replace hw := hw h7 eσ
          clear eσ
          refine lv_aload_n hx hb dX6_grow_37 rfl (lv_at hl 1 rfl) ?_
          refine lv_aload hx hb dX6_grow_38 (lv_at hl 0 rfl) ?_
          have o10 := hw.1
          replace hw := hw.2
          refine rX_putR C hM 5 4 rfl in_X6 (by decide) (by decide) rfl rfl q385 o10 (x := (some b4)) tyX6 tyX6_ok nmX6 rfl rfl rfl dX6_grow_40 (fun h9 H locs eσ hM => ?_)
          replace hw := hw h9 eσ
          clear eσ
          refine lv_aload_n hx hb dX6_grow_43 rfl (lv_at hl 1 rfl) ?_
          refine lv_aload_n hx hb dX6_grow_44 rfl (lv_at hl 1 rfl) ?_
          have o11 := hw.1
          replace hw := hw.2
          refine rX_getI C hM 5 6 rfl in_X6 (by decide) (by decide) rfl q387 o11 dX6_grow_45 ?_
          have o13 := hw.1
          replace hw := hw.2
          refine rX_putI C hM 5 5 rfl in_X6 (by decide) (by decide) rfl rfl q386 o13 tyX6 tyX6_ok nmX6 rfl rfl rfl dX6_grow_48 (fun h12 H locs eσ hM => ?_)
          replace hw := hw h12 eσ
          clear eσ
          refine lv_aload_n hx hb dX6_grow_51 rfl (lv_at hl 1 rfl) ?_
          refine lv_iconst (v := 0) hx hb dX6_grow_52 (by decide) ?_
          have o15 := hw.1
          replace hw := hw.2
          refine rX_putI C hM 5 6 rfl in_X6 (by decide) (by decide) rfl rfl q387 o15 tyX6 tyX6_ok nmX6 rfl rfl rfl dX6_grow_53 (fun h14 H locs eσ hM => ?_)
          replace hw := hw h14 eσ
          clear eσ
          refine lv_iconst (v := 0) hx hb dX6_grow_56 (by decide) ?_
          refine lv_istore (lv' := [(6, .int 0), (5, .ref b4), (0, .ref a0), (2, .int v2), (3, .int v3), (4, .int v4)]) hx hb dX6_grow_57 hl (by decide) rfl (fun ls hl => ?_)
          obtain ⟨n59, hw⟩ := hw
          exact wk_X6_grow_59 C ih n59 a0 v2 v3 v4 0 h14 mc ms _ _ _ _ ls hw hM hbud (lv_sub hl [2, 3, 4, 5, 0] rfl)
set_option maxHeartbeats 4000000 in
/-- LeastSolutions$Grower.grow(IIZ)V -/
theorem mt_X6_grow (l : Launch) (D : va_G) (dA : Nat → ClassId) (ev : Nat → Nat) (sz : Nat) (h : Hp) (a0 : Nat) (p1 : Int32) (p2 : Int32) (p3 : Int32) (MC MS : Nat) (Qr : Hp → Prop) (hw : wp_X6_grow ev h a0 p1 p2 p3 MC MS Qr) : Met l yX6_grow (ws_ yX6_grow cX6_grow 7 none) (rm_X6_grow MC MS) (PcX D dA ev h sz [.ref a0, .int p1, .int p2, .int p3]) (va_Qv Qr (BX D dA (AX dA h sz)) (AX dA h sz)) MC MS (AX dA h sz) := by
  refine Met.ofW (cc := cX6_grow) (maxL := 7) (ret := none) (by decide) rfl ?_
  intro p e s m args below meth c s₁ B hml hv
  obtain ⟨rfl, hsz, hP, hK, hD0, hE⟩ := hv
  subst hsz
  have hts0 := atoms_spec (ws := ws_ yX6_grow cX6_grow 7 none) B.pre
  have C : CxM p s m meth c _ (AX dA h s.heap.size) "LeastSolutions$Grower" cX6_grow 7 none := ⟨B.exec, B.bytes, B.returns, B.notSynchronized, hml, findClass_of_methodNamed B.named, fun w h => hts0 w (List.mem_cons_of_mem _ h), fun q h => Or.inr h⟩
  have hM : wX D dA ev (AX dA h s.heap.size) s h s.heap [] := ⟨hK, hP, hD0.self, va_S.rf, hE⟩
  have hx := C.1
  have hb := C.2.1
  have hown := C.2.2.2.2.2.1
  have hts := C.2.2.2.2.2.2.1
  have hl := lv_entry ([.ref a0, .int p1, .int p2, .int p3]) (n := 7) (Nat.le_of_ble_eq_true rfl)
  rw [lg_entry_eq]
  generalize (lg_sl ([.ref a0, .int p1, .int p2, .int p3]) ++ List.replicate (7 - (lg_sl ([.ref a0, .int p1, .int p2, .int p3])).length) Slot.unset).toArray = ls at hl ⊢
  have hl : lv_has ls 7 [(0, .ref a0), (1, .int p1), (2, .int p2), (3, .int p3)] := hl
  have hbud : 0 + MC ≤ MC ∧ 0 + MS ≤ MS := ⟨by omega, by omega⟩
  unfold wp_X6_grow at hw
  refine lv_iload_n hx hb dX6_grow_0 rfl (lv_at hl 1 rfl) ?_
  refine lv_istore (lv' := [(4, .int p1), (0, .ref a0), (1, .int p1), (2, .int p2), (3, .int p3)]) hx hb dX6_grow_1 hl (by decide) rfl (fun ls hl => ?_)
  obtain ⟨n3, hw⟩ := hw
  exact wk_X6_grow_3 C  n3 a0 p2 p3 p1 h MC MS _ _ _ _ ls hw hM hbud (lv_sub hl [1, 3, 4, 0] rfl)
abbrev rm_X6_kernel (MC MS : Nat) : Room := { frames := 10, cells := MC, slots := MS, locals := 266 }
set_option maxHeartbeats 4000000 in
theorem wk_X6_kernel_104 {p : Program} {l : Launch} {e : Env} {s : State} {m : MethodId} {args : Array Value} {below : List Frame} {meth : Method} {c : Code} {D : va_G} {dA : Nat → ClassId} {ev : Nat → Nat} {h0 : Hp} {sz : Nat} {MC MS : Nat} (C : CxM p s m meth c args (AX dA h0 sz) "LeastSolutions$Grower" cX6_kernel 6 (some .boolean)) {Qr : Int32 → Hp → Prop} : ∀ (a0 : Nat) (u0 : Int32) (h : Hp) (mc ms : Nat) (cells slots : Nat) (H : Heap) (locs : List Loc) (ls : Array Slot), wp_X6_kernel_104 ev Qr a0 u0 h mc ms → wX D dA ev (AX dA h0 sz) s h H locs → cells + mc ≤ MC ∧ slots + ms ≤ MS → lv_has ls 6 [(0, .ref a0)] → W p l e (rm_X6_kernel MC MS) s m args below meth c H locs cells slots (MQ below (va_Qi Qr (BX D dA (AX dA h0 sz)) (AX dA h0 sz)) args s MC MS (AX dA h0 sz)) (F0 m 104 ls [.int u0]) := by
  intro a0 u0 h mc ms cells slots H locs ls hw hM hbud hl
  have hx := C.1
  have hb := C.2.1
  have hown := C.2.2.2.2.2.1
  have hts := C.2.2.2.2.2.2.1
  unfold wp_X6_kernel_104 at hw
  exact rX_zret C hM ⟨by show cells ≤ MC; omega, by show slots ≤ MS; omega⟩ hw dX6_kernel_104
set_option maxHeartbeats 4000000 in
theorem wk_X6_kernel_79 {p : Program} {l : Launch} {e : Env} {s : State} {m : MethodId} {args : Array Value} {below : List Frame} {meth : Method} {c : Code} {D : va_G} {dA : Nat → ClassId} {ev : Nat → Nat} {h0 : Hp} {sz : Nat} {MC MS : Nat} (C : CxM p s m meth c args (AX dA h0 sz) "LeastSolutions$Grower" cX6_kernel 6 (some .boolean)) {Qr : Int32 → Hp → Prop} {K14 : Nat → Int32 → Int32 → Hp → Nat → Nat → Prop} (hK14 : ∀ (a0 : Nat) (v3 : Int32) (v4 : Int32) (h : Hp) (mc ms : Nat) (cells slots : Nat) (H : Heap) (locs : List Loc) (ls : Array Slot), K14 a0 v3 v4 h mc ms → wX D dA ev (AX dA h0 sz) s h H locs → cells + mc ≤ MC ∧ slots + ms ≤ MS → lv_has ls 6 [(0, .ref a0), (3, .int v3), (4, .int v4)] → W p l e (rm_X6_kernel MC MS) s m args below meth c H locs cells slots (MQ below (va_Qi Qr (BX D dA (AX dA h0 sz)) (AX dA h0 sz)) args s MC MS (AX dA h0 sz)) (F0 m 14 ls [])) : ∀ (a0 : Nat) (v3 : Int32) (v4 : Int32) (h : Hp) (mc ms : Nat) (cells slots : Nat) (H : Heap) (locs : List Loc) (ls : Array Slot), wp_X6_kernel_79 ev Qr K14 a0 v3 v4 h mc ms → wX D dA ev (AX dA h0 sz) s h H locs → cells + mc ≤ MC ∧ slots + ms ≤ MS → lv_has ls 6 [(0, .ref a0), (3, .int v3), (4, .int v4)] → W p l e (rm_X6_kernel MC MS) s m args below meth c H locs cells slots (MQ below (va_Qi Qr (BX D dA (AX dA h0 sz)) (AX dA h0 sz)) args s MC MS (AX dA h0 sz)) (F0 m 79 ls []) := by
  intro a0 v3 v4 h mc ms cells slots H locs ls hw hM hbud hl
  have hx := C.1
  have hb := C.2.1
  have hown := C.2.2.2.2.2.1
  have hts := C.2.2.2.2.2.2.1
  unfold wp_X6_kernel_79 at hw
  obtain ⟨x1, ex1⟩ : ∃ y : Int32, y = v4 + 1 := ⟨_, rfl⟩
  replace hw := hw x1 ex1
  refine lv_iinc (v := x1) (lv' := [(4, .int x1), (0, .ref a0), (3, .int v3)]) hx hb dX6_kernel_79 hl (k := 2) rfl (by rw [ex1]; rfl) (by decide) rfl (fun ls hl => ?_)
  refine lv_goto (tgt := 14) hx hb dX6_kernel_82 (by decide) ?_
  exact hK14 a0 v3 x1 h mc ms _ _ _ _ ls hw hM hbud (lv_sub hl [1, 2, 0] rfl)
set_option maxHeartbeats 4000000 in
theorem wk_X6_kernel_54 {p : Program} {l : Launch} {e : Env} {s : State} {m : MethodId} {args : Array Value} {below : List Frame} {meth : Method} {c : Code} {D : va_G} {dA : Nat → ClassId} {ev : Nat → Nat} {h0 : Hp} {sz : Nat} {MC MS : Nat} (C : CxM p s m meth c args (AX dA h0 sz) "LeastSolutions$Grower" cX6_kernel 6 (some .boolean)) {Qr : Int32 → Hp → Prop} {K14 : Nat → Int32 → Int32 → Hp → Nat → Nat → Prop} (hK14 : ∀ (a0 : Nat) (v3 : Int32) (v4 : Int32) (h : Hp) (mc ms : Nat) (cells slots : Nat) (H : Heap) (locs : List Loc) (ls : Array Slot), K14 a0 v3 v4 h mc ms → wX D dA ev (AX dA h0 sz) s h H locs → cells + mc ≤ MC ∧ slots + ms ≤ MS → lv_has ls 6 [(0, .ref a0), (3, .int v3), (4, .int v4)] → W p l e (rm_X6_kernel MC MS) s m args below meth c H locs cells slots (MQ below (va_Qi Qr (BX D dA (AX dA h0 sz)) (AX dA h0 sz)) args s MC MS (AX dA h0 sz)) (F0 m 14 ls [])) {K29 : Nat → Int32 → Int32 → Int32 → Hp → Nat → Nat → Prop} (hK29 : ∀ (a0 : Nat) (v3 : Int32) (v4 : Int32) (v5 : Int32) (h : Hp) (mc ms : Nat) (cells slots : Nat) (H : Heap) (locs : List Loc) (ls : Array Slot), K29 a0 v3 v4 v5 h mc ms → wX D dA ev (AX dA h0 sz) s h H locs → cells + mc ≤ MC ∧ slots + ms ≤ MS → lv_has ls 6 [(0, .ref a0), (3, .int v3), (4, .int v4), (5, .int v5)] → W p l e (rm_X6_kernel MC MS) s m args below meth c H locs cells slots (MQ below (va_Qi Qr (BX D dA (AX dA h0 sz)) (AX dA h0 sz)) args s MC MS (AX dA h0 sz)) (F0 m 29 ls [])) : ∀ (a0 : Nat) (v3 : Int32) (v4 : Int32) (v5 : Int32) (u0 : Nat) (u1 : Int32) (u2 : Int32) (h : Hp) (mc ms : Nat) (cells slots : Nat) (H : Heap) (locs : List Loc) (ls : Array Slot), wp_X6_kernel_54 ev Qr K14 K29 a0 v3 v4 v5 u0 u1 u2 h mc ms → wX D dA ev (AX dA h0 sz) s h H locs → cells + mc ≤ MC ∧ slots + ms ≤ MS → lv_has ls 6 [(0, .ref a0), (3, .int v3), (4, .int v4), (5, .int v5)] → W p l e (rm_X6_kernel MC MS) s m args below meth c H locs cells slots (MQ below (va_Qi Qr (BX D dA (AX dA h0 sz)) (AX dA h0 sz)) args s MC MS (AX dA h0 sz)) (F0 m 54 ls [.int u2, .int u1, .ref u0]) := by
  intro a0 v3 v4 v5 u0 u1 u2 h mc ms cells slots H locs ls hw hM hbud hl
  have hx := C.1
  have hb := C.2.1
  have hown := C.2.2.2.2.2.1
  have hts := C.2.2.2.2.2.2.1
  unfold wp_X6_kernel_54 at hw
  have o2 := hw.1
  replace hw := hw.2
  have o3 := hw.1
  replace hw := hw.2
  refine rX_iast C hM o2 o3 dX6_kernel_54 (fun h1 H locs eσ hM => ?_)
  replace hw := hw h1 eσ
  clear eσ
  obtain ⟨x4, ex4⟩ : ∃ y : Int32, y = v5 + 1 := ⟨_, rfl⟩
  replace hw := hw x4 ex4
  refine lv_iinc (v := x4) (lv' := [(5, .int x4), (0, .ref a0), (3, .int v3), (4, .int v4)]) hx hb dX6_kernel_55 hl (k := 3) rfl (by rw [ex4]; rfl) (by decide) rfl (fun ls hl => ?_)
  refine lv_goto (tgt := 29) hx hb dX6_kernel_58 (by decide) ?_
  exact hK29 a0 v3 v4 x4 h1 mc ms _ _ _ _ ls hw hM hbud (lv_sub hl [1, 2, 3, 0] rfl)
set_option maxHeartbeats 4000000 in
theorem wk_X6_kernel_29 {p : Program} {l : Launch} {e : Env} {s : State} {m : MethodId} {args : Array Value} {below : List Frame} {meth : Method} {c : Code} {D : va_G} {dA : Nat → ClassId} {ev : Nat → Nat} {h0 : Hp} {sz : Nat} {MC MS : Nat} (C : CxM p s m meth c args (AX dA h0 sz) "LeastSolutions$Grower" cX6_kernel 6 (some .boolean)) {Qr : Int32 → Hp → Prop} {K14 : Nat → Int32 → Int32 → Hp → Nat → Nat → Prop} (hK14 : ∀ (a0 : Nat) (v3 : Int32) (v4 : Int32) (h : Hp) (mc ms : Nat) (cells slots : Nat) (H : Heap) (locs : List Loc) (ls : Array Slot), K14 a0 v3 v4 h mc ms → wX D dA ev (AX dA h0 sz) s h H locs → cells + mc ≤ MC ∧ slots + ms ≤ MS → lv_has ls 6 [(0, .ref a0), (3, .int v3), (4, .int v4)] → W p l e (rm_X6_kernel MC MS) s m args below meth c H locs cells slots (MQ below (va_Qi Qr (BX D dA (AX dA h0 sz)) (AX dA h0 sz)) args s MC MS (AX dA h0 sz)) (F0 m 14 ls [])) : ∀ (n : Nat) (a0 : Nat) (v3 : Int32) (v4 : Int32) (v5 : Int32) (h : Hp) (mc ms : Nat) (cells slots : Nat) (H : Heap) (locs : List Loc) (ls : Array Slot), wp_X6_kernel_29 ev Qr K14 n a0 v3 v4 v5 h mc ms → wX D dA ev (AX dA h0 sz) s h H locs → cells + mc ≤ MC ∧ slots + ms ≤ MS → lv_has ls 6 [(0, .ref a0), (3, .int v3), (4, .int v4), (5, .int v5)] → W p l e (rm_X6_kernel MC MS) s m args below meth c H locs cells slots (MQ below (va_Qi Qr (BX D dA (AX dA h0 sz)) (AX dA h0 sz)) args s MC MS (AX dA h0 sz)) (F0 m 29 ls []) := by
  intro n
  induction n with
  | zero => intro a0 v3 v4 v5 h mc ms cells slots H locs ls hw; exact hw.elim
  | succ n29 ih =>
    intro a0 v3 v4 v5 h mc ms cells slots H locs ls hw hM hbud hl
    have hx := C.1
    have hb := C.2.1
    have hown := C.2.2.2.2.2.1
    have hts := C.2.2.2.2.2.2.1
    unfold wp_X6_kernel_29 at hw
    refine lv_iload hx hb dX6_kernel_29 (lv_at hl 3 rfl) ?_
    refine lv_bipush (v := 6) hx hb dX6_kernel_31 (by decide) ?_
    refine lv_icmp_ge (tgt := 61) hx hb dX6_kernel_33 (by decide) (fun hc => ?_) (fun hc => ?_)
    · replace hw := hw.1 hc
      refine lv_iload_n hx hb dX6_kernel_61 rfl (lv_at hl 1 rfl) ?_
      refine lv_if_le (tgt := 79) hx hb dX6_kernel_62 (by decide) (fun hc => ?_) (fun hc => ?_)
      · replace hw := hw.1 hc
        exact wk_X6_kernel_79 C hK14 a0 v3 v4 h mc ms _ _ _ _ ls hw hM hbud (lv_sub hl [0, 1, 2] rfl)
      · replace hw := hw.2 hc
        refine lv_aload_n hx hb dX6_kernel_65 rfl (lv_at hl 0 rfl) ?_
        refine lv_aload_n hx hb dX6_kernel_66 rfl (lv_at hl 0 rfl) ?_
        have o1 := hw.1
        replace hw := hw.2
        obtain ⟨b2, ebb2, hw⟩ := hw
        refine rX_getRs C hM 5 7 rfl in_X6 (by decide) (by decide) rfl q388 o1 ebb2 dX6_kernel_67 ?_
        refine lv_iconst (v := 1) hx hb dX6_kernel_70 (by decide) ?_
        refine lv_iload hx hb dX6_kernel_71 (lv_at hl 2 rfl) ?_
        refine lv_ishl hx hb dX6_kernel_73 ?_
        refine lv_iconst (v := 1) hx hb dX6_kernel_74 (by decide) ?_
        refine lv_isub hx hb dX6_kernel_75 ?_
        obtain ⟨c3, d4, mc5, ms6, emc5, ems6, hw⟩ := hw
        have o8 := hw.1
        replace hw := hw.2
        refine rX_gov C hM (runX_V C hM hl.1 5 2 (As := [.ref b2, .int ((1 <<< (v4 &&& 31)) - 1)]) rfl (by decide) o8 (mt_X6_come l D dA ev _ h a0 b2 ((1 <<< (v4 &&& 31)) - 1)  c3 d4 _ hw) (lw_V q944 q946 qs29 q86 q947) rfl rfl (by decide +kernel) ⟨Nat.le_of_ble_eq_true rfl, Nat.le_of_ble_eq_true rfl⟩ rfl (Nat.le_of_ble_eq_true rfl) rfl dX6_kernel_76 ⟨by show cells + c3 ≤ MC; omega, by show slots + d4 ≤ MS; omega⟩) (fun h7 H locs hw hM => ?_)
        have hbud : cells + c3 + mc5 ≤ MC ∧ slots + d4 + ms6 ≤ MS := ⟨by omega, by omega⟩
        exact wk_X6_kernel_79 C hK14 a0 v3 v4 h7 mc5 ms6 _ _ _ _ ls hw hM hbud (lv_sub hl [0, 1, 2] rfl)
    · replace hw := hw.2 hc
      refine lv_aload_n hx hb dX6_kernel_36 rfl (lv_at hl 0 rfl) ?_
      have o9 := hw.1
      replace hw := hw.2
      obtain ⟨b10, ebb10, hw⟩ := hw
      refine rX_getRs C hM 5 7 rfl in_X6 (by decide) (by decide) rfl q388 o9 ebb10 dX6_kernel_37 ?_
      refine lv_iload hx hb dX6_kernel_40 (lv_at hl 3 rfl) ?_
      refine lv_iload hx hb dX6_kernel_42 (lv_at hl 3 rfl) ?_
      refine lv_iload hx hb dX6_kernel_44 (lv_at hl 2 rfl) ?_
      refine lv_icmp_ne (tgt := 53) hx hb dX6_kernel_46 (by decide) (fun hc => ?_) (fun hc => ?_)
      · replace hw := hw.1 hc
        refine lv_iconst (v := 0) hx hb dX6_kernel_53 (by decide) ?_
        exact wk_X6_kernel_54 C hK14 ih a0 v3 v4 v5 b10 v5 0 h mc ms _ _ _ _ ls hw hM hbud (lv_sub hl [0, 1, 2, 3] rfl)
      · replace hw := hw.2 hc
        refine lv_iconst (v := 1) hx hb dX6_kernel_49 (by decide) ?_
        refine lv_goto (tgt := 54) hx hb dX6_kernel_50 (by decide) ?_
        exact wk_X6_kernel_54 C hK14 ih a0 v3 v4 v5 b10 v5 1 h mc ms _ _ _ _ ls hw hM hbud (lv_sub hl [0, 1, 2, 3] rfl)
set_option maxHeartbeats 4000000 in
theorem wk_X6_kernel_14 {p : Program} {l : Launch} {e : Env} {s : State} {m : MethodId} {args : Array Value} {below : List Frame} {meth : Method} {c : Code} {D : va_G} {dA : Nat → ClassId} {ev : Nat → Nat} {h0 : Hp} {sz : Nat} {MC MS : Nat} (C : CxM p s m meth c args (AX dA h0 sz) "LeastSolutions$Grower" cX6_kernel 6 (some .boolean)) {Qr : Int32 → Hp → Prop} : ∀ (n : Nat) (a0 : Nat) (v3 : Int32) (v4 : Int32) (h : Hp) (mc ms : Nat) (cells slots : Nat) (H : Heap) (locs : List Loc) (ls : Array Slot), wp_X6_kernel_14 ev Qr n a0 v3 v4 h mc ms → wX D dA ev (AX dA h0 sz) s h H locs → cells + mc ≤ MC ∧ slots + ms ≤ MS → lv_has ls 6 [(0, .ref a0), (3, .int v3), (4, .int v4)] → W p l e (rm_X6_kernel MC MS) s m args below meth c H locs cells slots (MQ below (va_Qi Qr (BX D dA (AX dA h0 sz)) (AX dA h0 sz)) args s MC MS (AX dA h0 sz)) (F0 m 14 ls []) := by
  intro n
  induction n with
  | zero => intro a0 v3 v4 h mc ms cells slots H locs ls hw; exact hw.elim
  | succ n14 ih =>
    intro a0 v3 v4 h mc ms cells slots H locs ls hw hM hbud hl
    have hx := C.1
    have hb := C.2.1
    have hown := C.2.2.2.2.2.1
    have hts := C.2.2.2.2.2.2.1
    unfold wp_X6_kernel_14 at hw
    refine lv_iload hx hb dX6_kernel_14 (lv_at hl 2 rfl) ?_
    refine lv_aload_n hx hb dX6_kernel_16 rfl (lv_at hl 0 rfl) ?_
    have o1 := hw.1
    replace hw := hw.2
    obtain ⟨b2, ebb2, hw⟩ := hw
    refine rX_getRs C hM 5 0 rfl in_X6 (by decide) (by decide) rfl q380 o1 ebb2 dX6_kernel_17 ?_
    have o3 := hw.1
    replace hw := hw.2
    refine rX_getIN C hM 3 1 rfl in_X4 (by decide) (by decide) rfl q274 o3 dX6_kernel_20 ?_
    refine lv_icmp_ge (tgt := 85) hx hb dX6_kernel_23 (by decide) (fun hc => ?_) (fun hc => ?_)
    · replace hw := hw.1 hc
      refine lv_aload_n hx hb dX6_kernel_85 rfl (lv_at hl 0 rfl) ?_
      refine lv_iconst (v := 1) hx hb dX6_kernel_86 (by decide) ?_
      refine lv_iload_n hx hb dX6_kernel_87 rfl (lv_at hl 1 rfl) ?_
      refine lv_iconst (v := 0) hx hb dX6_kernel_88 (by decide) ?_
      obtain ⟨c4, d5, mc6, ms7, emc6, ems7, hw⟩ := hw
      have o9 := hw.1
      replace hw := hw.2
      refine rX_gov C hM (runX_V C hM hl.1 5 3 (As := [.int 1, .int v3, .int 0]) rfl (by decide) o9 (mt_X6_grow l D dA ev _ h a0 1 v3 0  c4 d5 _ hw) (lw_V q949 q951 qs30 q86 q952) rfl rfl (by decide +kernel) ⟨Nat.le_of_ble_eq_true rfl, Nat.le_of_ble_eq_true rfl⟩ rfl (Nat.le_of_ble_eq_true rfl) rfl dX6_kernel_89 ⟨by show cells + c4 ≤ MC; omega, by show slots + d5 ≤ MS; omega⟩) (fun h8 H locs hw hM => ?_)
      have hbud : cells + c4 + mc6 ≤ MC ∧ slots + d5 + ms7 ≤ MS := ⟨by omega, by omega⟩
      refine lv_aload_n hx hb dX6_kernel_92 rfl (lv_at hl 0 rfl) ?_
      have o10 := hw.1
      replace hw := hw.2
      refine rX_getI C hM 5 10 rfl in_X6 (by decide) (by decide) rfl q391 o10 dX6_kernel_93 ?_
      refine lv_if_ne (tgt := 103) hx hb dX6_kernel_96 (by decide) (fun hc => ?_) (fun hc => ?_)
      · replace hw := hw.1 hc
        refine lv_iconst (v := 0) hx hb dX6_kernel_103 (by decide) ?_
        exact wk_X6_kernel_104 C  a0 0 h8 mc6 ms7 _ _ _ _ ls hw hM hbud (lv_sub hl [0] rfl)
      · replace hw := hw.2 hc
        refine lv_iconst (v := 1) hx hb dX6_kernel_99 (by decide) ?_
        refine lv_goto (tgt := 104) hx hb dX6_kernel_100 (by decide) ?_
        exact wk_X6_kernel_104 C  a0 1 h8 mc6 ms7 _ _ _ _ ls hw hM hbud (lv_sub hl [0] rfl)
    · replace hw := hw.2 hc
      refine lv_iconst (v := 0) hx hb dX6_kernel_26 (by decide) ?_
      refine lv_istore (lv' := [(5, .int 0), (0, .ref a0), (3, .int v3), (4, .int v4)]) hx hb dX6_kernel_27 hl (by decide) rfl (fun ls hl => ?_)
      obtain ⟨n29, hw⟩ := hw
      exact wk_X6_kernel_29 C ih n29 a0 v3 v4 0 h mc ms _ _ _ _ ls hw hM hbud (lv_sub hl [1, 2, 3, 0] rfl)
set_option maxHeartbeats 4000000 in
/-- LeastSolutions$Grower.kernel(LLeastSolutions$Model;II)Z -/
theorem mt_X6_kernel (l : Launch) (D : va_G) (dA : Nat → ClassId) (ev : Nat → Nat) (sz : Nat) (h : Hp) (a0 : Nat) (p1 : Nat) (p2 : Int32) (p3 : Int32) (MC MS : Nat) (Qr : Int32 → Hp → Prop) (hw : wp_X6_kernel ev h a0 p1 p2 p3 MC MS Qr) : Met l yX6_kernel (ws_ yX6_kernel cX6_kernel 6 (some .boolean)) (rm_X6_kernel MC MS) (PcX D dA ev h sz [.ref a0, .ref p1, .int p2, .int p3]) (va_Qi Qr (BX D dA (AX dA h sz)) (AX dA h sz)) MC MS (AX dA h sz) := by
  refine Met.ofW (cc := cX6_kernel) (maxL := 6) (ret := (some .boolean)) (by decide) rfl ?_
  intro p e s m args below meth c s₁ B hml hv
  obtain ⟨rfl, hsz, hP, hK, hD0, hE⟩ := hv
  subst hsz
  have hts0 := atoms_spec (ws := ws_ yX6_kernel cX6_kernel 6 (some .boolean)) B.pre
  have C : CxM p s m meth c _ (AX dA h s.heap.size) "LeastSolutions$Grower" cX6_kernel 6 (some .boolean) := ⟨B.exec, B.bytes, B.returns, B.notSynchronized, hml, findClass_of_methodNamed B.named, fun w h => hts0 w (List.mem_cons_of_mem _ h), fun q h => Or.inr h⟩
  have hM : wX D dA ev (AX dA h s.heap.size) s h s.heap [] := ⟨hK, hP, hD0.self, va_S.rf, hE⟩
  have hx := C.1
  have hb := C.2.1
  have hown := C.2.2.2.2.2.1
  have hts := C.2.2.2.2.2.2.1
  have hl := lv_entry ([.ref a0, .ref p1, .int p2, .int p3]) (n := 6) (Nat.le_of_ble_eq_true rfl)
  rw [lg_entry_eq]
  generalize (lg_sl ([.ref a0, .ref p1, .int p2, .int p3]) ++ List.replicate (6 - (lg_sl ([.ref a0, .ref p1, .int p2, .int p3])).length) Slot.unset).toArray = ls at hl ⊢
  have hl : lv_has ls 6 [(0, .ref a0), (1, .ref p1), (2, .int p2), (3, .int p3)] := hl
  have hbud : 0 + MC ≤ MC ∧ 0 + MS ≤ MS := ⟨by omega, by omega⟩
  unfold wp_X6_kernel at hw
  refine lv_aload_n hx hb dX6_kernel_0 rfl (lv_at hl 0 rfl) ?_
  refine lv_aload_n hx hb dX6_kernel_1 rfl (lv_at hl 1 rfl) ?_
  refine lv_iload_n hx hb dX6_kernel_2 rfl (lv_at hl 2 rfl) ?_
  obtain ⟨c1, d2, mc3, ms4, emc3, ems4, hw⟩ := hw
  have o6 := hw.1
  replace hw := hw.2
  refine rX_gov C hM (runX_V C hM hl.1 5 2 (As := [.ref p1, .int p2]) rfl (by decide) o6 (mt_X6_begin l D dA ev _ h a0 p1 p2  c1 d2 _ hw) (lw_V q939 q941 qs28 q86 q942) rfl rfl (by decide +kernel) ⟨Nat.le_of_ble_eq_true rfl, Nat.le_of_ble_eq_true rfl⟩ rfl (Nat.le_of_ble_eq_true rfl) rfl dX6_kernel_3 ⟨by show 0 + c1 ≤ MC; omega, by show 0 + d2 ≤ MS; omega⟩) (fun h5 H locs hw hM => ?_)
  have hbud : 0 + c1 + mc3 ≤ MC ∧ 0 + d2 + ms4 ≤ MS := ⟨by omega, by omega⟩
  refine lv_aload_n hx hb dX6_kernel_6 rfl (lv_at hl 0 rfl) ?_
  refine lv_null hx hb dX6_kernel_7 ?_
  have o8 := hw.1
  replace hw := hw.2
  refine rX_putR C hM 5 9 rfl in_X6 (by decide) (by decide) rfl rfl q390 o8 (x := none) tyX6 tyX6_ok nmX6 rfl rfl rfl dX6_kernel_8 (fun h7 H locs eσ hM => ?_)
  replace hw := hw h7 eσ
  clear eσ
  refine lv_iconst (v := 0) hx hb dX6_kernel_11 (by decide) ?_
  refine lv_istore (lv' := [(4, .int 0), (0, .ref a0), (1, .ref p1), (2, .int p2), (3, .int p3)]) hx hb dX6_kernel_12 hl (by decide) rfl (fun ls hl => ?_)
  obtain ⟨n14, hw⟩ := hw
  exact wk_X6_kernel_14 C  n14 a0 p3 0 h7 mc3 ms4 _ _ _ _ ls hw hM hbud (lv_sub hl [1, 4, 0] rfl)
abbrev rm_X6_solutions (MC MS : Nat) : Room := { frames := 10, cells := MC, slots := MS, locals := 266 }
set_option maxHeartbeats 4000000 in
theorem wk_X6_solutions_63 {p : Program} {l : Launch} {e : Env} {s : State} {m : MethodId} {args : Array Value} {below : List Frame} {meth : Method} {c : Code} {D : va_G} {dA : Nat → ClassId} {ev : Nat → Nat} {h0 : Hp} {sz : Nat} {MC MS : Nat} (C : CxM p s m meth c args (AX dA h0 sz) "LeastSolutions$Grower" cX6_solutions 5 (some .boolean)) {Qr : Int32 → Hp → Prop} : ∀ (a0 : Nat) (u0 : Int32) (h : Hp) (mc ms : Nat) (cells slots : Nat) (H : Heap) (locs : List Loc) (ls : Array Slot), wp_X6_solutions_63 ev Qr a0 u0 h mc ms → wX D dA ev (AX dA h0 sz) s h H locs → cells + mc ≤ MC ∧ slots + ms ≤ MS → lv_has ls 5 [(0, .ref a0)] → W p l e (rm_X6_solutions MC MS) s m args below meth c H locs cells slots (MQ below (va_Qi Qr (BX D dA (AX dA h0 sz)) (AX dA h0 sz)) args s MC MS (AX dA h0 sz)) (F0 m 63 ls [.int u0]) := by
  intro a0 u0 h mc ms cells slots H locs ls hw hM hbud hl
  have hx := C.1
  have hb := C.2.1
  have hown := C.2.2.2.2.2.1
  have hts := C.2.2.2.2.2.2.1
  unfold wp_X6_solutions_63 at hw
  exact rX_zret C hM ⟨by show cells ≤ MC; omega, by show slots ≤ MS; omega⟩ hw dX6_solutions_63
set_option maxHeartbeats 4000000 in
theorem wk_X6_solutions_14 {p : Program} {l : Launch} {e : Env} {s : State} {m : MethodId} {args : Array Value} {below : List Frame} {meth : Method} {c : Code} {D : va_G} {dA : Nat → ClassId} {ev : Nat → Nat} {h0 : Hp} {sz : Nat} {MC MS : Nat} (C : CxM p s m meth c args (AX dA h0 sz) "LeastSolutions$Grower" cX6_solutions 5 (some .boolean)) {Qr : Int32 → Hp → Prop} : ∀ (n : Nat) (a0 : Nat) (v3 : Int32) (v4 : Int32) (h : Hp) (mc ms : Nat) (cells slots : Nat) (H : Heap) (locs : List Loc) (ls : Array Slot), wp_X6_solutions_14 ev Qr n a0 v3 v4 h mc ms → wX D dA ev (AX dA h0 sz) s h H locs → cells + mc ≤ MC ∧ slots + ms ≤ MS → lv_has ls 5 [(0, .ref a0), (3, .int v3), (4, .int v4)] → W p l e (rm_X6_solutions MC MS) s m args below meth c H locs cells slots (MQ below (va_Qi Qr (BX D dA (AX dA h0 sz)) (AX dA h0 sz)) args s MC MS (AX dA h0 sz)) (F0 m 14 ls []) := by
  intro n
  induction n with
  | zero => intro a0 v3 v4 h mc ms cells slots H locs ls hw; exact hw.elim
  | succ n14 ih =>
    intro a0 v3 v4 h mc ms cells slots H locs ls hw hM hbud hl
    have hx := C.1
    have hb := C.2.1
    have hown := C.2.2.2.2.2.1
    have hts := C.2.2.2.2.2.2.1
    unfold wp_X6_solutions_14 at hw
    refine lv_iload hx hb dX6_solutions_14 (lv_at hl 2 rfl) ?_
    refine lv_bipush (v := 6) hx hb dX6_solutions_16 (by decide) ?_
    refine lv_icmp_ge (tgt := 35) hx hb dX6_solutions_18 (by decide) (fun hc => ?_) (fun hc => ?_)
    · replace hw := hw.1 hc
      refine lv_aload_n hx hb dX6_solutions_35 rfl (lv_at hl 0 rfl) ?_
      refine lv_aload_n hx hb dX6_solutions_36 rfl (lv_at hl 0 rfl) ?_
      have o1 := hw.1
      replace hw := hw.2
      obtain ⟨b2, ebb2, hw⟩ := hw
      refine rX_getRs C hM 5 7 rfl in_X6 (by decide) (by decide) rfl q388 o1 ebb2 dX6_solutions_37 ?_
      refine lv_iconst (v := 0) hx hb dX6_solutions_40 (by decide) ?_
      obtain ⟨c3, d4, mc5, ms6, emc5, ems6, hw⟩ := hw
      have o8 := hw.1
      replace hw := hw.2
      refine rX_gov C hM (runX_V C hM hl.1 5 2 (As := [.ref b2, .int 0]) rfl (by decide) o8 (mt_X6_come l D dA ev _ h a0 b2 0  c3 d4 _ hw) (lw_V q944 q946 qs29 q86 q947) rfl rfl (by decide +kernel) ⟨Nat.le_of_ble_eq_true rfl, Nat.le_of_ble_eq_true rfl⟩ rfl (Nat.le_of_ble_eq_true rfl) rfl dX6_solutions_41 ⟨by show cells + c3 ≤ MC; omega, by show slots + d4 ≤ MS; omega⟩) (fun h7 H locs hw hM => ?_)
      have hbud : cells + c3 + mc5 ≤ MC ∧ slots + d4 + ms6 ≤ MS := ⟨by omega, by omega⟩
      refine lv_aload_n hx hb dX6_solutions_44 rfl (lv_at hl 0 rfl) ?_
      refine lv_iconst (v := 0) hx hb dX6_solutions_45 (by decide) ?_
      refine lv_iload_n hx hb dX6_solutions_46 rfl (lv_at hl 1 rfl) ?_
      refine lv_iconst (v := 1) hx hb dX6_solutions_47 (by decide) ?_
      obtain ⟨c9, d10, mc11, ms12, emc11, ems12, hw⟩ := hw
      have o14 := hw.1
      replace hw := hw.2
      refine rX_gov C hM (runX_V C hM hl.1 5 3 (As := [.int 0, .int v3, .int 1]) rfl (by decide) o14 (mt_X6_grow l D dA ev _ h7 a0 0 v3 1  c9 d10 _ hw) (lw_V q949 q951 qs30 q86 q952) rfl rfl (by decide +kernel) ⟨Nat.le_of_ble_eq_true rfl, Nat.le_of_ble_eq_true rfl⟩ rfl (Nat.le_of_ble_eq_true rfl) rfl dX6_solutions_48 ⟨by show cells + c3 + c9 ≤ MC; omega, by show slots + d4 + d10 ≤ MS; omega⟩) (fun h13 H locs hw hM => ?_)
      have hbud : cells + c3 + c9 + mc11 ≤ MC ∧ slots + d4 + d10 + ms12 ≤ MS := ⟨by omega, by omega⟩
      refine lv_aload_n hx hb dX6_solutions_51 rfl (lv_at hl 0 rfl) ?_
      have o15 := hw.1
      replace hw := hw.2
      refine rX_getI C hM 5 10 rfl in_X6 (by decide) (by decide) rfl q391 o15 dX6_solutions_52 ?_
      refine lv_if_ne (tgt := 62) hx hb dX6_solutions_55 (by decide) (fun hc => ?_) (fun hc => ?_)
      · replace hw := hw.1 hc
        refine lv_iconst (v := 0) hx hb dX6_solutions_62 (by decide) ?_
        exact wk_X6_solutions_63 C  a0 0 h13 mc11 ms12 _ _ _ _ ls hw hM hbud (lv_sub hl [0] rfl)
      · replace hw := hw.2 hc
        refine lv_iconst (v := 1) hx hb dX6_solutions_58 (by decide) ?_
        refine lv_goto (tgt := 63) hx hb dX6_solutions_59 (by decide) ?_
        exact wk_X6_solutions_63 C  a0 1 h13 mc11 ms12 _ _ _ _ ls hw hM hbud (lv_sub hl [0] rfl)
    · replace hw := hw.2 hc
      refine lv_aload_n hx hb dX6_solutions_21 rfl (lv_at hl 0 rfl) ?_
      have o16 := hw.1
      replace hw := hw.2
      obtain ⟨b17, ebb17, hw⟩ := hw
      refine rX_getRs C hM 5 7 rfl in_X6 (by decide) (by decide) rfl q388 o16 ebb17 dX6_solutions_22 ?_
      refine lv_iload hx hb dX6_solutions_25 (lv_at hl 2 rfl) ?_
      refine lv_iconst (v := 0) hx hb dX6_solutions_27 (by decide) ?_
      have o19 := hw.1
      replace hw := hw.2
      have o20 := hw.1
      replace hw := hw.2
      refine rX_iast C hM o19 o20 dX6_solutions_28 (fun h18 H locs eσ hM => ?_)
      replace hw := hw h18 eσ
      clear eσ
      obtain ⟨x21, ex21⟩ : ∃ y : Int32, y = v4 + 1 := ⟨_, rfl⟩
      replace hw := hw x21 ex21
      refine lv_iinc (v := x21) (lv' := [(4, .int x21), (0, .ref a0), (3, .int v3)]) hx hb dX6_solutions_29 hl (k := 2) rfl (by rw [ex21]; rfl) (by decide) rfl (fun ls hl => ?_)
      refine lv_goto (tgt := 14) hx hb dX6_solutions_32 (by decide) ?_
      exact ih a0 v3 x21 h18 mc ms _ _ _ _ ls hw hM hbud (lv_sub hl [1, 2, 0] rfl)
set_option maxHeartbeats 4000000 in
/-- LeastSolutions$Grower.solutions(LLeastSolutions$Model;LLeastSolutions$Shelf;I)Z -/
theorem mt_X6_solutions (l : Launch) (D : va_G) (dA : Nat → ClassId) (ev : Nat → Nat) (sz : Nat) (h : Hp) (a0 : Nat) (p1 : Nat) (p2 : Nat) (p3 : Int32) (MC MS : Nat) (Qr : Int32 → Hp → Prop) (hw : wp_X6_solutions ev h a0 p1 p2 p3 MC MS Qr) : Met l yX6_solutions (ws_ yX6_solutions cX6_solutions 5 (some .boolean)) (rm_X6_solutions MC MS) (PcX D dA ev h sz [.ref a0, .ref p1, .ref p2, .int p3]) (va_Qi Qr (BX D dA (AX dA h sz)) (AX dA h sz)) MC MS (AX dA h sz) := by
  refine Met.ofW (cc := cX6_solutions) (maxL := 5) (ret := (some .boolean)) (by decide) rfl ?_
  intro p e s m args below meth c s₁ B hml hv
  obtain ⟨rfl, hsz, hP, hK, hD0, hE⟩ := hv
  subst hsz
  have hts0 := atoms_spec (ws := ws_ yX6_solutions cX6_solutions 5 (some .boolean)) B.pre
  have C : CxM p s m meth c _ (AX dA h s.heap.size) "LeastSolutions$Grower" cX6_solutions 5 (some .boolean) := ⟨B.exec, B.bytes, B.returns, B.notSynchronized, hml, findClass_of_methodNamed B.named, fun w h => hts0 w (List.mem_cons_of_mem _ h), fun q h => Or.inr h⟩
  have hM : wX D dA ev (AX dA h s.heap.size) s h s.heap [] := ⟨hK, hP, hD0.self, va_S.rf, hE⟩
  have hx := C.1
  have hb := C.2.1
  have hown := C.2.2.2.2.2.1
  have hts := C.2.2.2.2.2.2.1
  have hl := lv_entry ([.ref a0, .ref p1, .ref p2, .int p3]) (n := 5) (Nat.le_of_ble_eq_true rfl)
  rw [lg_entry_eq]
  generalize (lg_sl ([.ref a0, .ref p1, .ref p2, .int p3]) ++ List.replicate (5 - (lg_sl ([.ref a0, .ref p1, .ref p2, .int p3])).length) Slot.unset).toArray = ls at hl ⊢
  have hl : lv_has ls 5 [(0, .ref a0), (1, .ref p1), (2, .ref p2), (3, .int p3)] := hl
  have hbud : 0 + MC ≤ MC ∧ 0 + MS ≤ MS := ⟨by omega, by omega⟩
  unfold wp_X6_solutions at hw
  refine lv_aload_n hx hb dX6_solutions_0 rfl (lv_at hl 0 rfl) ?_
  refine lv_aload_n hx hb dX6_solutions_1 rfl (lv_at hl 1 rfl) ?_
  refine lv_iconst (v := 0) hx hb dX6_solutions_2 (by decide) ?_
  obtain ⟨c1, d2, mc3, ms4, emc3, ems4, hw⟩ := hw
  have o6 := hw.1
  replace hw := hw.2
  refine rX_gov C hM (runX_V C hM hl.1 5 2 (As := [.ref p1, .int 0]) rfl (by decide) o6 (mt_X6_begin l D dA ev _ h a0 p1 0  c1 d2 _ hw) (lw_V q939 q941 qs28 q86 q942) rfl rfl (by decide +kernel) ⟨Nat.le_of_ble_eq_true rfl, Nat.le_of_ble_eq_true rfl⟩ rfl (Nat.le_of_ble_eq_true rfl) rfl dX6_solutions_3 ⟨by show 0 + c1 ≤ MC; omega, by show 0 + d2 ≤ MS; omega⟩) (fun h5 H locs hw hM => ?_)
  have hbud : 0 + c1 + mc3 ≤ MC ∧ 0 + d2 + ms4 ≤ MS := ⟨by omega, by omega⟩
  refine lv_aload_n hx hb dX6_solutions_6 rfl (lv_at hl 0 rfl) ?_
  refine lv_aload_n hx hb dX6_solutions_7 rfl (lv_at hl 2 rfl) ?_
  have o8 := hw.1
  replace hw := hw.2
  refine rX_putR C hM 5 9 rfl in_X6 (by decide) (by decide) rfl rfl q390 o8 (x := (some p2)) tyX6 tyX6_ok nmX6 rfl rfl rfl dX6_solutions_8 (fun h7 H locs eσ hM => ?_)
  replace hw := hw h7 eσ
  clear eσ
  refine lv_iconst (v := 0) hx hb dX6_solutions_11 (by decide) ?_
  refine lv_istore (lv' := [(4, .int 0), (0, .ref a0), (1, .ref p1), (2, .ref p2), (3, .int p3)]) hx hb dX6_solutions_12 hl (by decide) rfl (fun ls hl => ?_)
  obtain ⟨n14, hw⟩ := hw
  exact wk_X6_solutions_14 C  n14 a0 p3 0 h7 mc3 ms4 _ _ _ _ ls hw hM hbud (lv_sub hl [1, 4, 0] rfl)
abbrev rm_X1_copy (MC MS : Nat) : Room := { frames := 8, cells := MC, slots := MS, locals := 218 }
set_option maxHeartbeats 4000000 in
/-- LeastSolutions.copy(ILLeastSolutions$Shelf;I)V -/
theorem mt_X1_copy (l : Launch) (D : va_G) (dA : Nat → ClassId) (ev : Nat → Nat) (sz : Nat) (h : Hp) (a0 : Nat) (p1 : Int32) (p2 : Nat) (p3 : Int32) (MC MS : Nat) (Qr : Hp → Prop) (hw : wp_X1_copy ev h a0 p1 p2 p3 MC MS Qr) : Met l yX1_copy (ws_ yX1_copy cX1_copy 4 none) (rm_X1_copy MC MS) (PcX D dA ev h sz [.ref a0, .int p1, .ref p2, .int p3]) (va_Qv Qr (BX D dA (AX dA h sz)) (AX dA h sz)) MC MS (AX dA h sz) := by
  refine Met.ofW (cc := cX1_copy) (maxL := 4) (ret := none) (by decide) rfl ?_
  intro p e s m args below meth c s₁ B hml hv
  obtain ⟨rfl, hsz, hP, hK, hD0, hE⟩ := hv
  subst hsz
  have hts0 := atoms_spec (ws := ws_ yX1_copy cX1_copy 4 none) B.pre
  have C : CxM p s m meth c _ (AX dA h s.heap.size) "LeastSolutions" cX1_copy 4 none := ⟨B.exec, B.bytes, B.returns, B.notSynchronized, hml, findClass_of_methodNamed B.named, fun w h => hts0 w (List.mem_cons_of_mem _ h), fun q h => Or.inr h⟩
  have hM : wX D dA ev (AX dA h s.heap.size) s h s.heap [] := ⟨hK, hP, hD0.self, va_S.rf, hE⟩
  have hx := C.1
  have hb := C.2.1
  have hown := C.2.2.2.2.2.1
  have hts := C.2.2.2.2.2.2.1
  have hl := lv_entry ([.ref a0, .int p1, .ref p2, .int p3]) (n := 4) (Nat.le_of_ble_eq_true rfl)
  rw [lg_entry_eq]
  generalize (lg_sl ([.ref a0, .int p1, .ref p2, .int p3]) ++ List.replicate (4 - (lg_sl ([.ref a0, .int p1, .ref p2, .int p3])).length) Slot.unset).toArray = ls at hl ⊢
  have hl : lv_has ls 4 [(0, .ref a0), (1, .int p1), (2, .ref p2), (3, .int p3)] := hl
  have hbud : 0 + MC ≤ MC ∧ 0 + MS ≤ MS := ⟨by omega, by omega⟩
  unfold wp_X1_copy at hw
  refine lv_aload_n hx hb dX1_copy_0 rfl (lv_at hl 0 rfl) ?_
  have o1 := hw.1
  replace hw := hw.2
  obtain ⟨b2, ebb2, hw⟩ := hw
  refine rX_getRs C hM 0 5 rfl in_X1 (by decide) (by decide) rfl q468 o1 ebb2 dX1_copy_1 ?_
  have o3 := hw.1
  replace hw := hw.2
  obtain ⟨b4, ebb4, hw⟩ := hw
  refine rX_getRsN C hM 5 2 rfl in_X6 (by decide) (by decide) rfl q383 o3 ebb4 dX1_copy_4 ?_
  refine lv_iload_n hx hb dX1_copy_7 rfl (lv_at hl 1 rfl) ?_
  have o7 := hw.1
  replace hw := hw.2
  refine rX_goq C hM (runX_V C hM hl.1 6 1 (As := [.int p1]) rfl (by decide) o7 (mt_X7_get l D dA ev _ h b4 p1  _ hw) (lw_V q809 q810 q811 q87 q812) rfl rfl (by decide +kernel) ⟨Nat.le_of_ble_eq_true rfl, Nat.le_of_ble_eq_true rfl⟩ rfl (Nat.le_of_ble_eq_true rfl) rfl dX1_copy_8 ⟨by show 0 + 0 ≤ MC; omega, by show 0 + 0 ≤ MS; omega⟩) (fun r6 h5 H locs hw hM => ?_)
  have o8 := hw.1
  replace hw := hw.2
  refine rX_castS (r := r6) C hM 10 rfl (by decide) q813 o8 dX1_copy_11 ?_
  refine lv_aload_n hx hb dX1_copy_14 rfl (lv_at hl 0 rfl) ?_
  have o9 := hw.1
  replace hw := hw.2
  obtain ⟨b10, ebb10, hw⟩ := hw
  refine rX_getRs C hM 0 15 rfl in_X1 (by decide) (by decide) rfl q478 o9 ebb10 dX1_copy_15 ?_
  obtain ⟨b11, eb, hw⟩ := hw
  subst eb
  have o13 := hw.1
  replace hw := hw.2
  refine rX_gov C hM (runX_V C hM hl.1 10 1 (As := [.ref b10]) rfl (by decide) o13 (mt_X11_show l D dA ev _ h5 b11 b10  _ hw) (lw_V q1292 q1293 q1294 q104 q1295) rfl rfl (by decide +kernel) ⟨Nat.le_of_ble_eq_true rfl, Nat.le_of_ble_eq_true rfl⟩ rfl (Nat.le_of_ble_eq_true rfl) rfl dX1_copy_18 ⟨by show 0 + 0 ≤ MC; omega, by show 0 + 0 ≤ MS; omega⟩) (fun h12 H locs hw hM => ?_)
  refine lv_aload_n hx hb dX1_copy_21 rfl (lv_at hl 2 rfl) ?_
  refine lv_aload_n hx hb dX1_copy_22 rfl (lv_at hl 0 rfl) ?_
  have o14 := hw.1
  replace hw := hw.2
  obtain ⟨b15, ebb15, hw⟩ := hw
  refine rX_getRs C hM 0 15 rfl in_X1 (by decide) (by decide) rfl q478 o14 ebb15 dX1_copy_23 ?_
  refine lv_iload_n hx hb dX1_copy_26 rfl (lv_at hl 3 rfl) ?_
  obtain ⟨c16, d17, mc18, ms19, emc18, ems19, hw⟩ := hw
  refine rX_gov C hM (runX_S C hM hl.1 3 (As := [.ref p2, .ref b15, .int p3]) (mt_X1_keep l D dA ev _ h12 p2 b15 p3  c16 d17 _ hw) (lw_S q1296 q974 q75 q975) rfl rfl (by decide +kernel) ⟨Nat.le_of_ble_eq_true rfl, Nat.le_of_ble_eq_true rfl⟩ rfl (Nat.le_of_ble_eq_true rfl) rfl dX1_copy_27 ⟨by show 0 + c16 ≤ MC; omega, by show 0 + d17 ≤ MS; omega⟩) (fun h20 H locs hw hM => ?_)
  have hbud : 0 + c16 + mc18 ≤ MC ∧ 0 + d17 + ms19 ≤ MS := ⟨by omega, by omega⟩
  exact rX_vret C hM ⟨by show 0 + c16 ≤ MC; omega, by show 0 + d17 ≤ MS; omega⟩ hw dX1_copy_30
abbrev rm_X1_summands (MC MS : Nat) : Room := { frames := 11, cells := MC, slots := MS, locals := 291 }
set_option maxHeartbeats 4000000 in
theorem wk_X1_summands_53 {p : Program} {l : Launch} {e : Env} {s : State} {m : MethodId} {args : Array Value} {below : List Frame} {meth : Method} {c : Code} {D : va_G} {dA : Nat → ClassId} {ev : Nat → Nat} {h0 : Hp} {sz : Nat} {MC MS : Nat} (C : CxM p s m meth c args (AX dA h0 sz) "LeastSolutions" cX1_summands 5 (some .boolean)) {Qr : Int32 → Hp → Prop} : ∀ (a0 : Nat) (v3 : Int32) (h : Hp) (mc ms : Nat) (cells slots : Nat) (H : Heap) (locs : List Loc) (ls : Array Slot), wp_X1_summands_53 ev Qr a0 v3 h mc ms → wX D dA ev (AX dA h0 sz) s h H locs → cells + mc ≤ MC ∧ slots + ms ≤ MS → lv_has ls 5 [(0, .ref a0), (3, .int v3)] → W p l e (rm_X1_summands MC MS) s m args below meth c H locs cells slots (MQ below (va_Qi Qr (BX D dA (AX dA h0 sz)) (AX dA h0 sz)) args s MC MS (AX dA h0 sz)) (F0 m 53 ls []) := by
  intro a0 v3 h mc ms cells slots H locs ls hw hM hbud hl
  have hx := C.1
  have hb := C.2.1
  have hown := C.2.2.2.2.2.1
  have hts := C.2.2.2.2.2.2.1
  unfold wp_X1_summands_53 at hw
  refine lv_iload_n hx hb dX1_summands_53 rfl (lv_at hl 1 rfl) ?_
  exact rX_zret C hM ⟨by show cells ≤ MC; omega, by show slots ≤ MS; omega⟩ hw dX1_summands_54
set_option maxHeartbeats 4000000 in
theorem wk_X1_summands_17 {p : Program} {l : Launch} {e : Env} {s : State} {m : MethodId} {args : Array Value} {below : List Frame} {meth : Method} {c : Code} {D : va_G} {dA : Nat → ClassId} {ev : Nat → Nat} {h0 : Hp} {sz : Nat} {MC MS : Nat} (C : CxM p s m meth c args (AX dA h0 sz) "LeastSolutions" cX1_summands 5 (some .boolean)) {Qr : Int32 → Hp → Prop} : ∀ (n : Nat) (a0 : Nat) (v1 : Nat) (v3 : Int32) (v4 : Int32) (h : Hp) (mc ms : Nat) (cells slots : Nat) (H : Heap) (locs : List Loc) (ls : Array Slot), wp_X1_summands_17 ev Qr n a0 v1 v3 v4 h mc ms → wX D dA ev (AX dA h0 sz) s h H locs → cells + mc ≤ MC ∧ slots + ms ≤ MS → lv_has ls 5 [(0, .ref a0), (1, .ref v1), (3, .int v3), (4, .int v4)] → W p l e (rm_X1_summands MC MS) s m args below meth c H locs cells slots (MQ below (va_Qi Qr (BX D dA (AX dA h0 sz)) (AX dA h0 sz)) args s MC MS (AX dA h0 sz)) (F0 m 17 ls []) := by
  intro n
  induction n with
  | zero => intro a0 v1 v3 v4 h mc ms cells slots H locs ls hw; exact hw.elim
  | succ n17 ih =>
    intro a0 v1 v3 v4 h mc ms cells slots H locs ls hw hM hbud hl
    have hx := C.1
    have hb := C.2.1
    have hown := C.2.2.2.2.2.1
    have hts := C.2.2.2.2.2.2.1
    unfold wp_X1_summands_17 at hw
    refine lv_iload hx hb dX1_summands_17 (lv_at hl 3 rfl) ?_
    refine lv_aload_n hx hb dX1_summands_19 rfl (lv_at hl 0 rfl) ?_
    have o1 := hw.1
    replace hw := hw.2
    obtain ⟨b2, ebb2, hw⟩ := hw
    refine rX_getRs C hM 0 5 rfl in_X1 (by decide) (by decide) rfl q468 o1 ebb2 dX1_summands_20 ?_
    have o3 := hw.1
    replace hw := hw.2
    obtain ⟨b4, ebb4, hw⟩ := hw
    refine rX_getRsN C hM 5 2 rfl in_X6 (by decide) (by decide) rfl q383 o3 ebb4 dX1_summands_23 ?_
    have o7 := hw.1
    replace hw := hw.2
    refine rX_goi C hM (runX_V C hM hl.1 6 0 (As := []) rfl (by decide) o7 (mt_X7_size l D dA ev _ h b4  _ hw) (lw_V q821 q822 q823 q87 q824) rfl rfl (by decide +kernel) ⟨Nat.le_of_ble_eq_true rfl, Nat.le_of_ble_eq_true rfl⟩ rfl (Nat.le_of_ble_eq_true rfl) rfl dX1_summands_26 ⟨by show cells + 0 ≤ MC; omega, by show slots + 0 ≤ MS; omega⟩) (fun x6 h5 H locs hw hM => ?_)
    refine lv_icmp_ge (tgt := 53) hx hb dX1_summands_29 (by decide) (fun hc => ?_) (fun hc => ?_)
    · replace hw := hw.1 hc
      exact wk_X1_summands_53 C  a0 v3 h5 mc ms _ _ _ _ ls hw hM hbud (lv_sub hl [0, 2] rfl)
    · replace hw := hw.2 hc
      refine lv_iload_n hx hb dX1_summands_32 rfl (lv_at hl 2 rfl) ?_
      refine lv_if_eq (tgt := 53) hx hb dX1_summands_33 (by decide) (fun hc => ?_) (fun hc => ?_)
      · replace hw := hw.1 hc
        exact wk_X1_summands_53 C  a0 v3 h5 mc ms _ _ _ _ ls hw hM hbud (lv_sub hl [0, 2] rfl)
      · replace hw := hw.2 hc
        refine lv_aload_n hx hb dX1_summands_36 rfl (lv_at hl 0 rfl) ?_
        refine lv_iload hx hb dX1_summands_37 (lv_at hl 3 rfl) ?_
        refine lv_aload_n hx hb dX1_summands_39 rfl (lv_at hl 1 rfl) ?_
        have o8 := hw.1
        replace hw := hw.2
        obtain ⟨b9, ebb9, hw⟩ := hw
        refine rX_getRsN C hM 8 0 rfl in_X9 (by decide) (by decide) rfl q453 o8 ebb9 dX1_summands_40 ?_
        refine lv_iconst (v := 0) hx hb dX1_summands_43 (by decide) ?_
        obtain ⟨c10, d11, mc12, ms13, emc12, ems13, hw⟩ := hw
        have o15 := hw.1
        replace hw := hw.2
        refine rX_gov C hM (runX_V C hM hl.1 0 3 (As := [.int v4, .ref b9, .int 0]) rfl (by decide) o15 (mt_X1_copy l D dA ev _ h5 a0 v4 b9 0  c10 d11 _ hw) (lw_V q1288 q1290 qs40 q75 q1291) rfl rfl (by decide +kernel) ⟨Nat.le_of_ble_eq_true rfl, Nat.le_of_ble_eq_true rfl⟩ rfl (Nat.le_of_ble_eq_true rfl) rfl dX1_summands_44 ⟨by show cells + c10 ≤ MC; omega, by show slots + d11 ≤ MS; omega⟩) (fun h14 H locs hw hM => ?_)
        have hbud : cells + c10 + mc12 ≤ MC ∧ slots + d11 + ms13 ≤ MS := ⟨by omega, by omega⟩
        obtain ⟨x16, ex16⟩ : ∃ y : Int32, y = v4 + 1 := ⟨_, rfl⟩
        replace hw := hw x16 ex16
        refine lv_iinc (v := x16) (lv' := [(4, .int x16), (0, .ref a0), (1, .ref v1), (3, .int v3)]) hx hb dX1_summands_47 hl (k := 3) rfl (by rw [ex16]; rfl) (by decide) rfl (fun ls hl => ?_)
        refine lv_goto (tgt := 17) hx hb dX1_summands_50 (by decide) ?_
        exact ih a0 v1 v3 x16 h14 mc12 ms13 _ _ _ _ ls hw hM hbud (lv_sub hl [1, 2, 3, 0] rfl)
set_option maxHeartbeats 4000000 in
/-- LeastSolutions.summands(LLeastSolutions$Found;I)Z -/
theorem mt_X1_summands (l : Launch) (D : va_G) (dA : Nat → ClassId) (ev : Nat → Nat) (sz : Nat) (h : Hp) (a0 : Nat) (p1 : Nat) (p2 : Int32) (MC MS : Nat) (Qr : Int32 → Hp → Prop) (hw : wp_X1_summands ev h a0 p1 p2 MC MS Qr) : Met l yX1_summands (ws_ yX1_summands cX1_summands 5 (some .boolean)) (rm_X1_summands MC MS) (PcX D dA ev h sz [.ref a0, .ref p1, .int p2]) (va_Qi Qr (BX D dA (AX dA h sz)) (AX dA h sz)) MC MS (AX dA h sz) := by
  refine Met.ofW (cc := cX1_summands) (maxL := 5) (ret := (some .boolean)) (by decide) rfl ?_
  intro p e s m args below meth c s₁ B hml hv
  obtain ⟨rfl, hsz, hP, hK, hD0, hE⟩ := hv
  subst hsz
  have hts0 := atoms_spec (ws := ws_ yX1_summands cX1_summands 5 (some .boolean)) B.pre
  have C : CxM p s m meth c _ (AX dA h s.heap.size) "LeastSolutions" cX1_summands 5 (some .boolean) := ⟨B.exec, B.bytes, B.returns, B.notSynchronized, hml, findClass_of_methodNamed B.named, fun w h => hts0 w (List.mem_cons_of_mem _ h), fun q h => Or.inr h⟩
  have hM : wX D dA ev (AX dA h s.heap.size) s h s.heap [] := ⟨hK, hP, hD0.self, va_S.rf, hE⟩
  have hx := C.1
  have hb := C.2.1
  have hown := C.2.2.2.2.2.1
  have hts := C.2.2.2.2.2.2.1
  have hl := lv_entry ([.ref a0, .ref p1, .int p2]) (n := 5) (Nat.le_of_ble_eq_true rfl)
  rw [lg_entry_eq]
  generalize (lg_sl ([.ref a0, .ref p1, .int p2]) ++ List.replicate (5 - (lg_sl ([.ref a0, .ref p1, .int p2])).length) Slot.unset).toArray = ls at hl ⊢
  have hl : lv_has ls 5 [(0, .ref a0), (1, .ref p1), (2, .int p2)] := hl
  have hbud : 0 + MC ≤ MC ∧ 0 + MS ≤ MS := ⟨by omega, by omega⟩
  unfold wp_X1_summands at hw
  refine lv_aload_n hx hb dX1_summands_0 rfl (lv_at hl 0 rfl) ?_
  have o1 := hw.1
  replace hw := hw.2
  obtain ⟨b2, ebb2, hw⟩ := hw
  refine rX_getRs C hM 0 5 rfl in_X1 (by decide) (by decide) rfl q468 o1 ebb2 dX1_summands_1 ?_
  refine lv_aload_n hx hb dX1_summands_4 rfl (lv_at hl 0 rfl) ?_
  have o3 := hw.1
  replace hw := hw.2
  obtain ⟨b4, ebb4, hw⟩ := hw
  refine rX_getRs C hM 0 2 rfl in_X1 (by decide) (by decide) rfl q465 o3 ebb4 dX1_summands_5 ?_
  refine lv_iconst (v := 0) hx hb dX1_summands_8 (by decide) ?_
  refine lv_iload_n hx hb dX1_summands_9 rfl (lv_at hl 2 rfl) ?_
  obtain ⟨c5, d6, mc7, ms8, emc7, ems8, hw⟩ := hw
  have o11 := hw.1
  replace hw := hw.2
  refine rX_goi C hM (runX_V C hM hl.1 5 3 (As := [.ref b4, .int 0, .int p2]) rfl (by decide) o11 (mt_X6_kernel l D dA ev _ h b2 b4 0 p2  c5 d6 _ hw) (lw_V q935 q936 q937 q86 q938) rfl rfl (by decide +kernel) ⟨Nat.le_of_ble_eq_true rfl, Nat.le_of_ble_eq_true rfl⟩ rfl (Nat.le_of_ble_eq_true rfl) rfl dX1_summands_10 ⟨by show 0 + c5 ≤ MC; omega, by show 0 + d6 ≤ MS; omega⟩) (fun x10 h9 H locs hw hM => ?_)
  have hbud : 0 + c5 + mc7 ≤ MC ∧ 0 + d6 + ms8 ≤ MS := ⟨by omega, by omega⟩
  refine lv_istore_n (lv' := [(3, .int x10), (0, .ref a0), (1, .ref p1), (2, .int p2)]) hx hb dX1_summands_13 rfl hl (by decide) rfl (fun ls hl => ?_)
  refine lv_iconst (v := 0) hx hb dX1_summands_14 (by decide) ?_
  refine lv_istore (lv' := [(4, .int 0), (3, .int x10), (0, .ref a0), (1, .ref p1), (2, .int p2)]) hx hb dX1_summands_15 hl (by decide) rfl (fun ls hl => ?_)
  obtain ⟨n17, hw⟩ := hw
  exact wk_X1_summands_17 C  n17 a0 p1 x10 0 h9 mc7 ms8 _ _ _ _ ls hw hM hbud (lv_sub hl [2, 3, 1, 0] rfl)
abbrev rm_X1_least (MC MS : Nat) : Room := { frames := 11, cells := MC, slots := MS, locals := 291 }
set_option maxHeartbeats 4000000 in
theorem wk_X1_least_111 {p : Program} {l : Launch} {e : Env} {s : State} {m : MethodId} {args : Array Value} {below : List Frame} {meth : Method} {c : Code} {D : va_G} {dA : Nat → ClassId} {ev : Nat → Nat} {h0 : Hp} {sz : Nat} {MC MS : Nat} (C : CxM p s m meth c args (AX dA h0 sz) "LeastSolutions" cX1_least 5 (some .boolean)) {Qr : Int32 → Hp → Prop} : ∀ (a0 : Nat) (v3 : Int32) (h : Hp) (mc ms : Nat) (cells slots : Nat) (H : Heap) (locs : List Loc) (ls : Array Slot), wp_X1_least_111 ev Qr a0 v3 h mc ms → wX D dA ev (AX dA h0 sz) s h H locs → cells + mc ≤ MC ∧ slots + ms ≤ MS → lv_has ls 5 [(0, .ref a0), (3, .int v3)] → W p l e (rm_X1_least MC MS) s m args below meth c H locs cells slots (MQ below (va_Qi Qr (BX D dA (AX dA h0 sz)) (AX dA h0 sz)) args s MC MS (AX dA h0 sz)) (F0 m 111 ls []) := by
  intro a0 v3 h mc ms cells slots H locs ls hw hM hbud hl
  have hx := C.1
  have hb := C.2.1
  have hown := C.2.2.2.2.2.1
  have hts := C.2.2.2.2.2.2.1
  unfold wp_X1_least_111 at hw
  refine lv_iload_n hx hb dX1_least_111 rfl (lv_at hl 1 rfl) ?_
  exact rX_zret C hM ⟨by show cells ≤ MC; omega, by show slots ≤ MS; omega⟩ hw dX1_least_112
set_option maxHeartbeats 4000000 in
theorem wk_X1_least_75 {p : Program} {l : Launch} {e : Env} {s : State} {m : MethodId} {args : Array Value} {below : List Frame} {meth : Method} {c : Code} {D : va_G} {dA : Nat → ClassId} {ev : Nat → Nat} {h0 : Hp} {sz : Nat} {MC MS : Nat} (C : CxM p s m meth c args (AX dA h0 sz) "LeastSolutions" cX1_least 5 (some .boolean)) {Qr : Int32 → Hp → Prop} : ∀ (n : Nat) (a0 : Nat) (v1 : Nat) (v3 : Int32) (v4 : Int32) (h : Hp) (mc ms : Nat) (cells slots : Nat) (H : Heap) (locs : List Loc) (ls : Array Slot), wp_X1_least_75 ev Qr n a0 v1 v3 v4 h mc ms → wX D dA ev (AX dA h0 sz) s h H locs → cells + mc ≤ MC ∧ slots + ms ≤ MS → lv_has ls 5 [(0, .ref a0), (1, .ref v1), (3, .int v3), (4, .int v4)] → W p l e (rm_X1_least MC MS) s m args below meth c H locs cells slots (MQ below (va_Qi Qr (BX D dA (AX dA h0 sz)) (AX dA h0 sz)) args s MC MS (AX dA h0 sz)) (F0 m 75 ls []) := by
  intro n
  induction n with
  | zero => intro a0 v1 v3 v4 h mc ms cells slots H locs ls hw; exact hw.elim
  | succ n75 ih =>
    intro a0 v1 v3 v4 h mc ms cells slots H locs ls hw hM hbud hl
    have hx := C.1
    have hb := C.2.1
    have hown := C.2.2.2.2.2.1
    have hts := C.2.2.2.2.2.2.1
    unfold wp_X1_least_75 at hw
    refine lv_iload hx hb dX1_least_75 (lv_at hl 3 rfl) ?_
    refine lv_aload_n hx hb dX1_least_77 rfl (lv_at hl 0 rfl) ?_
    have o1 := hw.1
    replace hw := hw.2
    obtain ⟨b2, ebb2, hw⟩ := hw
    refine rX_getRs C hM 0 5 rfl in_X1 (by decide) (by decide) rfl q468 o1 ebb2 dX1_least_78 ?_
    have o3 := hw.1
    replace hw := hw.2
    obtain ⟨b4, ebb4, hw⟩ := hw
    refine rX_getRsN C hM 5 2 rfl in_X6 (by decide) (by decide) rfl q383 o3 ebb4 dX1_least_81 ?_
    have o7 := hw.1
    replace hw := hw.2
    refine rX_goi C hM (runX_V C hM hl.1 6 0 (As := []) rfl (by decide) o7 (mt_X7_size l D dA ev _ h b4  _ hw) (lw_V q821 q822 q823 q87 q824) rfl rfl (by decide +kernel) ⟨Nat.le_of_ble_eq_true rfl, Nat.le_of_ble_eq_true rfl⟩ rfl (Nat.le_of_ble_eq_true rfl) rfl dX1_least_84 ⟨by show cells + 0 ≤ MC; omega, by show slots + 0 ≤ MS; omega⟩) (fun x6 h5 H locs hw hM => ?_)
    refine lv_icmp_ge (tgt := 111) hx hb dX1_least_87 (by decide) (fun hc => ?_) (fun hc => ?_)
    · replace hw := hw.1 hc
      exact wk_X1_least_111 C  a0 v3 h5 mc ms _ _ _ _ ls hw hM hbud (lv_sub hl [0, 2] rfl)
    · replace hw := hw.2 hc
      refine lv_iload_n hx hb dX1_least_90 rfl (lv_at hl 2 rfl) ?_
      refine lv_if_eq (tgt := 111) hx hb dX1_least_91 (by decide) (fun hc => ?_) (fun hc => ?_)
      · replace hw := hw.1 hc
        exact wk_X1_least_111 C  a0 v3 h5 mc ms _ _ _ _ ls hw hM hbud (lv_sub hl [0, 2] rfl)
      · replace hw := hw.2 hc
        refine lv_aload_n hx hb dX1_least_94 rfl (lv_at hl 0 rfl) ?_
        refine lv_iload hx hb dX1_least_95 (lv_at hl 3 rfl) ?_
        refine lv_aload_n hx hb dX1_least_97 rfl (lv_at hl 1 rfl) ?_
        have o8 := hw.1
        replace hw := hw.2
        obtain ⟨b9, ebb9, hw⟩ := hw
        refine rX_getRsN C hM 8 0 rfl in_X9 (by decide) (by decide) rfl q453 o8 ebb9 dX1_least_98 ?_
        refine lv_iconst (v := 0) hx hb dX1_least_101 (by decide) ?_
        obtain ⟨c10, d11, mc12, ms13, emc12, ems13, hw⟩ := hw
        have o15 := hw.1
        replace hw := hw.2
        refine rX_gov C hM (runX_V C hM hl.1 0 3 (As := [.int v4, .ref b9, .int 0]) rfl (by decide) o15 (mt_X1_copy l D dA ev _ h5 a0 v4 b9 0  c10 d11 _ hw) (lw_V q1288 q1290 qs40 q75 q1291) rfl rfl (by decide +kernel) ⟨Nat.le_of_ble_eq_true rfl, Nat.le_of_ble_eq_true rfl⟩ rfl (Nat.le_of_ble_eq_true rfl) rfl dX1_least_102 ⟨by show cells + c10 ≤ MC; omega, by show slots + d11 ≤ MS; omega⟩) (fun h14 H locs hw hM => ?_)
        have hbud : cells + c10 + mc12 ≤ MC ∧ slots + d11 + ms13 ≤ MS := ⟨by omega, by omega⟩
        obtain ⟨x16, ex16⟩ : ∃ y : Int32, y = v4 + 1 := ⟨_, rfl⟩
        replace hw := hw x16 ex16
        refine lv_iinc (v := x16) (lv' := [(4, .int x16), (0, .ref a0), (1, .ref v1), (3, .int v3)]) hx hb dX1_least_105 hl (k := 3) rfl (by rw [ex16]; rfl) (by decide) rfl (fun ls hl => ?_)
        refine lv_goto (tgt := 75) hx hb dX1_least_108 (by decide) ?_
        exact ih a0 v1 v3 x16 h14 mc12 ms13 _ _ _ _ ls hw hM hbud (lv_sub hl [1, 2, 3, 0] rfl)
set_option maxHeartbeats 4000000 in
theorem wk_X1_least_55 {p : Program} {l : Launch} {e : Env} {s : State} {m : MethodId} {args : Array Value} {below : List Frame} {meth : Method} {c : Code} {D : va_G} {dA : Nat → ClassId} {ev : Nat → Nat} {h0 : Hp} {sz : Nat} {MC MS : Nat} (C : CxM p s m meth c args (AX dA h0 sz) "LeastSolutions" cX1_least 5 (some .boolean)) {Qr : Int32 → Hp → Prop} : ∀ (a0 : Nat) (v1 : Nat) (v2 : Int32) (h : Hp) (mc ms : Nat) (cells slots : Nat) (H : Heap) (locs : List Loc) (ls : Array Slot), wp_X1_least_55 ev Qr a0 v1 v2 h mc ms → wX D dA ev (AX dA h0 sz) s h H locs → cells + mc ≤ MC ∧ slots + ms ≤ MS → lv_has ls 5 [(0, .ref a0), (1, .ref v1), (2, .int v2)] → W p l e (rm_X1_least MC MS) s m args below meth c H locs cells slots (MQ below (va_Qi Qr (BX D dA (AX dA h0 sz)) (AX dA h0 sz)) args s MC MS (AX dA h0 sz)) (F0 m 55 ls []) := by
  intro a0 v1 v2 h mc ms cells slots H locs ls hw hM hbud hl
  have hx := C.1
  have hb := C.2.1
  have hown := C.2.2.2.2.2.1
  have hts := C.2.2.2.2.2.2.1
  unfold wp_X1_least_55 at hw
  refine lv_aload_n hx hb dX1_least_55 rfl (lv_at hl 0 rfl) ?_
  have o1 := hw.1
  replace hw := hw.2
  obtain ⟨b2, ebb2, hw⟩ := hw
  refine rX_getRs C hM 0 5 rfl in_X1 (by decide) (by decide) rfl q468 o1 ebb2 dX1_least_56 ?_
  refine lv_aload_n hx hb dX1_least_59 rfl (lv_at hl 0 rfl) ?_
  have o3 := hw.1
  replace hw := hw.2
  obtain ⟨b4, ebb4, hw⟩ := hw
  refine rX_getRs C hM 0 2 rfl in_X1 (by decide) (by decide) rfl q465 o3 ebb4 dX1_least_60 ?_
  refine lv_aload_n hx hb dX1_least_63 rfl (lv_at hl 0 rfl) ?_
  have o5 := hw.1
  replace hw := hw.2
  obtain ⟨b6, ebb6, hw⟩ := hw
  refine rX_getRs C hM 0 14 rfl in_X1 (by decide) (by decide) rfl q477 o5 ebb6 dX1_least_64 ?_
  refine lv_iload_n hx hb dX1_least_67 rfl (lv_at hl 2 rfl) ?_
  obtain ⟨c7, d8, mc9, ms10, emc9, ems10, hw⟩ := hw
  have o13 := hw.1
  replace hw := hw.2
  refine rX_goi C hM (runX_V C hM hl.1 5 3 (As := [.ref b4, .ref b6, .int v2]) rfl (by decide) o13 (mt_X6_solutions l D dA ev _ h b2 b4 b6 v2  c7 d8 _ hw) (lw_V q1302 q1303 q1304 q86 q1305) rfl rfl (by decide +kernel) ⟨Nat.le_of_ble_eq_true rfl, Nat.le_of_ble_eq_true rfl⟩ rfl (Nat.le_of_ble_eq_true rfl) rfl dX1_least_68 ⟨by show cells + c7 ≤ MC; omega, by show slots + d8 ≤ MS; omega⟩) (fun x12 h11 H locs hw hM => ?_)
  have hbud : cells + c7 + mc9 ≤ MC ∧ slots + d8 + ms10 ≤ MS := ⟨by omega, by omega⟩
  refine lv_istore_n (lv' := [(3, .int x12), (0, .ref a0), (1, .ref v1), (2, .int v2)]) hx hb dX1_least_71 rfl hl (by decide) rfl (fun ls hl => ?_)
  refine lv_iconst (v := 0) hx hb dX1_least_72 (by decide) ?_
  refine lv_istore (lv' := [(4, .int 0), (3, .int x12), (0, .ref a0), (1, .ref v1), (2, .int v2)]) hx hb dX1_least_73 hl (by decide) rfl (fun ls hl => ?_)
  obtain ⟨n75, hw⟩ := hw
  exact wk_X1_least_75 C  n75 a0 v1 x12 0 h11 mc9 ms10 _ _ _ _ ls hw hM hbud (lv_sub hl [2, 3, 1, 0] rfl)
set_option maxHeartbeats 4000000 in
theorem wk_X1_least_25 {p : Program} {l : Launch} {e : Env} {s : State} {m : MethodId} {args : Array Value} {below : List Frame} {meth : Method} {c : Code} {D : va_G} {dA : Nat → ClassId} {ev : Nat → Nat} {h0 : Hp} {sz : Nat} {MC MS : Nat} (C : CxM p s m meth c args (AX dA h0 sz) "LeastSolutions" cX1_least 5 (some .boolean)) {Qr : Int32 → Hp → Prop} : ∀ (n : Nat) (a0 : Nat) (v1 : Nat) (v2 : Int32) (v3 : Int32) (h : Hp) (mc ms : Nat) (cells slots : Nat) (H : Heap) (locs : List Loc) (ls : Array Slot), wp_X1_least_25 ev Qr n a0 v1 v2 v3 h mc ms → wX D dA ev (AX dA h0 sz) s h H locs → cells + mc ≤ MC ∧ slots + ms ≤ MS → lv_has ls 5 [(0, .ref a0), (1, .ref v1), (2, .int v2), (3, .int v3)] → W p l e (rm_X1_least MC MS) s m args below meth c H locs cells slots (MQ below (va_Qi Qr (BX D dA (AX dA h0 sz)) (AX dA h0 sz)) args s MC MS (AX dA h0 sz)) (F0 m 25 ls []) := by
  intro n
  induction n with
  | zero => intro a0 v1 v2 v3 h mc ms cells slots H locs ls hw; exact hw.elim
  | succ n25 ih =>
    intro a0 v1 v2 v3 h mc ms cells slots H locs ls hw hM hbud hl
    have hx := C.1
    have hb := C.2.1
    have hown := C.2.2.2.2.2.1
    have hts := C.2.2.2.2.2.2.1
    unfold wp_X1_least_25 at hw
    refine lv_iload_n hx hb dX1_least_25 rfl (lv_at hl 3 rfl) ?_
    refine lv_aload_n hx hb dX1_least_26 rfl (lv_at hl 0 rfl) ?_
    have o1 := hw.1
    replace hw := hw.2
    obtain ⟨b2, ebb2, hw⟩ := hw
    refine rX_getRs C hM 0 5 rfl in_X1 (by decide) (by decide) rfl q468 o1 ebb2 dX1_least_27 ?_
    have o3 := hw.1
    replace hw := hw.2
    obtain ⟨b4, ebb4, hw⟩ := hw
    refine rX_getRsN C hM 5 2 rfl in_X6 (by decide) (by decide) rfl q383 o3 ebb4 dX1_least_30 ?_
    have o7 := hw.1
    replace hw := hw.2
    refine rX_goi C hM (runX_V C hM hl.1 6 0 (As := []) rfl (by decide) o7 (mt_X7_size l D dA ev _ h b4  _ hw) (lw_V q821 q822 q823 q87 q824) rfl rfl (by decide +kernel) ⟨Nat.le_of_ble_eq_true rfl, Nat.le_of_ble_eq_true rfl⟩ rfl (Nat.le_of_ble_eq_true rfl) rfl dX1_least_33 ⟨by show cells + 0 ≤ MC; omega, by show slots + 0 ≤ MS; omega⟩) (fun x6 h5 H locs hw hM => ?_)
    refine lv_icmp_ge (tgt := 55) hx hb dX1_least_36 (by decide) (fun hc => ?_) (fun hc => ?_)
    · replace hw := hw.1 hc
      exact wk_X1_least_55 C  a0 v1 v2 h5 mc ms _ _ _ _ ls hw hM hbud (lv_sub hl [0, 1, 2] rfl)
    · replace hw := hw.2 hc
      refine lv_aload_n hx hb dX1_least_39 rfl (lv_at hl 0 rfl) ?_
      refine lv_iload_n hx hb dX1_least_40 rfl (lv_at hl 3 rfl) ?_
      refine lv_aload_n hx hb dX1_least_41 rfl (lv_at hl 0 rfl) ?_
      have o8 := hw.1
      replace hw := hw.2
      obtain ⟨b9, ebb9, hw⟩ := hw
      refine rX_getRs C hM 0 14 rfl in_X1 (by decide) (by decide) rfl q477 o8 ebb9 dX1_least_42 ?_
      refine lv_iconst (v := 0) hx hb dX1_least_45 (by decide) ?_
      obtain ⟨c10, d11, mc12, ms13, emc12, ems13, hw⟩ := hw
      have o15 := hw.1
      replace hw := hw.2
      refine rX_gov C hM (runX_V C hM hl.1 0 3 (As := [.int v3, .ref b9, .int 0]) rfl (by decide) o15 (mt_X1_copy l D dA ev _ h5 a0 v3 b9 0  c10 d11 _ hw) (lw_V q1288 q1290 qs40 q75 q1291) rfl rfl (by decide +kernel) ⟨Nat.le_of_ble_eq_true rfl, Nat.le_of_ble_eq_true rfl⟩ rfl (Nat.le_of_ble_eq_true rfl) rfl dX1_least_46 ⟨by show cells + c10 ≤ MC; omega, by show slots + d11 ≤ MS; omega⟩) (fun h14 H locs hw hM => ?_)
      have hbud : cells + c10 + mc12 ≤ MC ∧ slots + d11 + ms13 ≤ MS := ⟨by omega, by omega⟩
      obtain ⟨x16, ex16⟩ : ∃ y : Int32, y = v3 + 1 := ⟨_, rfl⟩
      replace hw := hw x16 ex16
      refine lv_iinc (v := x16) (lv' := [(3, .int x16), (0, .ref a0), (1, .ref v1), (2, .int v2)]) hx hb dX1_least_49 hl (k := 3) rfl (by rw [ex16]; rfl) (by decide) rfl (fun ls hl => ?_)
      refine lv_goto (tgt := 25) hx hb dX1_least_52 (by decide) ?_
      exact ih a0 v1 v2 x16 h14 mc12 ms13 _ _ _ _ ls hw hM hbud (lv_sub hl [1, 2, 3, 0] rfl)
set_option maxHeartbeats 4000000 in
/-- LeastSolutions.least(LLeastSolutions$Found;I)Z -/
theorem mt_X1_least (l : Launch) (D : va_G) (dA : Nat → ClassId) (ev : Nat → Nat) (sz : Nat) (h : Hp) (a0 : Nat) (p1 : Nat) (p2 : Int32) (MC MS : Nat) (Qr : Int32 → Hp → Prop) (hw : wp_X1_least ev h a0 p1 p2 MC MS Qr) : Met l yX1_least (ws_ yX1_least cX1_least 5 (some .boolean)) (rm_X1_least MC MS) (PcX D dA ev h sz [.ref a0, .ref p1, .int p2]) (va_Qi Qr (BX D dA (AX dA h sz)) (AX dA h sz)) MC MS (AX dA h sz) := by
  refine Met.ofW (cc := cX1_least) (maxL := 5) (ret := (some .boolean)) (by decide) rfl ?_
  intro p e s m args below meth c s₁ B hml hv
  obtain ⟨rfl, hsz, hP, hK, hD0, hE⟩ := hv
  subst hsz
  have hts0 := atoms_spec (ws := ws_ yX1_least cX1_least 5 (some .boolean)) B.pre
  have C : CxM p s m meth c _ (AX dA h s.heap.size) "LeastSolutions" cX1_least 5 (some .boolean) := ⟨B.exec, B.bytes, B.returns, B.notSynchronized, hml, findClass_of_methodNamed B.named, fun w h => hts0 w (List.mem_cons_of_mem _ h), fun q h => Or.inr h⟩
  have hM : wX D dA ev (AX dA h s.heap.size) s h s.heap [] := ⟨hK, hP, hD0.self, va_S.rf, hE⟩
  have hx := C.1
  have hb := C.2.1
  have hown := C.2.2.2.2.2.1
  have hts := C.2.2.2.2.2.2.1
  have hl := lv_entry ([.ref a0, .ref p1, .int p2]) (n := 5) (Nat.le_of_ble_eq_true rfl)
  rw [lg_entry_eq]
  generalize (lg_sl ([.ref a0, .ref p1, .int p2]) ++ List.replicate (5 - (lg_sl ([.ref a0, .ref p1, .int p2])).length) Slot.unset).toArray = ls at hl ⊢
  have hl : lv_has ls 5 [(0, .ref a0), (1, .ref p1), (2, .int p2)] := hl
  have hbud : 0 + MC ≤ MC ∧ 0 + MS ≤ MS := ⟨by omega, by omega⟩
  unfold wp_X1_least at hw
  refine lv_aload_n hx hb dX1_least_0 rfl (lv_at hl 0 rfl) ?_
  have o1 := hw.1
  replace hw := hw.2
  obtain ⟨b2, ebb2, hw⟩ := hw
  refine rX_getRs C hM 0 14 rfl in_X1 (by decide) (by decide) rfl q477 o1 ebb2 dX1_least_1 ?_
  obtain ⟨c3, d4, mc5, ms6, emc5, ems6, hw⟩ := hw
  have o8 := hw.1
  replace hw := hw.2
  refine rX_gov C hM (runX_V C hM hl.1 6 0 (As := []) rfl (by decide) o8 (mt_X7_clear l D dA ev _ h b2  c3 d4 _ hw) (lw_V q1301 q672 q673 q87 q674) rfl rfl (by decide +kernel) ⟨Nat.le_of_ble_eq_true rfl, Nat.le_of_ble_eq_true rfl⟩ rfl (Nat.le_of_ble_eq_true rfl) rfl dX1_least_4 ⟨by show 0 + c3 ≤ MC; omega, by show 0 + d4 ≤ MS; omega⟩) (fun h7 H locs hw hM => ?_)
  have hbud : 0 + c3 + mc5 ≤ MC ∧ 0 + d4 + ms6 ≤ MS := ⟨by omega, by omega⟩
  refine lv_aload_n hx hb dX1_least_7 rfl (lv_at hl 0 rfl) ?_
  have o9 := hw.1
  replace hw := hw.2
  obtain ⟨b10, ebb10, hw⟩ := hw
  refine rX_getRs C hM 0 5 rfl in_X1 (by decide) (by decide) rfl q468 o9 ebb10 dX1_least_8 ?_
  refine lv_aload_n hx hb dX1_least_11 rfl (lv_at hl 0 rfl) ?_
  have o11 := hw.1
  replace hw := hw.2
  obtain ⟨b12, ebb12, hw⟩ := hw
  refine rX_getRs C hM 0 2 rfl in_X1 (by decide) (by decide) rfl q465 o11 ebb12 dX1_least_12 ?_
  refine lv_iconst (v := 0) hx hb dX1_least_15 (by decide) ?_
  refine lv_iload_n hx hb dX1_least_16 rfl (lv_at hl 2 rfl) ?_
  obtain ⟨c13, d14, mc15, ms16, emc15, ems16, hw⟩ := hw
  have o19 := hw.1
  replace hw := hw.2
  refine rX_goi C hM (runX_V C hM hl.1 5 3 (As := [.ref b12, .int 0, .int p2]) rfl (by decide) o19 (mt_X6_kernel l D dA ev _ h7 b10 b12 0 p2  c13 d14 _ hw) (lw_V q935 q936 q937 q86 q938) rfl rfl (by decide +kernel) ⟨Nat.le_of_ble_eq_true rfl, Nat.le_of_ble_eq_true rfl⟩ rfl (Nat.le_of_ble_eq_true rfl) rfl dX1_least_17 ⟨by show 0 + c3 + c13 ≤ MC; omega, by show 0 + d4 + d14 ≤ MS; omega⟩) (fun x18 h17 H locs hw hM => ?_)
  have hbud : 0 + c3 + c13 + mc15 ≤ MC ∧ 0 + d4 + d14 + ms16 ≤ MS := ⟨by omega, by omega⟩
  refine lv_if_eq (tgt := 55) hx hb dX1_least_20 (by decide) (fun hc => ?_) (fun hc => ?_)
  · replace hw := hw.1 hc
    exact wk_X1_least_55 C  a0 p1 p2 h17 mc15 ms16 _ _ _ _ ls hw hM hbud (lv_sub hl [0, 1, 2] rfl)
  · replace hw := hw.2 hc
    refine lv_iconst (v := 0) hx hb dX1_least_23 (by decide) ?_
    refine lv_istore_n (lv' := [(3, .int 0), (0, .ref a0), (1, .ref p1), (2, .int p2)]) hx hb dX1_least_24 rfl hl (by decide) rfl (fun ls hl => ?_)
    obtain ⟨n25, hw⟩ := hw
    exact wk_X1_least_25 C  n25 a0 p1 p2 0 h17 mc15 ms16 _ _ _ _ ls hw hM hbud (lv_sub hl [1, 2, 3, 0] rfl)
abbrev rm_X1_signed (MC MS : Nat) : Room := { frames := 11, cells := MC, slots := MS, locals := 291 }
set_option maxHeartbeats 4000000 in
theorem wk_X1_signed_106 {p : Program} {l : Launch} {e : Env} {s : State} {m : MethodId} {args : Array Value} {below : List Frame} {meth : Method} {c : Code} {D : va_G} {dA : Nat → ClassId} {ev : Nat → Nat} {h0 : Hp} {sz : Nat} {MC MS : Nat} (C : CxM p s m meth c args (AX dA h0 sz) "LeastSolutions" cX1_signed 6 (some .boolean)) {Qr : Int32 → Hp → Prop} {K2 : Nat → Nat → Int32 → Int32 → Hp → Nat → Nat → Prop} (hK2 : ∀ (a0 : Nat) (v1 : Nat) (v2 : Int32) (v3 : Int32) (h : Hp) (mc ms : Nat) (cells slots : Nat) (H : Heap) (locs : List Loc) (ls : Array Slot), K2 a0 v1 v2 v3 h mc ms → wX D dA ev (AX dA h0 sz) s h H locs → cells + mc ≤ MC ∧ slots + ms ≤ MS → lv_has ls 6 [(0, .ref a0), (1, .ref v1), (2, .int v2), (3, .int v3)] → W p l e (rm_X1_signed MC MS) s m args below meth c H locs cells slots (MQ below (va_Qi Qr (BX D dA (AX dA h0 sz)) (AX dA h0 sz)) args s MC MS (AX dA h0 sz)) (F0 m 2 ls [])) {K36 : Nat → Nat → Int32 → Int32 → Int32 → Hp → Nat → Nat → Prop} (hK36 : ∀ (a0 : Nat) (v1 : Nat) (v2 : Int32) (v3 : Int32) (v4 : Int32) (h : Hp) (mc ms : Nat) (cells slots : Nat) (H : Heap) (locs : List Loc) (ls : Array Slot), K36 a0 v1 v2 v3 v4 h mc ms → wX D dA ev (AX dA h0 sz) s h H locs → cells + mc ≤ MC ∧ slots + ms ≤ MS → lv_has ls 6 [(0, .ref a0), (1, .ref v1), (2, .int v2), (3, .int v3), (4, .int v4)] → W p l e (rm_X1_signed MC MS) s m args below meth c H locs cells slots (MQ below (va_Qi Qr (BX D dA (AX dA h0 sz)) (AX dA h0 sz)) args s MC MS (AX dA h0 sz)) (F0 m 36 ls [])) : ∀ (a0 : Nat) (v1 : Nat) (v2 : Int32) (v3 : Int32) (v4 : Int32) (h : Hp) (mc ms : Nat) (cells slots : Nat) (H : Heap) (locs : List Loc) (ls : Array Slot), wp_X1_signed_106 ev Qr K2 K36 a0 v1 v2 v3 v4 h mc ms → wX D dA ev (AX dA h0 sz) s h H locs → cells + mc ≤ MC ∧ slots + ms ≤ MS → lv_has ls 6 [(0, .ref a0), (1, .ref v1), (2, .int v2), (3, .int v3), (4, .int v4)] → W p l e (rm_X1_signed MC MS) s m args below meth c H locs cells slots (MQ below (va_Qi Qr (BX D dA (AX dA h0 sz)) (AX dA h0 sz)) args s MC MS (AX dA h0 sz)) (F0 m 106 ls []) := by
  intro a0 v1 v2 v3 v4 h mc ms cells slots H locs ls hw hM hbud hl
  have hx := C.1
  have hb := C.2.1
  have hown := C.2.2.2.2.2.1
  have hts := C.2.2.2.2.2.2.1
  unfold wp_X1_signed_106 at hw
  obtain ⟨x1, ex1⟩ : ∃ y : Int32, y = v4 + 1 := ⟨_, rfl⟩
  replace hw := hw x1 ex1
  refine lv_iinc (v := x1) (lv' := [(4, .int x1), (0, .ref a0), (1, .ref v1), (2, .int v2), (3, .int v3)]) hx hb dX1_signed_106 hl (k := 4) rfl (by rw [ex1]; rfl) (by decide) rfl (fun ls hl => ?_)
  refine lv_goto (tgt := 36) hx hb dX1_signed_109 (by decide) ?_
  exact hK36 a0 v1 v2 v3 x1 h mc ms _ _ _ _ ls hw hM hbud (lv_sub hl [1, 2, 3, 4, 0] rfl)
set_option maxHeartbeats 4000000 in
theorem wk_X1_signed_36 {p : Program} {l : Launch} {e : Env} {s : State} {m : MethodId} {args : Array Value} {below : List Frame} {meth : Method} {c : Code} {D : va_G} {dA : Nat → ClassId} {ev : Nat → Nat} {h0 : Hp} {sz : Nat} {MC MS : Nat} (C : CxM p s m meth c args (AX dA h0 sz) "LeastSolutions" cX1_signed 6 (some .boolean)) {Qr : Int32 → Hp → Prop} {K2 : Nat → Nat → Int32 → Int32 → Hp → Nat → Nat → Prop} (hK2 : ∀ (a0 : Nat) (v1 : Nat) (v2 : Int32) (v3 : Int32) (h : Hp) (mc ms : Nat) (cells slots : Nat) (H : Heap) (locs : List Loc) (ls : Array Slot), K2 a0 v1 v2 v3 h mc ms → wX D dA ev (AX dA h0 sz) s h H locs → cells + mc ≤ MC ∧ slots + ms ≤ MS → lv_has ls 6 [(0, .ref a0), (1, .ref v1), (2, .int v2), (3, .int v3)] → W p l e (rm_X1_signed MC MS) s m args below meth c H locs cells slots (MQ below (va_Qi Qr (BX D dA (AX dA h0 sz)) (AX dA h0 sz)) args s MC MS (AX dA h0 sz)) (F0 m 2 ls [])) : ∀ (n : Nat) (a0 : Nat) (v1 : Nat) (v2 : Int32) (v3 : Int32) (v4 : Int32) (h : Hp) (mc ms : Nat) (cells slots : Nat) (H : Heap) (locs : List Loc) (ls : Array Slot), wp_X1_signed_36 ev Qr K2 n a0 v1 v2 v3 v4 h mc ms → wX D dA ev (AX dA h0 sz) s h H locs → cells + mc ≤ MC ∧ slots + ms ≤ MS → lv_has ls 6 [(0, .ref a0), (1, .ref v1), (2, .int v2), (3, .int v3), (4, .int v4)] → W p l e (rm_X1_signed MC MS) s m args below meth c H locs cells slots (MQ below (va_Qi Qr (BX D dA (AX dA h0 sz)) (AX dA h0 sz)) args s MC MS (AX dA h0 sz)) (F0 m 36 ls []) := by
  intro n
  induction n with
  | zero => intro a0 v1 v2 v3 v4 h mc ms cells slots H locs ls hw; exact hw.elim
  | succ n36 ih =>
    intro a0 v1 v2 v3 v4 h mc ms cells slots H locs ls hw hM hbud hl
    have hx := C.1
    have hb := C.2.1
    have hown := C.2.2.2.2.2.1
    have hts := C.2.2.2.2.2.2.1
    unfold wp_X1_signed_36 at hw
    refine lv_iload hx hb dX1_signed_36 (lv_at hl 4 rfl) ?_
    refine lv_aload_n hx hb dX1_signed_38 rfl (lv_at hl 0 rfl) ?_
    have o1 := hw.1
    replace hw := hw.2
    obtain ⟨b2, ebb2, hw⟩ := hw
    refine rX_getRs C hM 0 5 rfl in_X1 (by decide) (by decide) rfl q468 o1 ebb2 dX1_signed_39 ?_
    have o3 := hw.1
    replace hw := hw.2
    obtain ⟨b4, ebb4, hw⟩ := hw
    refine rX_getRsN C hM 5 2 rfl in_X6 (by decide) (by decide) rfl q383 o3 ebb4 dX1_signed_42 ?_
    have o7 := hw.1
    replace hw := hw.2
    refine rX_goi C hM (runX_V C hM hl.1 6 0 (As := []) rfl (by decide) o7 (mt_X7_size l D dA ev _ h b4  _ hw) (lw_V q821 q822 q823 q87 q824) rfl rfl (by decide +kernel) ⟨Nat.le_of_ble_eq_true rfl, Nat.le_of_ble_eq_true rfl⟩ rfl (Nat.le_of_ble_eq_true rfl) rfl dX1_signed_45 ⟨by show cells + 0 ≤ MC; omega, by show slots + 0 ≤ MS; omega⟩) (fun x6 h5 H locs hw hM => ?_)
    refine lv_icmp_ge (tgt := 112) hx hb dX1_signed_48 (by decide) (fun hc => ?_) (fun hc => ?_)
    · replace hw := hw.1 hc
      obtain ⟨x8, ex8⟩ : ∃ y : Int32, y = v3 + 1 := ⟨_, rfl⟩
      replace hw := hw x8 ex8
      refine lv_iinc (v := x8) (lv' := [(3, .int x8), (0, .ref a0), (1, .ref v1), (2, .int v2), (4, .int v4)]) hx hb dX1_signed_112 hl (k := 3) rfl (by rw [ex8]; rfl) (by decide) rfl (fun ls hl => ?_)
      refine lv_goto (tgt := 2) hx hb dX1_signed_115 (by decide) ?_
      exact hK2 a0 v1 v2 x8 h5 mc ms _ _ _ _ ls hw hM hbud (lv_sub hl [1, 2, 3, 0] rfl)
    · replace hw := hw.2 hc
      refine lv_aload_n hx hb dX1_signed_51 rfl (lv_at hl 0 rfl) ?_
      have o9 := hw.1
      replace hw := hw.2
      obtain ⟨b10, ebb10, hw⟩ := hw
      refine rX_getRs C hM 0 5 rfl in_X1 (by decide) (by decide) rfl q468 o9 ebb10 dX1_signed_52 ?_
      have o11 := hw.1
      replace hw := hw.2
      obtain ⟨b12, ebb12, hw⟩ := hw
      refine rX_getRsN C hM 5 2 rfl in_X6 (by decide) (by decide) rfl q383 o11 ebb12 dX1_signed_55 ?_
      refine lv_iload hx hb dX1_signed_58 (lv_at hl 4 rfl) ?_
      have o15 := hw.1
      replace hw := hw.2
      refine rX_goq C hM (runX_V C hM hl.1 6 1 (As := [.int v4]) rfl (by decide) o15 (mt_X7_get l D dA ev _ h5 b12 v4  _ hw) (lw_V q809 q810 q811 q87 q812) rfl rfl (by decide +kernel) ⟨Nat.le_of_ble_eq_true rfl, Nat.le_of_ble_eq_true rfl⟩ rfl (Nat.le_of_ble_eq_true rfl) rfl dX1_signed_60 ⟨by show cells + 0 ≤ MC; omega, by show slots + 0 ≤ MS; omega⟩) (fun r14 h13 H locs hw hM => ?_)
      have o16 := hw.1
      replace hw := hw.2
      refine rX_castS (r := r14) C hM 10 rfl (by decide) q813 o16 dX1_signed_63 ?_
      obtain ⟨b17, eb, hw⟩ := hw
      subst eb
      have o18 := hw.1
      replace hw := hw.2
      obtain ⟨b19, ebb19, hw⟩ := hw
      refine rX_getRsN C hM 10 0 rfl in_X11 (by decide) (by decide) rfl q999 o18 ebb19 dX1_signed_66 ?_
      refine lv_astore (lv' := [(5, .ref b19), (0, .ref a0), (1, .ref v1), (2, .int v2), (3, .int v3), (4, .int v4)]) hx hb dX1_signed_69 hl (by decide) rfl (fun ls hl => ?_)
      refine lv_aload hx hb dX1_signed_71 (lv_at hl 0 rfl) ?_
      refine lv_iload_n hx hb dX1_signed_73 rfl (lv_at hl 4 rfl) ?_
      refine rX_goi C hM (runX_S C hM hl.1 2 (As := [.ref b19, .int v3]) (mt_X1_belongs l D dA ev _ h13 b19 v3  _ hw) (lw_S q1310 q1311 q75 q1312) rfl rfl (by decide +kernel) ⟨Nat.le_of_ble_eq_true rfl, Nat.le_of_ble_eq_true rfl⟩ rfl (Nat.le_of_ble_eq_true rfl) rfl dX1_signed_74 ⟨by show cells + 0 ≤ MC; omega, by show slots + 0 ≤ MS; omega⟩) (fun x21 h20 H locs hw hM => ?_)
      refine lv_if_eq (tgt := 106) hx hb dX1_signed_77 (by decide) (fun hc => ?_) (fun hc => ?_)
      · replace hw := hw.1 hc
        exact wk_X1_signed_106 C hK2 ih a0 v1 v2 v3 v4 h20 mc ms _ _ _ _ ls hw hM hbud (lv_sub hl [1, 2, 3, 4, 5] rfl)
      · replace hw := hw.2 hc
        refine lv_aload_n hx hb dX1_signed_80 rfl (lv_at hl 2 rfl) ?_
        have o22 := hw.1
        replace hw := hw.2
        obtain ⟨b23, ebb23, hw⟩ := hw
        refine rX_getRsN C hM 8 0 rfl in_X9 (by decide) (by decide) rfl q453 o22 ebb23 dX1_signed_81 ?_
        have o26 := hw.1
        replace hw := hw.2
        refine rX_goi C hM (runX_V C hM hl.1 6 0 (As := []) rfl (by decide) o26 (mt_X7_size l D dA ev _ h20 b23  _ hw) (lw_V q821 q822 q823 q87 q824) rfl rfl (by decide +kernel) ⟨Nat.le_of_ble_eq_true rfl, Nat.le_of_ble_eq_true rfl⟩ rfl (Nat.le_of_ble_eq_true rfl) rfl dX1_signed_84 ⟨by show cells + 0 ≤ MC; omega, by show slots + 0 ≤ MS; omega⟩) (fun x25 h24 H locs hw hM => ?_)
        refine lv_sipush (v := 2000) hx hb dX1_signed_87 (by decide) ?_
        refine lv_icmp_ne (tgt := 95) hx hb dX1_signed_90 (by decide) (fun hc => ?_) (fun hc => ?_)
        · replace hw := hw.1 hc
          refine lv_aload_n hx hb dX1_signed_95 rfl (lv_at hl 1 rfl) ?_
          refine lv_iload hx hb dX1_signed_96 (lv_at hl 5 rfl) ?_
          refine lv_aload_n hx hb dX1_signed_98 rfl (lv_at hl 2 rfl) ?_
          have o27 := hw.1
          replace hw := hw.2
          obtain ⟨b28, ebb28, hw⟩ := hw
          refine rX_getRsN C hM 8 0 rfl in_X9 (by decide) (by decide) rfl q453 o27 ebb28 dX1_signed_99 ?_
          refine lv_iload_n hx hb dX1_signed_102 rfl (lv_at hl 4 rfl) ?_
          obtain ⟨c29, d30, mc31, ms32, emc31, ems32, hw⟩ := hw
          have o34 := hw.1
          replace hw := hw.2
          refine rX_gov C hM (runX_V C hM hl.1 0 3 (As := [.int v4, .ref b28, .int v3]) rfl (by decide) o34 (mt_X1_copy l D dA ev _ h24 a0 v4 b28 v3  c29 d30 _ hw) (lw_V q1288 q1290 qs40 q75 q1291) rfl rfl (by decide +kernel) ⟨Nat.le_of_ble_eq_true rfl, Nat.le_of_ble_eq_true rfl⟩ rfl (Nat.le_of_ble_eq_true rfl) rfl dX1_signed_103 ⟨by show cells + c29 ≤ MC; omega, by show slots + d30 ≤ MS; omega⟩) (fun h33 H locs hw hM => ?_)
          have hbud : cells + c29 + mc31 ≤ MC ∧ slots + d30 + ms32 ≤ MS := ⟨by omega, by omega⟩
          exact wk_X1_signed_106 C hK2 ih a0 v1 v2 v3 v4 h33 mc31 ms32 _ _ _ _ ls hw hM hbud (lv_sub hl [1, 2, 3, 4, 5] rfl)
        · replace hw := hw.2 hc
          refine lv_iconst (v := 0) hx hb dX1_signed_93 (by decide) ?_
          exact rX_zret C hM ⟨by show cells ≤ MC; omega, by show slots ≤ MS; omega⟩ hw dX1_signed_94
set_option maxHeartbeats 4000000 in
theorem wk_X1_signed_2 {p : Program} {l : Launch} {e : Env} {s : State} {m : MethodId} {args : Array Value} {below : List Frame} {meth : Method} {c : Code} {D : va_G} {dA : Nat → ClassId} {ev : Nat → Nat} {h0 : Hp} {sz : Nat} {MC MS : Nat} (C : CxM p s m meth c args (AX dA h0 sz) "LeastSolutions" cX1_signed 6 (some .boolean)) {Qr : Int32 → Hp → Prop} : ∀ (n : Nat) (a0 : Nat) (v1 : Nat) (v2 : Int32) (v3 : Int32) (h : Hp) (mc ms : Nat) (cells slots : Nat) (H : Heap) (locs : List Loc) (ls : Array Slot), wp_X1_signed_2 ev Qr n a0 v1 v2 v3 h mc ms → wX D dA ev (AX dA h0 sz) s h H locs → cells + mc ≤ MC ∧ slots + ms ≤ MS → lv_has ls 6 [(0, .ref a0), (1, .ref v1), (2, .int v2), (3, .int v3)] → W p l e (rm_X1_signed MC MS) s m args below meth c H locs cells slots (MQ below (va_Qi Qr (BX D dA (AX dA h0 sz)) (AX dA h0 sz)) args s MC MS (AX dA h0 sz)) (F0 m 2 ls []) := by
  intro n
  induction n with
  | zero => intro a0 v1 v2 v3 h mc ms cells slots H locs ls hw; exact hw.elim
  | succ n2 ih =>
    intro a0 v1 v2 v3 h mc ms cells slots H locs ls hw hM hbud hl
    have hx := C.1
    have hb := C.2.1
    have hown := C.2.2.2.2.2.1
    have hts := C.2.2.2.2.2.2.1
    unfold wp_X1_signed_2 at hw
    refine lv_iload_n hx hb dX1_signed_2 rfl (lv_at hl 3 rfl) ?_
    refine lv_iconst (v := 1) hx hb dX1_signed_3 (by decide) ?_
    refine lv_aload_n hx hb dX1_signed_4 rfl (lv_at hl 0 rfl) ?_
    have o1 := hw.1
    replace hw := hw.2
    obtain ⟨b2, ebb2, hw⟩ := hw
    refine rX_getRs C hM 0 2 rfl in_X1 (by decide) (by decide) rfl q465 o1 ebb2 dX1_signed_5 ?_
    have o3 := hw.1
    replace hw := hw.2
    refine rX_getIN C hM 3 1 rfl in_X4 (by decide) (by decide) rfl q277 o3 dX1_signed_8 ?_
    refine lv_ishl hx hb dX1_signed_11 ?_
    refine lv_icmp_ge (tgt := 118) hx hb dX1_signed_12 (by decide) (fun hc => ?_) (fun hc => ?_)
    · replace hw := hw.1 hc
      refine lv_iconst (v := 1) hx hb dX1_signed_118 (by decide) ?_
      exact rX_zret C hM ⟨by show cells ≤ MC; omega, by show slots ≤ MS; omega⟩ hw dX1_signed_119
    · replace hw := hw.2 hc
      refine lv_aload_n hx hb dX1_signed_15 rfl (lv_at hl 0 rfl) ?_
      have o4 := hw.1
      replace hw := hw.2
      obtain ⟨b5, ebb5, hw⟩ := hw
      refine rX_getRs C hM 0 5 rfl in_X1 (by decide) (by decide) rfl q468 o4 ebb5 dX1_signed_16 ?_
      refine lv_aload_n hx hb dX1_signed_19 rfl (lv_at hl 0 rfl) ?_
      have o6 := hw.1
      replace hw := hw.2
      obtain ⟨b7, ebb7, hw⟩ := hw
      refine rX_getRs C hM 0 2 rfl in_X1 (by decide) (by decide) rfl q465 o6 ebb7 dX1_signed_20 ?_
      refine lv_iload_n hx hb dX1_signed_23 rfl (lv_at hl 3 rfl) ?_
      refine lv_iload_n hx hb dX1_signed_24 rfl (lv_at hl 2 rfl) ?_
      obtain ⟨c8, d9, mc10, ms11, emc10, ems11, hw⟩ := hw
      have o14 := hw.1
      replace hw := hw.2
      refine rX_goi C hM (runX_V C hM hl.1 5 3 (As := [.ref b7, .int v3, .int v2]) rfl (by decide) o14 (mt_X6_kernel l D dA ev _ h b5 b7 v3 v2  c8 d9 _ hw) (lw_V q935 q936 q937 q86 q938) rfl rfl (by decide +kernel) ⟨Nat.le_of_ble_eq_true rfl, Nat.le_of_ble_eq_true rfl⟩ rfl (Nat.le_of_ble_eq_true rfl) rfl dX1_signed_25 ⟨by show cells + c8 ≤ MC; omega, by show slots + d9 ≤ MS; omega⟩) (fun x13 h12 H locs hw hM => ?_)
      have hbud : cells + c8 + mc10 ≤ MC ∧ slots + d9 + ms11 ≤ MS := ⟨by omega, by omega⟩
      refine lv_if_ne (tgt := 33) hx hb dX1_signed_28 (by decide) (fun hc => ?_) (fun hc => ?_)
      · replace hw := hw.1 hc
        refine lv_iconst (v := 0) hx hb dX1_signed_33 (by decide) ?_
        refine lv_istore (lv' := [(4, .int 0), (0, .ref a0), (1, .ref v1), (2, .int v2), (3, .int v3)]) hx hb dX1_signed_34 hl (by decide) rfl (fun ls hl => ?_)
        obtain ⟨n36, hw⟩ := hw
        exact wk_X1_signed_36 C ih n36 a0 v1 v2 v3 0 h12 mc10 ms11 _ _ _ _ ls hw hM hbud (lv_sub hl [1, 2, 3, 4, 0] rfl)
      · replace hw := hw.2 hc
        refine lv_iconst (v := 0) hx hb dX1_signed_31 (by decide) ?_
        exact rX_zret C hM ⟨by show cells + c8 ≤ MC; omega, by show slots + d9 ≤ MS; omega⟩ hw dX1_signed_32
set_option maxHeartbeats 4000000 in
/-- LeastSolutions.signed(LLeastSolutions$Found;I)Z -/
theorem mt_X1_signed (l : Launch) (D : va_G) (dA : Nat → ClassId) (ev : Nat → Nat) (sz : Nat) (h : Hp) (a0 : Nat) (p1 : Nat) (p2 : Int32) (MC MS : Nat) (Qr : Int32 → Hp → Prop) (hw : wp_X1_signed ev h a0 p1 p2 MC MS Qr) : Met l yX1_signed (ws_ yX1_signed cX1_signed 6 (some .boolean)) (rm_X1_signed MC MS) (PcX D dA ev h sz [.ref a0, .ref p1, .int p2]) (va_Qi Qr (BX D dA (AX dA h sz)) (AX dA h sz)) MC MS (AX dA h sz) := by
  refine Met.ofW (cc := cX1_signed) (maxL := 6) (ret := (some .boolean)) (by decide) rfl ?_
  intro p e s m args below meth c s₁ B hml hv
  obtain ⟨rfl, hsz, hP, hK, hD0, hE⟩ := hv
  subst hsz
  have hts0 := atoms_spec (ws := ws_ yX1_signed cX1_signed 6 (some .boolean)) B.pre
  have C : CxM p s m meth c _ (AX dA h s.heap.size) "LeastSolutions" cX1_signed 6 (some .boolean) := ⟨B.exec, B.bytes, B.returns, B.notSynchronized, hml, findClass_of_methodNamed B.named, fun w h => hts0 w (List.mem_cons_of_mem _ h), fun q h => Or.inr h⟩
  have hM : wX D dA ev (AX dA h s.heap.size) s h s.heap [] := ⟨hK, hP, hD0.self, va_S.rf, hE⟩
  have hx := C.1
  have hb := C.2.1
  have hown := C.2.2.2.2.2.1
  have hts := C.2.2.2.2.2.2.1
  have hl := lv_entry ([.ref a0, .ref p1, .int p2]) (n := 6) (Nat.le_of_ble_eq_true rfl)
  rw [lg_entry_eq]
  generalize (lg_sl ([.ref a0, .ref p1, .int p2]) ++ List.replicate (6 - (lg_sl ([.ref a0, .ref p1, .int p2])).length) Slot.unset).toArray = ls at hl ⊢
  have hl : lv_has ls 6 [(0, .ref a0), (1, .ref p1), (2, .int p2)] := hl
  have hbud : 0 + MC ≤ MC ∧ 0 + MS ≤ MS := ⟨by omega, by omega⟩
  unfold wp_X1_signed at hw
  refine lv_iconst (v := 0) hx hb dX1_signed_0 (by decide) ?_
  refine lv_istore_n (lv' := [(3, .int 0), (0, .ref a0), (1, .ref p1), (2, .int p2)]) hx hb dX1_signed_1 rfl hl (by decide) rfl (fun ls hl => ?_)
  obtain ⟨n2, hw⟩ := hw
  exact wk_X1_signed_2 C  n2 a0 p1 p2 0 h MC MS _ _ _ _ ls hw hM hbud (lv_sub hl [1, 2, 3, 0] rfl)
