set_option maxRecDepth 100000
abbrev rm_J7_max : Room := { frames := 0, cells := 0, slots := 0, locals := 0 }
set_option maxHeartbeats 4000000 in
theorem wk_J7_max_10 {p : Program} {l : Launch} {e : Env} {s : State} {m : MethodId} {args : Array Value} {below : List Frame} {meth : Method} {c : Code} {D : va_G} {dA : Nat → ClassId} {ev : Nat → Nat} {h0 : Hp} {sz : Nat} (C : CxM p s m meth c args (AX dA h0 sz) "java/lang/Math" cJ7_max 2 (some .int)) {Qr : Int32 → Hp → Prop} : ∀ (u0 : Int32) (h : Hp) (H : Heap) (locs : List Loc) (ls : Array Slot), wp_J7_max_10 ev Qr u0 h → wX D dA ev (AX dA h0 sz) s h H locs → lv_has ls 2 [] → W p l e rm_J7_max s m args below meth c H locs 0 0 (MQ below (va_Qi Qr (BX D dA (AX dA h0 sz)) (AX dA h0 sz)) args s 0 0 (AX dA h0 sz)) (F0 m 10 ls [.int u0]) := by
  intro u0 h H locs ls hw hM hl
  have hx := C.1
  have hb := C.2.1
  have hown := C.2.2.2.2.2.1
  have hts := C.2.2.2.2.2.2.1
  unfold wp_J7_max_10 at hw
  exact rX_iret C hM ⟨Nat.le_refl _, Nat.le_refl _⟩ hw dJ7_max_10
set_option maxHeartbeats 4000000 in
/-- java/lang/Math.max(II)I -/
theorem mt_J7_max (l : Launch) (D : va_G) (dA : Nat → ClassId) (ev : Nat → Nat) (sz : Nat) (h : Hp) (p0 : Int32) (p1 : Int32) (Qr : Int32 → Hp → Prop) (hw : wp_J7_max ev h p0 p1 Qr) : Met l yJ7_max (ws_ yJ7_max cJ7_max 2 (some .int)) rm_J7_max (PcX D dA ev h sz [.int p0, .int p1]) (va_Qi Qr (BX D dA (AX dA h sz)) (AX dA h sz)) 0 0 (AX dA h sz) := by
  refine Met.ofWF (cc := cJ7_max) (maxL := 2) (ret := (some .int)) (by decide +kernel) rfl ?_
  intro p e s m args below meth c s₁ B hml hv
  obtain ⟨rfl, hsz, hP, hK, hD0, hE⟩ := hv
  subst hsz
  have hts0 := atoms_spec (ws := ws_ yJ7_max cJ7_max 2 (some .int)) B.pre
  have C : CxM p s m meth c _ (AX dA h s.heap.size) "java/lang/Math" cJ7_max 2 (some .int) := ⟨B.exec, B.bytes, B.returns, B.notSynchronized, hml, findClass_of_methodNamed B.named, fun w h => hts0 w (List.mem_cons_of_mem _ h), fun q h => Or.inr h⟩
  have hM : wX D dA ev (AX dA h s.heap.size) s h s.heap [] := ⟨hK, hP, hD0.self, va_S.rf, hE⟩
  have hx := C.1
  have hb := C.2.1
  have hown := C.2.2.2.2.2.1
  have hts := C.2.2.2.2.2.2.1
  have hl := lv_entry ([.int p0, .int p1]) (n := 2) (Nat.le_of_ble_eq_true rfl)
  rw [lg_entry_eq]
  generalize (lg_sl ([.int p0, .int p1]) ++ List.replicate (2 - (lg_sl ([.int p0, .int p1])).length) Slot.unset).toArray = ls at hl ⊢
  have hl : lv_has ls 2 [(0, .int p0), (1, .int p1)] := hl
  unfold wp_J7_max at hw
  refine lv_iload_n hx hb dJ7_max_0 rfl (lv_at hl 0 rfl) ?_
  refine lv_iload_n hx hb dJ7_max_1 rfl (lv_at hl 1 rfl) ?_
  refine lv_icmp_lt (tgt := 9) hx hb dJ7_max_2 (by decide) (fun hc => ?_) (fun hc => ?_)
  · replace hw := hw.1 hc
    refine lv_iload_n hx hb dJ7_max_9 rfl (lv_at hl 1 rfl) ?_
    exact wk_J7_max_10 C  p1 h _ _ ls hw hM (lv_sub hl [] rfl)
  · replace hw := hw.2 hc
    refine lv_iload_n hx hb dJ7_max_5 rfl (lv_at hl 0 rfl) ?_
    refine lv_goto (tgt := 10) hx hb dJ7_max_6 (by decide) ?_
    exact wk_J7_max_10 C  p0 h _ _ ls hw hM (lv_sub hl [] rfl)
abbrev rm_J10_hugeLength : Room := { frames := 0, cells := 0, slots := 0, locals := 0 }
set_option maxHeartbeats 4000000 in
/-- jdk/internal/util/ArraysSupport.hugeLength(II)I -/
theorem mt_J10_hugeLength (l : Launch) (D : va_G) (dA : Nat → ClassId) (ev : Nat → Nat) (sz : Nat) (h : Hp) (p0 : Int32) (p1 : Int32) (Qr : Int32 → Hp → Prop) (hw : wp_J10_hugeLength ev h p0 p1 Qr) : Met l yJ10_hugeLength (ws_ yJ10_hugeLength cJ10_hugeLength 3 (some .int)) rm_J10_hugeLength (PcX D dA ev h sz [.int p0, .int p1]) (va_Qi Qr (BX D dA (AX dA h sz)) (AX dA h sz)) 0 0 (AX dA h sz) := by
  refine Met.ofW (cc := cJ10_hugeLength) (maxL := 3) (ret := (some .int)) (by decide) rfl ?_
  intro p e s m args below meth c s₁ B hml hv
  obtain ⟨rfl, hsz, hP, hK, hD0, hE⟩ := hv
  subst hsz
  have hts0 := atoms_spec (ws := ws_ yJ10_hugeLength cJ10_hugeLength 3 (some .int)) B.pre
  have C : CxM p s m meth c _ (AX dA h s.heap.size) "jdk/internal/util/ArraysSupport" cJ10_hugeLength 3 (some .int) := ⟨B.exec, B.bytes, B.returns, B.notSynchronized, hml, findClass_of_methodNamed B.named, fun w h => hts0 w (List.mem_cons_of_mem _ h), fun q h => Or.inr h⟩
  have hM : wX D dA ev (AX dA h s.heap.size) s h s.heap [] := ⟨hK, hP, hD0.self, va_S.rf, hE⟩
  have hx := C.1
  have hb := C.2.1
  have hown := C.2.2.2.2.2.1
  have hts := C.2.2.2.2.2.2.1
  have hl := lv_entry ([.int p0, .int p1]) (n := 3) (Nat.le_of_ble_eq_true rfl)
  rw [lg_entry_eq]
  generalize (lg_sl ([.int p0, .int p1]) ++ List.replicate (3 - (lg_sl ([.int p0, .int p1])).length) Slot.unset).toArray = ls at hl ⊢
  have hl : lv_has ls 3 [(0, .int p0), (1, .int p1)] := hl
  unfold wp_J10_hugeLength at hw
  refine lv_iload_n hx hb dJ10_hugeLength_0 rfl (lv_at hl 0 rfl) ?_
  refine lv_iload_n hx hb dJ10_hugeLength_1 rfl (lv_at hl 1 rfl) ?_
  refine lv_iadd hx hb dJ10_hugeLength_2 ?_
  refine lv_topi (fun x1 ex1 => ?_)
  replace hw := hw x1 ex1
  refine lv_istore_n (lv' := [(2, .int x1), (0, .int p0), (1, .int p1)]) hx hb dJ10_hugeLength_3 rfl hl (by decide) rfl (fun ls hl => ?_)
  refine lv_iload_n hx hb dJ10_hugeLength_4 rfl (lv_at hl 0 rfl) ?_
  refine lv_if_ge (tgt := 49) hx hb dJ10_hugeLength_5 (by decide) (fun hc => ?_) (fun hc => ?_)
  · replace hw := hw.1 hc
    refine lv_iload_n hx hb dJ10_hugeLength_49 rfl (lv_at hl 0 rfl) ?_
    refine lv_ldc hx hb hown (hts _ q716) dJ10_hugeLength_50 ?_
    refine lv_icmp_gt (tgt := 58) hx hb dJ10_hugeLength_52 (by decide) (fun hc => ?_) (fun hc => ?_)
    · replace hw := hw.1 hc
      refine lv_iload_n hx hb dJ10_hugeLength_58 rfl (lv_at hl 0 rfl) ?_
      exact rX_iret C hM ⟨Nat.le_refl _, Nat.le_refl _⟩ hw dJ10_hugeLength_59
    · replace hw := hw.2 hc
      refine lv_ldc hx hb hown (hts _ q716) dJ10_hugeLength_55 ?_
      exact rX_iret C hM ⟨Nat.le_refl _, Nat.le_refl _⟩ hw dJ10_hugeLength_57
  · replace hw := hw.2 hc
    exact hw.elim
abbrev rm_J10_newLength : Room := { frames := 1, cells := 0, slots := 0, locals := 22 }
set_option maxHeartbeats 4000000 in
theorem wk_J10_newLength_21 {p : Program} {l : Launch} {e : Env} {s : State} {m : MethodId} {args : Array Value} {below : List Frame} {meth : Method} {c : Code} {D : va_G} {dA : Nat → ClassId} {ev : Nat → Nat} {h0 : Hp} {sz : Nat} (C : CxM p s m meth c args (AX dA h0 sz) "jdk/internal/util/ArraysSupport" cJ10_newLength 4 (some .int)) {Qr : Int32 → Hp → Prop} : ∀ (v0 : Int32) (v1 : Int32) (h : Hp) (H : Heap) (locs : List Loc) (ls : Array Slot), wp_J10_newLength_21 ev Qr v0 v1 h → wX D dA ev (AX dA h0 sz) s h H locs → lv_has ls 4 [(0, .int v0), (1, .int v1)] → W p l e rm_J10_newLength s m args below meth c H locs 0 0 (MQ below (va_Qi Qr (BX D dA (AX dA h0 sz)) (AX dA h0 sz)) args s 0 0 (AX dA h0 sz)) (F0 m 21 ls []) := by
  intro v0 v1 h H locs ls hw hM hl
  have hx := C.1
  have hb := C.2.1
  have hown := C.2.2.2.2.2.1
  have hts := C.2.2.2.2.2.2.1
  unfold wp_J10_newLength_21 at hw
  refine lv_iload_n hx hb dJ10_newLength_21 rfl (lv_at hl 0 rfl) ?_
  refine lv_iload_n hx hb dJ10_newLength_22 rfl (lv_at hl 1 rfl) ?_
  refine rX_goi C hM (runX_S C hM hl.1 2 (As := [.int v0, .int v1]) (mt_J10_hugeLength l D dA ev _ h v0 v1  _ hw) (lw_S q717 q718 q97 q719) rfl rfl (by decide +kernel) ⟨Nat.le_of_ble_eq_true rfl, Nat.le_of_ble_eq_true rfl⟩ rfl (Nat.le_of_ble_eq_true rfl) rfl dJ10_newLength_23 ⟨Nat.le_refl _, Nat.le_refl _⟩) (fun x2 h1 H locs hw hM => ?_)
  exact rX_iret C hM ⟨Nat.le_refl _, Nat.le_refl _⟩ hw dJ10_newLength_26
set_option maxHeartbeats 4000000 in
/-- jdk/internal/util/ArraysSupport.newLength(III)I -/
theorem mt_J10_newLength (l : Launch) (D : va_G) (dA : Nat → ClassId) (ev : Nat → Nat) (sz : Nat) (h : Hp) (p0 : Int32) (p1 : Int32) (p2 : Int32) (Qr : Int32 → Hp → Prop) (hw : wp_J10_newLength ev h p0 p1 p2 Qr) : Met l yJ10_newLength (ws_ yJ10_newLength cJ10_newLength 4 (some .int)) rm_J10_newLength (PcX D dA ev h sz [.int p0, .int p1, .int p2]) (va_Qi Qr (BX D dA (AX dA h sz)) (AX dA h sz)) 0 0 (AX dA h sz) := by
  refine Met.ofW (cc := cJ10_newLength) (maxL := 4) (ret := (some .int)) (by decide) rfl ?_
  intro p e s m args below meth c s₁ B hml hv
  obtain ⟨rfl, hsz, hP, hK, hD0, hE⟩ := hv
  subst hsz
  have hts0 := atoms_spec (ws := ws_ yJ10_newLength cJ10_newLength 4 (some .int)) B.pre
  have C : CxM p s m meth c _ (AX dA h s.heap.size) "jdk/internal/util/ArraysSupport" cJ10_newLength 4 (some .int) := ⟨B.exec, B.bytes, B.returns, B.notSynchronized, hml, findClass_of_methodNamed B.named, fun w h => hts0 w (List.mem_cons_of_mem _ h), fun q h => Or.inr h⟩
  have hM : wX D dA ev (AX dA h s.heap.size) s h s.heap [] := ⟨hK, hP, hD0.self, va_S.rf, hE⟩
  have hx := C.1
  have hb := C.2.1
  have hown := C.2.2.2.2.2.1
  have hts := C.2.2.2.2.2.2.1
  have hl := lv_entry ([.int p0, .int p1, .int p2]) (n := 4) (Nat.le_of_ble_eq_true rfl)
  rw [lg_entry_eq]
  generalize (lg_sl ([.int p0, .int p1, .int p2]) ++ List.replicate (4 - (lg_sl ([.int p0, .int p1, .int p2])).length) Slot.unset).toArray = ls at hl ⊢
  have hl : lv_has ls 4 [(0, .int p0), (1, .int p1), (2, .int p2)] := hl
  unfold wp_J10_newLength at hw
  refine lv_iload_n hx hb dJ10_newLength_0 rfl (lv_at hl 0 rfl) ?_
  refine lv_iload_n hx hb dJ10_newLength_1 rfl (lv_at hl 1 rfl) ?_
  refine lv_iload_n hx hb dJ10_newLength_2 rfl (lv_at hl 2 rfl) ?_
  refine rX_goi C hM (runX_S C hM hl.1 2 (As := [.int p1, .int p2]) (mt_J7_max l D dA ev _ h p1 p2  _ hw) (lw_S q713 q714 q94 q715) rfl rfl (by decide +kernel) ⟨Nat.le_of_ble_eq_true rfl, Nat.le_of_ble_eq_true rfl⟩ rfl (Nat.le_of_ble_eq_true rfl) rfl dJ10_newLength_3 ⟨Nat.le_refl _, Nat.le_refl _⟩) (fun x2 h1 H locs hw hM => ?_)
  refine lv_iadd hx hb dJ10_newLength_6 ?_
  refine lv_topi (fun x3 ex3 => ?_)
  replace hw := hw x3 ex3
  refine lv_istore_n (lv' := [(3, .int x3), (0, .int p0), (1, .int p1), (2, .int p2)]) hx hb dJ10_newLength_7 rfl hl (by decide) rfl (fun ls hl => ?_)
  refine lv_iconst (v := 0) hx hb dJ10_newLength_8 (by decide) ?_
  refine lv_iload_n hx hb dJ10_newLength_9 rfl (lv_at hl 0 rfl) ?_
  refine lv_icmp_ge (tgt := 21) hx hb dJ10_newLength_10 (by decide) (fun hc => ?_) (fun hc => ?_)
  · replace hw := hw.1 hc
    exact wk_J10_newLength_21 C  p0 p1 h1 _ _ ls hw hM (lv_sub hl [1, 2] rfl)
  · replace hw := hw.2 hc
    refine lv_iload_n hx hb dJ10_newLength_13 rfl (lv_at hl 0 rfl) ?_
    refine lv_ldc hx hb hown (hts _ q716) dJ10_newLength_14 ?_
    refine lv_icmp_gt (tgt := 21) hx hb dJ10_newLength_16 (by decide) (fun hc => ?_) (fun hc => ?_)
    · replace hw := hw.1 hc
      exact wk_J10_newLength_21 C  p0 p1 h1 _ _ ls hw hM (lv_sub hl [1, 2] rfl)
    · replace hw := hw.2 hc
      refine lv_iload_n hx hb dJ10_newLength_19 rfl (lv_at hl 0 rfl) ?_
      exact rX_iret C hM ⟨Nat.le_refl _, Nat.le_refl _⟩ hw dJ10_newLength_20
abbrev rm_J7_min : Room := { frames := 0, cells := 0, slots := 0, locals := 0 }
set_option maxHeartbeats 4000000 in
theorem wk_J7_min_10 {p : Program} {l : Launch} {e : Env} {s : State} {m : MethodId} {args : Array Value} {below : List Frame} {meth : Method} {c : Code} {D : va_G} {dA : Nat → ClassId} {ev : Nat → Nat} {h0 : Hp} {sz : Nat} (C : CxM p s m meth c args (AX dA h0 sz) "java/lang/Math" cJ7_min 2 (some .int)) {Qr : Int32 → Hp → Prop} : ∀ (u0 : Int32) (h : Hp) (H : Heap) (locs : List Loc) (ls : Array Slot), wp_J7_min_10 ev Qr u0 h → wX D dA ev (AX dA h0 sz) s h H locs → lv_has ls 2 [] → W p l e rm_J7_min s m args below meth c H locs 0 0 (MQ below (va_Qi Qr (BX D dA (AX dA h0 sz)) (AX dA h0 sz)) args s 0 0 (AX dA h0 sz)) (F0 m 10 ls [.int u0]) := by
  intro u0 h H locs ls hw hM hl
  have hx := C.1
  have hb := C.2.1
  have hown := C.2.2.2.2.2.1
  have hts := C.2.2.2.2.2.2.1
  unfold wp_J7_min_10 at hw
  exact rX_iret C hM ⟨Nat.le_refl _, Nat.le_refl _⟩ hw dJ7_min_10
set_option maxHeartbeats 4000000 in
/-- java/lang/Math.min(II)I -/
theorem mt_J7_min (l : Launch) (D : va_G) (dA : Nat → ClassId) (ev : Nat → Nat) (sz : Nat) (h : Hp) (p0 : Int32) (p1 : Int32) (Qr : Int32 → Hp → Prop) (hw : wp_J7_min ev h p0 p1 Qr) : Met l yJ7_min (ws_ yJ7_min cJ7_min 2 (some .int)) rm_J7_min (PcX D dA ev h sz [.int p0, .int p1]) (va_Qi Qr (BX D dA (AX dA h sz)) (AX dA h sz)) 0 0 (AX dA h sz) := by
  refine Met.ofWF (cc := cJ7_min) (maxL := 2) (ret := (some .int)) (by decide +kernel) rfl ?_
  intro p e s m args below meth c s₁ B hml hv
  obtain ⟨rfl, hsz, hP, hK, hD0, hE⟩ := hv
  subst hsz
  have hts0 := atoms_spec (ws := ws_ yJ7_min cJ7_min 2 (some .int)) B.pre
  have C : CxM p s m meth c _ (AX dA h s.heap.size) "java/lang/Math" cJ7_min 2 (some .int) := ⟨B.exec, B.bytes, B.returns, B.notSynchronized, hml, findClass_of_methodNamed B.named, fun w h => hts0 w (List.mem_cons_of_mem _ h), fun q h => Or.inr h⟩
  have hM : wX D dA ev (AX dA h s.heap.size) s h s.heap [] := ⟨hK, hP, hD0.self, va_S.rf, hE⟩
  have hx := C.1
  have hb := C.2.1
  have hown := C.2.2.2.2.2.1
  have hts := C.2.2.2.2.2.2.1
  have hl := lv_entry ([.int p0, .int p1]) (n := 2) (Nat.le_of_ble_eq_true rfl)
  rw [lg_entry_eq]
  generalize (lg_sl ([.int p0, .int p1]) ++ List.replicate (2 - (lg_sl ([.int p0, .int p1])).length) Slot.unset).toArray = ls at hl ⊢
  have hl : lv_has ls 2 [(0, .int p0), (1, .int p1)] := hl
  unfold wp_J7_min at hw
  refine lv_iload_n hx hb dJ7_min_0 rfl (lv_at hl 0 rfl) ?_
  refine lv_iload_n hx hb dJ7_min_1 rfl (lv_at hl 1 rfl) ?_
  refine lv_icmp_gt (tgt := 9) hx hb dJ7_min_2 (by decide) (fun hc => ?_) (fun hc => ?_)
  · replace hw := hw.1 hc
    refine lv_iload_n hx hb dJ7_min_9 rfl (lv_at hl 1 rfl) ?_
    exact wk_J7_min_10 C  p1 h _ _ ls hw hM (lv_sub hl [] rfl)
  · replace hw := hw.2 hc
    refine lv_iload_n hx hb dJ7_min_5 rfl (lv_at hl 0 rfl) ?_
    refine lv_goto (tgt := 10) hx hb dJ7_min_6 (by decide) ?_
    exact wk_J7_min_10 C  p0 h _ _ ls hw hM (lv_sub hl [] rfl)
abbrev rm_J11_copyOf_2 (MC MS : Nat) : Room := { frames := 1, cells := MC, slots := MS, locals := 60 }
set_option maxHeartbeats 4000000 in
/-- java/util/Arrays.copyOf([Ljava/lang/Object;ILjava/lang/Class;)[Ljava/lang/Object; -/
theorem mt_J11_copyOf_2 (l : Launch) (D : va_G) (dA : Nat → ClassId) (ev : Nat → Nat) (sz : Nat) (h : Hp) (p0 : Nat) (p1 : Int32) (p2 : Nat) (MC MS : Nat) (Qr : Option Nat → Hp → Prop) (hw : wp_J11_copyOf_2 ev h p0 p1 p2 MC MS Qr) : Met l yJ11_copyOf_2 (ws_ yJ11_copyOf_2 cJ11_copyOf_2 4 (some (.array (.object "java/lang/Object")))) (rm_J11_copyOf_2 MC MS) (PcX D dA ev h sz [.ref p0, .int p1, .ref p2]) (va_Qq Qr (BX D dA (AX dA h sz)) (AX dA h sz)) MC MS (AX dA h sz) := by
  refine Met.ofW (cc := cJ11_copyOf_2) (maxL := 4) (ret := (some (.array (.object "java/lang/Object")))) (by decide) rfl ?_
  intro p e s m args below meth c s₁ B hml hv
  obtain ⟨rfl, hsz, hP, hK, hD0, hE⟩ := hv
  subst hsz
  have hts0 := atoms_spec (ws := ws_ yJ11_copyOf_2 cJ11_copyOf_2 4 (some (.array (.object "java/lang/Object")))) B.pre
  have C : CxM p s m meth c _ (AX dA h s.heap.size) "java/util/Arrays" cJ11_copyOf_2 4 (some (.array (.object "java/lang/Object"))) := ⟨B.exec, B.bytes, B.returns, B.notSynchronized, hml, findClass_of_methodNamed B.named, fun w h => hts0 w (List.mem_cons_of_mem _ h), fun q h => Or.inr h⟩
  have hM : wX D dA ev (AX dA h s.heap.size) s h s.heap [] := ⟨hK, hP, hD0.self, va_S.rf, hE⟩
  have hx := C.1
  have hb := C.2.1
  have hown := C.2.2.2.2.2.1
  have hts := C.2.2.2.2.2.2.1
  have hl := lv_entry ([.ref p0, .int p1, .ref p2]) (n := 4) (Nat.le_of_ble_eq_true rfl)
  rw [lg_entry_eq]
  generalize (lg_sl ([.ref p0, .int p1, .ref p2]) ++ List.replicate (4 - (lg_sl ([.ref p0, .int p1, .ref p2])).length) Slot.unset).toArray = ls at hl ⊢
  have hl : lv_has ls 4 [(0, .ref p0), (1, .int p1), (2, .ref p2)] := hl
  have hbud : 0 + MC ≤ MC ∧ 0 + MS ≤ MS := ⟨by omega, by omega⟩
  unfold wp_J11_copyOf_2 at hw
  refine lv_aload_n hx hb dJ11_copyOf_2_0 rfl (lv_at hl 2 rfl) ?_
  refine va_ldcM hx hb hown (hts _ q750) hM.2.2.2.2.2.2.2.1 dJ11_copyOf_2_1 ?_
  refine rX_acmp_ne (tgt := 13) C dJ11_copyOf_2_3 (by decide) (fun hc => ?_) (fun hc => ?_)
  · replace hw := hw.1 hc
    refine lv_aload_n hx hb dJ11_copyOf_2_13 rfl (lv_at hl 2 rfl) ?_
    exact hw.elim
  · replace hw := hw.2 hc
    refine lv_iload_n hx hb dJ11_copyOf_2_6 rfl (lv_at hl 1 rfl) ?_
    have o2 := hw.1
    obtain ⟨k1, ek1⟩ : ∃ y : Nat, p1.toNatClampNeg = y := ⟨_, rfl⟩
    have o2b := (hw.2 k1 ek1).1
    replace hw := (hw.2 k1 ek1).2
    obtain ⟨mc3, ms4, emc3, ems4, hw⟩ := hw
    refine rX_newo C hM (N := k1) 6 (by decide) rfl q752 hM.2.2.2.2.2.2.2.2.2.1 o2 ek1 (by omega) (by show 0 + 1 ≤ MC; omega) (by show 0 + k1 ≤ MS; omega) dJ11_copyOf_2_7 (fun q5 h6 H hqq5 eσ hM => ?_)
    replace hw := hw q5 hqq5 h6 eσ
    clear eσ
    have hbud : 0 + 1 + mc3 ≤ MC ∧ 0 + k1 + ms4 ≤ MS := ⟨by omega, by omega⟩
    refine lv_goto (tgt := 24) hx hb dJ11_copyOf_2_10 (by decide) ?_
    refine lv_astore_n (lv' := [(3, .ref q5), (0, .ref p0), (1, .int p1), (2, .ref p2)]) hx hb dJ11_copyOf_2_24 rfl hl (by decide) rfl (fun ls hl => ?_)
    refine lv_aload_n hx hb dJ11_copyOf_2_25 rfl (lv_at hl 1 rfl) ?_
    refine lv_iconst (v := 0) hx hb dJ11_copyOf_2_26 (by decide) ?_
    refine lv_aload_n hx hb dJ11_copyOf_2_27 rfl (lv_at hl 0 rfl) ?_
    refine lv_iconst (v := 0) hx hb dJ11_copyOf_2_28 (by decide) ?_
    refine lv_aload_n hx hb dJ11_copyOf_2_29 rfl (lv_at hl 1 rfl) ?_
    have o7 := hw.1
    replace hw := hw.2
    refine rX_alenE C hM o7 dJ11_copyOf_2_30 ?_
    refine lv_iload_n hx hb dJ11_copyOf_2_31 rfl (lv_at hl 2 rfl) ?_
    refine rX_goi C hM (runX_S C hM hl.1 2 (As := [.int (hL ev h6 p0), .int p1]) (mt_J7_min l D dA ev _ h6 (hL ev h6 p0) p1  _ hw) (lw_S q753 q754 q94 q755) rfl rfl (by decide +kernel) ⟨Nat.le_of_ble_eq_true rfl, Nat.le_of_ble_eq_true rfl⟩ rfl (Nat.le_of_ble_eq_true rfl) rfl dJ11_copyOf_2_32 ⟨by show 0 + 1 + 0 ≤ MC; omega, by show 0 + k1 + 0 ≤ MS; omega⟩) (fun x9 h8 H locs hw hM => ?_)
    have o11 := hw.1
    replace hw := hw.2
    have o12 := hw.1
    replace hw := hw.2
    have o13 := hw.1
    replace hw := hw.2
    refine rX_copyV C hM hl.1 q756 q758 q757 q99 q1723 o11 o12 o13 (Nat.le_of_ble_eq_true rfl) (Nat.le_of_ble_eq_true rfl) dJ11_copyOf_2_35 (fun h10 H locs eσ hM => ?_)
    replace hw := hw h10 eσ
    clear eσ
    refine lv_aload_n hx hb dJ11_copyOf_2_38 rfl (lv_at hl 0 rfl) ?_
    exact rX_qret (v := (some q5)) (by first | exact Or.inl ⟨_, rfl⟩ | exact Or.inr ⟨_, rfl⟩) C hM ⟨by show 0 + 1 ≤ MC; omega, by show 0 + k1 ≤ MS; omega⟩ hw dJ11_copyOf_2_39
abbrev rm_J11_copyOf (MC MS : Nat) : Room := { frames := 2, cells := MC, slots := MS, locals := 83 }
set_option maxHeartbeats 4000000 in
/-- java/util/Arrays.copyOf([Ljava/lang/Object;I)[Ljava/lang/Object; -/
theorem mt_J11_copyOf (l : Launch) (D : va_G) (dA : Nat → ClassId) (ev : Nat → Nat) (sz : Nat) (h : Hp) (p0 : Nat) (p1 : Int32) (MC MS : Nat) (Qr : Option Nat → Hp → Prop) (hw : wp_J11_copyOf ev h p0 p1 MC MS Qr) : Met l yJ11_copyOf (ws_ yJ11_copyOf cJ11_copyOf 2 (some (.array (.object "java/lang/Object")))) (rm_J11_copyOf MC MS) (PcX D dA ev h sz [.ref p0, .int p1]) (va_Qq Qr (BX D dA (AX dA h sz)) (AX dA h sz)) MC MS (AX dA h sz) := by
  refine Met.ofW (cc := cJ11_copyOf) (maxL := 2) (ret := (some (.array (.object "java/lang/Object")))) (by decide) rfl ?_
  intro p e s m args below meth c s₁ B hml hv
  obtain ⟨rfl, hsz, hP, hK, hD0, hE⟩ := hv
  subst hsz
  have hts0 := atoms_spec (ws := ws_ yJ11_copyOf cJ11_copyOf 2 (some (.array (.object "java/lang/Object")))) B.pre
  have C : CxM p s m meth c _ (AX dA h s.heap.size) "java/util/Arrays" cJ11_copyOf 2 (some (.array (.object "java/lang/Object"))) := ⟨B.exec, B.bytes, B.returns, B.notSynchronized, hml, findClass_of_methodNamed B.named, fun w h => hts0 w (List.mem_cons_of_mem _ h), fun q h => Or.inr h⟩
  have hM : wX D dA ev (AX dA h s.heap.size) s h s.heap [] := ⟨hK, hP, hD0.self, va_S.rf, hE⟩
  have hx := C.1
  have hb := C.2.1
  have hown := C.2.2.2.2.2.1
  have hts := C.2.2.2.2.2.2.1
  have hl := lv_entry ([.ref p0, .int p1]) (n := 2) (Nat.le_of_ble_eq_true rfl)
  rw [lg_entry_eq]
  generalize (lg_sl ([.ref p0, .int p1]) ++ List.replicate (2 - (lg_sl ([.ref p0, .int p1])).length) Slot.unset).toArray = ls at hl ⊢
  have hl : lv_has ls 2 [(0, .ref p0), (1, .int p1)] := hl
  have hbud : 0 + MC ≤ MC ∧ 0 + MS ≤ MS := ⟨by omega, by omega⟩
  unfold wp_J11_copyOf at hw
  refine lv_aload_n hx hb dJ11_copyOf_0 rfl (lv_at hl 0 rfl) ?_
  refine lv_iload_n hx hb dJ11_copyOf_1 rfl (lv_at hl 1 rfl) ?_
  refine lv_aload_n hx hb dJ11_copyOf_2 rfl (lv_at hl 0 rfl) ?_
  have o1 := hw.1
  replace hw := hw.2
  refine rX_getC C hM hl.1 q723 o1 (Nat.le_of_ble_eq_true rfl) (Nat.le_of_ble_eq_true rfl) dJ11_copyOf_3 ?_
  obtain ⟨c2, d3, mc4, ms5, emc4, ems5, hw⟩ := hw
  refine rX_goq C hM (runX_S C hM hl.1 3 (As := [.ref p0, .int p1, .ref (ev 12)]) (mt_J11_copyOf_2 l D dA ev _ h p0 p1 (ev 12)  c2 d3 _ hw) (lw_S q747 q748 q98 q749) rfl rfl (by decide +kernel) ⟨Nat.le_of_ble_eq_true rfl, Nat.le_of_ble_eq_true rfl⟩ rfl (Nat.le_of_ble_eq_true rfl) rfl dJ11_copyOf_6 ⟨by show 0 + c2 ≤ MC; omega, by show 0 + d3 ≤ MS; omega⟩) (fun r7 h6 H locs hw hM => ?_)
  have hbud : 0 + c2 + mc4 ≤ MC ∧ 0 + d3 + ms5 ≤ MS := ⟨by omega, by omega⟩
  obtain ⟨b8, eb, hw⟩ := hw
  subst eb
  exact rX_qret (v := (some b8)) (by first | exact Or.inl ⟨_, rfl⟩ | exact Or.inr ⟨_, rfl⟩) C hM ⟨by show 0 + c2 ≤ MC; omega, by show 0 + d3 ≤ MS; omega⟩ hw dJ11_copyOf_9
abbrev rm_J6_grow_2 (MC MS : Nat) : Room := { frames := 3, cells := MC, slots := MS, locals := 104 }
set_option maxHeartbeats 4000000 in
theorem wk_J6_grow_2_20 {p : Program} {l : Launch} {e : Env} {s : State} {m : MethodId} {args : Array Value} {below : List Frame} {meth : Method} {c : Code} {D : va_G} {dA : Nat → ClassId} {ev : Nat → Nat} {h0 : Hp} {sz : Nat} {MC MS : Nat} (C : CxM p s m meth c args (AX dA h0 sz) "java/util/ArrayList" cJ6_grow_2 4 (some (.array (.object "java/lang/Object")))) {Qr : Option Nat → Hp → Prop} : ∀ (a0 : Nat) (v1 : Int32) (v2 : Int32) (h : Hp) (mc ms : Nat) (cells slots : Nat) (H : Heap) (locs : List Loc) (ls : Array Slot), wp_J6_grow_2_20 ev Qr a0 v1 v2 h mc ms → wX D dA ev (AX dA h0 sz) s h H locs → cells + mc ≤ MC ∧ slots + ms ≤ MS → lv_has ls 4 [(0, .ref a0), (1, .int v1), (2, .int v2)] → W p l e (rm_J6_grow_2 MC MS) s m args below meth c H locs cells slots (MQ below (va_Qq Qr (BX D dA (AX dA h0 sz)) (AX dA h0 sz)) args s MC MS (AX dA h0 sz)) (F0 m 20 ls []) := by
  intro a0 v1 v2 h mc ms cells slots H locs ls hw hM hbud hl
  have hx := C.1
  have hb := C.2.1
  have hown := C.2.2.2.2.2.1
  have hts := C.2.2.2.2.2.2.1
  unfold wp_J6_grow_2_20 at hw
  refine lv_iload_n hx hb dJ6_grow_2_20 rfl (lv_at hl 2 rfl) ?_
  refine lv_iload_n hx hb dJ6_grow_2_21 rfl (lv_at hl 1 rfl) ?_
  refine lv_iload_n hx hb dJ6_grow_2_22 rfl (lv_at hl 2 rfl) ?_
  refine lv_isub hx hb dJ6_grow_2_23 ?_
  refine lv_iload_n hx hb dJ6_grow_2_24 rfl (lv_at hl 2 rfl) ?_
  refine lv_iconst (v := 1) hx hb dJ6_grow_2_25 (by decide) ?_
  refine lv_ishr hx hb dJ6_grow_2_26 ?_
  refine rX_goi C hM (runX_S C hM hl.1 3 (As := [.int v2, .int (v1 - v2), .int (v2 >>> (1 &&& 31))]) (mt_J10_newLength l D dA ev _ h v2 (v1 - v2) (v2 >>> (1 &&& 31))  _ hw) (lw_S q710 q711 q97 q712) rfl rfl (by decide +kernel) ⟨Nat.le_of_ble_eq_true rfl, Nat.le_of_ble_eq_true rfl⟩ rfl (Nat.le_of_ble_eq_true rfl) rfl dJ6_grow_2_27 ⟨by show cells + 0 ≤ MC; omega, by show slots + 0 ≤ MS; omega⟩) (fun x2 h1 H locs hw hM => ?_)
  refine lv_istore_n (lv' := [(3, .int x2), (0, .ref a0), (1, .int v1), (2, .int v2)]) hx hb dJ6_grow_2_30 rfl hl (by decide) rfl (fun ls hl => ?_)
  refine lv_aload_n hx hb dJ6_grow_2_31 rfl (lv_at hl 1 rfl) ?_
  refine lv_aload_n hx hb dJ6_grow_2_32 rfl (lv_at hl 1 rfl) ?_
  have o3 := hw.1
  replace hw := hw.2
  obtain ⟨b4, ebb4, hw⟩ := hw
  refine rX_getRs C hM 11 1 rfl in_J6 (by decide) (by decide) rfl q361 o3 ebb4 dJ6_grow_2_33 ?_
  refine lv_iload_n hx hb dJ6_grow_2_36 rfl (lv_at hl 0 rfl) ?_
  obtain ⟨c5, d6, mc7, ms8, emc7, ems8, hw⟩ := hw
  refine rX_goq C hM (runX_S C hM hl.1 2 (As := [.ref b4, .int x2]) (mt_J11_copyOf l D dA ev _ h1 b4 x2  c5 d6 _ hw) (lw_S q720 q721 q98 q722) rfl rfl (by decide +kernel) ⟨Nat.le_of_ble_eq_true rfl, Nat.le_of_ble_eq_true rfl⟩ rfl (Nat.le_of_ble_eq_true rfl) rfl dJ6_grow_2_37 ⟨by show cells + c5 ≤ MC; omega, by show slots + d6 ≤ MS; omega⟩) (fun r10 h9 H locs hw hM => ?_)
  have hbud : cells + c5 + mc7 ≤ MC ∧ slots + d6 + ms8 ≤ MS := ⟨by omega, by omega⟩
  obtain ⟨b11, eb, hw⟩ := hw
  subst eb
  refine lv_dup_x1 hx hb dJ6_grow_2_40 rfl rfl ?_
  have o13 := hw.1
  replace hw := hw.2
  refine rX_putR C hM 11 1 rfl in_J6 (by decide) (by decide) rfl rfl q361 o13 (x := (some b11)) tyJ6 tyJ6_ok nmJ6 rfl rfl rfl dJ6_grow_2_41 (fun h12 H locs eσ hM => ?_)
  replace hw := hw h12 eσ
  clear eσ
  exact rX_qret (v := (some b11)) (by first | exact Or.inl ⟨_, rfl⟩ | exact Or.inr ⟨_, rfl⟩) C hM ⟨by show cells + c5 ≤ MC; omega, by show slots + d6 ≤ MS; omega⟩ hw dJ6_grow_2_44
set_option maxHeartbeats 4000000 in
/-- java/util/ArrayList.grow(I)[Ljava/lang/Object; -/
theorem mt_J6_grow_2 (l : Launch) (D : va_G) (dA : Nat → ClassId) (ev : Nat → Nat) (sz : Nat) (h : Hp) (a0 : Nat) (p1 : Int32) (MC MS : Nat) (Qr : Option Nat → Hp → Prop) (hw : wp_J6_grow_2 ev h a0 p1 MC MS Qr) : Met l yJ6_grow_2 (ws_ yJ6_grow_2 cJ6_grow_2 4 (some (.array (.object "java/lang/Object")))) (rm_J6_grow_2 MC MS) (PcX D dA ev h sz [.ref a0, .int p1]) (va_Qq Qr (BX D dA (AX dA h sz)) (AX dA h sz)) MC MS (AX dA h sz) := by
  refine Met.ofW (cc := cJ6_grow_2) (maxL := 4) (ret := (some (.array (.object "java/lang/Object")))) (by decide) rfl ?_
  intro p e s m args below meth c s₁ B hml hv
  obtain ⟨rfl, hsz, hP, hK, hD0, hE⟩ := hv
  subst hsz
  have hts0 := atoms_spec (ws := ws_ yJ6_grow_2 cJ6_grow_2 4 (some (.array (.object "java/lang/Object")))) B.pre
  have C : CxM p s m meth c _ (AX dA h s.heap.size) "java/util/ArrayList" cJ6_grow_2 4 (some (.array (.object "java/lang/Object"))) := ⟨B.exec, B.bytes, B.returns, B.notSynchronized, hml, findClass_of_methodNamed B.named, fun w h => hts0 w (List.mem_cons_of_mem _ h), fun q h => Or.inr h⟩
  have hM : wX D dA ev (AX dA h s.heap.size) s h s.heap [] := ⟨hK, hP, hD0.self, va_S.rf, hE⟩
  have hx := C.1
  have hb := C.2.1
  have hown := C.2.2.2.2.2.1
  have hts := C.2.2.2.2.2.2.1
  have hl := lv_entry ([.ref a0, .int p1]) (n := 4) (Nat.le_of_ble_eq_true rfl)
  rw [lg_entry_eq]
  generalize (lg_sl ([.ref a0, .int p1]) ++ List.replicate (4 - (lg_sl ([.ref a0, .int p1])).length) Slot.unset).toArray = ls at hl ⊢
  have hl : lv_has ls 4 [(0, .ref a0), (1, .int p1)] := hl
  have hbud : 0 + MC ≤ MC ∧ 0 + MS ≤ MS := ⟨by omega, by omega⟩
  unfold wp_J6_grow_2 at hw
  refine lv_aload_n hx hb dJ6_grow_2_0 rfl (lv_at hl 0 rfl) ?_
  have o1 := hw.1
  replace hw := hw.2
  obtain ⟨b2, ebb2, hw⟩ := hw
  refine rX_getRs C hM 11 1 rfl in_J6 (by decide) (by decide) rfl q361 o1 ebb2 dJ6_grow_2_1 ?_
  have o3 := hw.1
  replace hw := hw.2
  refine rX_alenE C hM o3 dJ6_grow_2_4 ?_
  refine lv_topi (fun x4 ex4 => ?_)
  replace hw := hw x4 ex4
  refine lv_istore_n (lv' := [(2, .int x4), (0, .ref a0), (1, .int p1)]) hx hb dJ6_grow_2_5 rfl hl (by decide) rfl (fun ls hl => ?_)
  refine lv_iload_n hx hb dJ6_grow_2_6 rfl (lv_at hl 0 rfl) ?_
  refine lv_if_gt (tgt := 20) hx hb dJ6_grow_2_7 (by decide) (fun hc => ?_) (fun hc => ?_)
  · replace hw := hw.1 hc
    exact wk_J6_grow_2_20 C  a0 p1 x4 h MC MS _ _ _ _ ls hw hM hbud (lv_sub hl [1, 2, 0] rfl)
  · replace hw := hw.2 hc
    refine lv_aload_n hx hb dJ6_grow_2_10 rfl (lv_at hl 1 rfl) ?_
    have o5 := hw.1
    replace hw := hw.2
    obtain ⟨b6, ebb6, hw⟩ := hw
    refine rX_getRs C hM 11 1 rfl in_J6 (by decide) (by decide) rfl q361 o5 ebb6 dJ6_grow_2_11 ?_
    refine rX_empty C hM q359 dJ6_grow_2_14 ?_
    refine rX_acmp_eq (tgt := 45) C dJ6_grow_2_17 (by decide) (fun hc => ?_) (fun hc => ?_)
    · replace hw := hw.1 hc
      refine lv_aload_n hx hb dJ6_grow_2_45 rfl (lv_at hl 1 rfl) ?_
      refine lv_bipush (v := 10) hx hb dJ6_grow_2_46 (by decide) ?_
      refine lv_iload_n hx hb dJ6_grow_2_48 rfl (lv_at hl 2 rfl) ?_
      refine rX_goi C hM (runX_S C hM hl.1 2 (As := [.int 10, .int p1]) (mt_J7_max l D dA ev _ h 10 p1  _ hw) (lw_S q759 q714 q94 q715) rfl rfl (by decide +kernel) ⟨Nat.le_of_ble_eq_true rfl, Nat.le_of_ble_eq_true rfl⟩ rfl (Nat.le_of_ble_eq_true rfl) rfl dJ6_grow_2_49 ⟨by show 0 + 0 ≤ MC; omega, by show 0 + 0 ≤ MS; omega⟩) (fun x8 h7 H locs hw hM => ?_)
      have o10 := hw.1
      obtain ⟨k9, ek9⟩ : ∃ y : Nat, x8.toNatClampNeg = y := ⟨_, rfl⟩
      have o10b := (hw.2 k9 ek9).1
      replace hw := (hw.2 k9 ek9).2
      obtain ⟨mc11, ms12, emc11, ems12, hw⟩ := hw
      refine rX_newo C hM (N := k9) 6 (by decide) rfl q760 hM.2.2.2.2.2.2.2.2.2.1 o10 ek9 (by omega) (by show 0 + 1 ≤ MC; omega) (by show 0 + k9 ≤ MS; omega) dJ6_grow_2_52 (fun q13 h14 H hqq13 eσ hM => ?_)
      replace hw := hw q13 hqq13 h14 eσ
      clear eσ
      have hbud : 0 + 1 + mc11 ≤ MC ∧ 0 + k9 + ms12 ≤ MS := ⟨by omega, by omega⟩
      refine lv_dup_x1 hx hb dJ6_grow_2_55 rfl rfl ?_
      have o16 := hw.1
      replace hw := hw.2
      refine rX_putR C hM 11 1 rfl in_J6 (by decide) (by decide) rfl rfl q361 o16 (x := (some q13)) tyJ6 tyJ6_ok nmJ6 rfl rfl rfl dJ6_grow_2_56 (fun h15 H locs eσ hM => ?_)
      replace hw := hw h15 eσ
      clear eσ
      exact rX_qret (v := (some q13)) (by first | exact Or.inl ⟨_, rfl⟩ | exact Or.inr ⟨_, rfl⟩) C hM ⟨by show 0 + 1 ≤ MC; omega, by show 0 + k9 ≤ MS; omega⟩ hw dJ6_grow_2_59
    · replace hw := hw.2 hc
      exact wk_J6_grow_2_20 C  a0 p1 x4 h MC MS _ _ _ _ ls hw hM hbud (lv_sub hl [1, 2, 0] rfl)
abbrev rm_J6_grow (MC MS : Nat) : Room := { frames := 4, cells := MC, slots := MS, locals := 127 }
set_option maxHeartbeats 4000000 in
/-- java/util/ArrayList.grow()[Ljava/lang/Object; -/
theorem mt_J6_grow (l : Launch) (D : va_G) (dA : Nat → ClassId) (ev : Nat → Nat) (sz : Nat) (h : Hp) (a0 : Nat) (MC MS : Nat) (Qr : Option Nat → Hp → Prop) (hw : wp_J6_grow ev h a0 MC MS Qr) : Met l yJ6_grow (ws_ yJ6_grow cJ6_grow 1 (some (.array (.object "java/lang/Object")))) (rm_J6_grow MC MS) (PcX D dA ev h sz [.ref a0]) (va_Qq Qr (BX D dA (AX dA h sz)) (AX dA h sz)) MC MS (AX dA h sz) := by
  refine Met.ofW (cc := cJ6_grow) (maxL := 1) (ret := (some (.array (.object "java/lang/Object")))) (by decide) rfl ?_
  intro p e s m args below meth c s₁ B hml hv
  obtain ⟨rfl, hsz, hP, hK, hD0, hE⟩ := hv
  subst hsz
  have hts0 := atoms_spec (ws := ws_ yJ6_grow cJ6_grow 1 (some (.array (.object "java/lang/Object")))) B.pre
  have C : CxM p s m meth c _ (AX dA h s.heap.size) "java/util/ArrayList" cJ6_grow 1 (some (.array (.object "java/lang/Object"))) := ⟨B.exec, B.bytes, B.returns, B.notSynchronized, hml, findClass_of_methodNamed B.named, fun w h => hts0 w (List.mem_cons_of_mem _ h), fun q h => Or.inr h⟩
  have hM : wX D dA ev (AX dA h s.heap.size) s h s.heap [] := ⟨hK, hP, hD0.self, va_S.rf, hE⟩
  have hx := C.1
  have hb := C.2.1
  have hown := C.2.2.2.2.2.1
  have hts := C.2.2.2.2.2.2.1
  have hl := lv_entry ([.ref a0]) (n := 1) (Nat.le_of_ble_eq_true rfl)
  rw [lg_entry_eq]
  generalize (lg_sl ([.ref a0]) ++ List.replicate (1 - (lg_sl ([.ref a0])).length) Slot.unset).toArray = ls at hl ⊢
  have hl : lv_has ls 1 [(0, .ref a0)] := hl
  have hbud : 0 + MC ≤ MC ∧ 0 + MS ≤ MS := ⟨by omega, by omega⟩
  unfold wp_J6_grow at hw
  refine lv_aload_n hx hb dJ6_grow_0 rfl (lv_at hl 0 rfl) ?_
  refine lv_aload_n hx hb dJ6_grow_1 rfl (lv_at hl 0 rfl) ?_
  have o1 := hw.1
  replace hw := hw.2
  refine rX_getI C hM 11 2 rfl in_J6 (by decide) (by decide) rfl q362 o1 dJ6_grow_2 ?_
  refine lv_iconst (v := 1) hx hb dJ6_grow_5 (by decide) ?_
  refine lv_iadd hx hb dJ6_grow_6 ?_
  obtain ⟨c2, d3, mc4, ms5, emc4, ems5, hw⟩ := hw
  have o8 := hw.1
  replace hw := hw.2
  refine rX_goq C hM (runX_V C hM hl.1 11 1 (As := [.int ((hI h a0 2) + 1)]) rfl (by decide) o8 (mt_J6_grow_2 l D dA ev _ h a0 ((hI h a0 2) + 1)  c2 d3 _ hw) (lw_V q706 q708 qs24 q90 q709) rfl rfl (by decide +kernel) ⟨Nat.le_of_ble_eq_true rfl, Nat.le_of_ble_eq_true rfl⟩ rfl (Nat.le_of_ble_eq_true rfl) rfl dJ6_grow_7 ⟨by show 0 + c2 ≤ MC; omega, by show 0 + d3 ≤ MS; omega⟩) (fun r7 h6 H locs hw hM => ?_)
  have hbud : 0 + c2 + mc4 ≤ MC ∧ 0 + d3 + ms5 ≤ MS := ⟨by omega, by omega⟩
  obtain ⟨b9, eb, hw⟩ := hw
  subst eb
  exact rX_qret (v := (some b9)) (by first | exact Or.inl ⟨_, rfl⟩ | exact Or.inr ⟨_, rfl⟩) C hM ⟨by show 0 + c2 ≤ MC; omega, by show 0 + d3 ≤ MS; omega⟩ hw dJ6_grow_10
abbrev rm_J6_add_2 (MC MS : Nat) : Room := { frames := 5, cells := MC, slots := MS, locals := 147 }
set_option maxHeartbeats 4000000 in
theorem wk_J6_add_2_11 {p : Program} {l : Launch} {e : Env} {s : State} {m : MethodId} {args : Array Value} {below : List Frame} {meth : Method} {c : Code} {D : va_G} {dA : Nat → ClassId} {ev : Nat → Nat} {h0 : Hp} {sz : Nat} {MC MS : Nat} (C : CxM p s m meth c args (AX dA h0 sz) "java/util/ArrayList" cJ6_add_2 4 none) {Qr : Hp → Prop} : ∀ (a0 : Nat) (v1 : Nat) (v2 : Nat) (v3 : Int32) (h : Hp) (mc ms : Nat) (cells slots : Nat) (H : Heap) (locs : List Loc) (ls : Array Slot), wp_J6_add_2_11 ev Qr a0 v1 v2 v3 h mc ms → wX D dA ev (AX dA h0 sz) s h H locs → cells + mc ≤ MC ∧ slots + ms ≤ MS → lv_has ls 4 [(0, .ref a0), (1, .ref v1), (2, .ref v2), (3, .int v3)] → W p l e (rm_J6_add_2 MC MS) s m args below meth c H locs cells slots (MQ below (va_Qv Qr (BX D dA (AX dA h0 sz)) (AX dA h0 sz)) args s MC MS (AX dA h0 sz)) (F0 m 11 ls []) := by
  intro a0 v1 v2 v3 h mc ms cells slots H locs ls hw hM hbud hl
  have hx := C.1
  have hb := C.2.1
  have hown := C.2.2.2.2.2.1
  have hts := C.2.2.2.2.2.2.1
  unfold wp_J6_add_2_11 at hw
  refine lv_aload_n hx hb dJ6_add_2_11 rfl (lv_at hl 2 rfl) ?_
  refine lv_iload_n hx hb dJ6_add_2_12 rfl (lv_at hl 3 rfl) ?_
  refine lv_aload_n hx hb dJ6_add_2_13 rfl (lv_at hl 1 rfl) ?_
  have o2 := hw.1
  replace hw := hw.2
  have o3 := hw.1
  replace hw := hw.2
  have o4 := hw.1
  replace hw := hw.2
  refine rX_aastV C hM o2 o3 (vb_asgC (hM.2.2.2.2.2.2.2.2.1 _ (nx_in q1723 rfl))) o4 dJ6_add_2_14 (fun h1 H locs eσ hM => ?_)
  replace hw := hw h1 eσ
  clear eσ
  refine lv_aload_n hx hb dJ6_add_2_15 rfl (lv_at hl 0 rfl) ?_
  refine lv_iload_n hx hb dJ6_add_2_16 rfl (lv_at hl 3 rfl) ?_
  refine lv_iconst (v := 1) hx hb dJ6_add_2_17 (by decide) ?_
  refine lv_iadd hx hb dJ6_add_2_18 ?_
  have o6 := hw.1
  replace hw := hw.2
  refine rX_putI C hM 11 2 rfl in_J6 (by decide) (by decide) rfl rfl q362 o6 tyJ6 tyJ6_ok nmJ6 rfl rfl rfl dJ6_add_2_19 (fun h5 H locs eσ hM => ?_)
  replace hw := hw h5 eσ
  clear eσ
  exact rX_vret C hM ⟨by show cells ≤ MC; omega, by show slots ≤ MS; omega⟩ hw dJ6_add_2_22
set_option maxHeartbeats 4000000 in
/-- java/util/ArrayList.add(Ljava/lang/Object;[Ljava/lang/Object;I)V -/
theorem mt_J6_add_2 (l : Launch) (D : va_G) (dA : Nat → ClassId) (ev : Nat → Nat) (sz : Nat) (h : Hp) (a0 : Nat) (p1 : Nat) (p2 : Nat) (p3 : Int32) (MC MS : Nat) (Qr : Hp → Prop) (hw : wp_J6_add_2 ev h a0 p1 p2 p3 MC MS Qr) : Met l yJ6_add_2 (ws_ yJ6_add_2 cJ6_add_2 4 none) (rm_J6_add_2 MC MS) (PcX D dA ev h sz [.ref a0, .ref p1, .ref p2, .int p3]) (va_Qv Qr (BX D dA (AX dA h sz)) (AX dA h sz)) MC MS (AX dA h sz) := by
  refine Met.ofW (cc := cJ6_add_2) (maxL := 4) (ret := none) (by decide) rfl ?_
  intro p e s m args below meth c s₁ B hml hv
  obtain ⟨rfl, hsz, hP, hK, hD0, hE⟩ := hv
  subst hsz
  have hts0 := atoms_spec (ws := ws_ yJ6_add_2 cJ6_add_2 4 none) B.pre
  have C : CxM p s m meth c _ (AX dA h s.heap.size) "java/util/ArrayList" cJ6_add_2 4 none := ⟨B.exec, B.bytes, B.returns, B.notSynchronized, hml, findClass_of_methodNamed B.named, fun w h => hts0 w (List.mem_cons_of_mem _ h), fun q h => Or.inr h⟩
  have hM : wX D dA ev (AX dA h s.heap.size) s h s.heap [] := ⟨hK, hP, hD0.self, va_S.rf, hE⟩
  have hx := C.1
  have hb := C.2.1
  have hown := C.2.2.2.2.2.1
  have hts := C.2.2.2.2.2.2.1
  have hl := lv_entry ([.ref a0, .ref p1, .ref p2, .int p3]) (n := 4) (Nat.le_of_ble_eq_true rfl)
  rw [lg_entry_eq]
  generalize (lg_sl ([.ref a0, .ref p1, .ref p2, .int p3]) ++ List.replicate (4 - (lg_sl ([.ref a0, .ref p1, .ref p2, .int p3])).length) Slot.unset).toArray = ls at hl ⊢
  have hl : lv_has ls 4 [(0, .ref a0), (1, .ref p1), (2, .ref p2), (3, .int p3)] := hl
  have hbud : 0 + MC ≤ MC ∧ 0 + MS ≤ MS := ⟨by omega, by omega⟩
  unfold wp_J6_add_2 at hw
  refine lv_iload_n hx hb dJ6_add_2_0 rfl (lv_at hl 3 rfl) ?_
  refine lv_aload_n hx hb dJ6_add_2_1 rfl (lv_at hl 2 rfl) ?_
  have o1 := hw.1
  replace hw := hw.2
  refine rX_alenE C hM o1 dJ6_add_2_2 ?_
  refine lv_icmp_ne (tgt := 11) hx hb dJ6_add_2_3 (by decide) (fun hc => ?_) (fun hc => ?_)
  · replace hw := hw.1 hc
    exact wk_J6_add_2_11 C  a0 p1 p2 p3 h MC MS _ _ _ _ ls hw hM hbud (lv_sub hl [0, 1, 2, 3] rfl)
  · replace hw := hw.2 hc
    refine lv_aload_n hx hb dJ6_add_2_6 rfl (lv_at hl 0 rfl) ?_
    obtain ⟨c2, d3, mc4, ms5, emc4, ems5, hw⟩ := hw
    have o8 := hw.1
    replace hw := hw.2
    refine rX_goq C hM (runX_V C hM hl.1 11 0 (As := []) rfl (by decide) o8 (mt_J6_grow l D dA ev _ h a0  c2 d3 _ hw) (lw_V q702 q704 qs23 q90 q705) rfl rfl (by decide +kernel) ⟨Nat.le_of_ble_eq_true rfl, Nat.le_of_ble_eq_true rfl⟩ rfl (Nat.le_of_ble_eq_true rfl) rfl dJ6_add_2_7 ⟨by show 0 + c2 ≤ MC; omega, by show 0 + d3 ≤ MS; omega⟩) (fun r7 h6 H locs hw hM => ?_)
    have hbud : 0 + c2 + mc4 ≤ MC ∧ 0 + d3 + ms5 ≤ MS := ⟨by omega, by omega⟩
    obtain ⟨b9, eb, hw⟩ := hw
    subst eb
    refine lv_astore_n (lv' := [(2, .ref b9), (0, .ref a0), (1, .ref p1), (3, .int p3)]) hx hb dJ6_add_2_10 rfl hl (by decide) rfl (fun ls hl => ?_)
    exact wk_J6_add_2_11 C  a0 p1 b9 p3 h6 mc4 ms5 _ _ _ _ ls hw hM hbud (lv_sub hl [1, 2, 0, 3] rfl)
abbrev rm_J6_add (MC MS : Nat) : Room := { frames := 6, cells := MC, slots := MS, locals := 170 }
set_option maxHeartbeats 4000000 in
/-- java/util/ArrayList.add(Ljava/lang/Object;)Z -/
theorem mt_J6_add (l : Launch) (D : va_G) (dA : Nat → ClassId) (ev : Nat → Nat) (sz : Nat) (h : Hp) (a0 : Nat) (p1 : Nat) (MC MS : Nat) (Qr : Int32 → Hp → Prop) (hw : wp_J6_add ev h a0 p1 MC MS Qr) : Met l yJ6_add (ws_ yJ6_add cJ6_add 2 (some .boolean)) (rm_J6_add MC MS) (PcX D dA ev h sz [.ref a0, .ref p1]) (va_Qi Qr (BX D dA (AX dA h sz)) (AX dA h sz)) MC MS (AX dA h sz) := by
  refine Met.ofW (cc := cJ6_add) (maxL := 2) (ret := (some .boolean)) (by decide) rfl ?_
  intro p e s m args below meth c s₁ B hml hv
  obtain ⟨rfl, hsz, hP, hK, hD0, hE⟩ := hv
  subst hsz
  have hts0 := atoms_spec (ws := ws_ yJ6_add cJ6_add 2 (some .boolean)) B.pre
  have C : CxM p s m meth c _ (AX dA h s.heap.size) "java/util/ArrayList" cJ6_add 2 (some .boolean) := ⟨B.exec, B.bytes, B.returns, B.notSynchronized, hml, findClass_of_methodNamed B.named, fun w h => hts0 w (List.mem_cons_of_mem _ h), fun q h => Or.inr h⟩
  have hM : wX D dA ev (AX dA h s.heap.size) s h s.heap [] := ⟨hK, hP, hD0.self, va_S.rf, hE⟩
  have hx := C.1
  have hb := C.2.1
  have hown := C.2.2.2.2.2.1
  have hts := C.2.2.2.2.2.2.1
  have hl := lv_entry ([.ref a0, .ref p1]) (n := 2) (Nat.le_of_ble_eq_true rfl)
  rw [lg_entry_eq]
  generalize (lg_sl ([.ref a0, .ref p1]) ++ List.replicate (2 - (lg_sl ([.ref a0, .ref p1])).length) Slot.unset).toArray = ls at hl ⊢
  have hl : lv_has ls 2 [(0, .ref a0), (1, .ref p1)] := hl
  have hbud : 0 + MC ≤ MC ∧ 0 + MS ≤ MS := ⟨by omega, by omega⟩
  unfold wp_J6_add at hw
  refine lv_aload_n hx hb dJ6_add_0 rfl (lv_at hl 0 rfl) ?_
  refine lv_dup hx hb dJ6_add_1 rfl ?_
  have o1 := hw.1
  replace hw := hw.2
  refine rX_getM C hM q364 o1 dJ6_add_2 ?_
  refine lv_iconst (v := 1) hx hb dJ6_add_5 (by decide) ?_
  refine lv_iadd hx hb dJ6_add_6 ?_
  have o3 := hw.1
  replace hw := hw.2
  refine rX_putM C hM q364 o3 dJ6_add_7 (fun h2 H locs eσ hM => ?_)
  replace hw := hw h2 eσ
  clear eσ
  refine lv_aload_n hx hb dJ6_add_10 rfl (lv_at hl 0 rfl) ?_
  refine lv_aload_n hx hb dJ6_add_11 rfl (lv_at hl 1 rfl) ?_
  refine lv_aload_n hx hb dJ6_add_12 rfl (lv_at hl 0 rfl) ?_
  have o4 := hw.1
  replace hw := hw.2
  obtain ⟨b5, ebb5, hw⟩ := hw
  refine rX_getRs C hM 11 1 rfl in_J6 (by decide) (by decide) rfl q361 o4 ebb5 dJ6_add_13 ?_
  refine lv_aload_n hx hb dJ6_add_16 rfl (lv_at hl 0 rfl) ?_
  have o6 := hw.1
  replace hw := hw.2
  refine rX_getI C hM 11 2 rfl in_J6 (by decide) (by decide) rfl q362 o6 dJ6_add_17 ?_
  obtain ⟨c7, d8, mc9, ms10, emc9, ems10, hw⟩ := hw
  have o12 := hw.1
  replace hw := hw.2
  refine rX_gov C hM (runX_V C hM hl.1 11 3 (As := [.ref p1, .ref b5, .int (hI h2 a0 2)]) rfl (by decide) o12 (mt_J6_add_2 l D dA ev _ h2 a0 p1 b5 (hI h2 a0 2)  c7 d8 _ hw) (lw_V q698 q700 qs22 q90 q701) rfl rfl (by decide +kernel) ⟨Nat.le_of_ble_eq_true rfl, Nat.le_of_ble_eq_true rfl⟩ rfl (Nat.le_of_ble_eq_true rfl) rfl dJ6_add_20 ⟨by show 0 + c7 ≤ MC; omega, by show 0 + d8 ≤ MS; omega⟩) (fun h11 H locs hw hM => ?_)
  have hbud : 0 + c7 + mc9 ≤ MC ∧ 0 + d8 + ms10 ≤ MS := ⟨by omega, by omega⟩
  refine lv_iconst (v := 1) hx hb dJ6_add_23 (by decide) ?_
  exact rX_zret C hM ⟨by show 0 + c7 ≤ MC; omega, by show 0 + d8 ≤ MS; omega⟩ hw dJ6_add_24
abbrev rm_J6_rangeCheckForAdd : Room := { frames := 0, cells := 0, slots := 0, locals := 0 }
set_option maxHeartbeats 4000000 in
theorem wk_J6_rangeCheckForAdd_12 {p : Program} {l : Launch} {e : Env} {s : State} {m : MethodId} {args : Array Value} {below : List Frame} {meth : Method} {c : Code} {D : va_G} {dA : Nat → ClassId} {ev : Nat → Nat} {h0 : Hp} {sz : Nat} (C : CxM p s m meth c args (AX dA h0 sz) "java/util/ArrayList" cJ6_rangeCheckForAdd 2 none) {Qr : Hp → Prop} : ∀ (a0 : Nat) (h : Hp) (H : Heap) (locs : List Loc) (ls : Array Slot), wp_J6_rangeCheckForAdd_12 ev Qr a0 h → wX D dA ev (AX dA h0 sz) s h H locs → lv_has ls 2 [(0, .ref a0)] → W p l e rm_J6_rangeCheckForAdd s m args below meth c H locs 0 0 (MQ below (va_Qv Qr (BX D dA (AX dA h0 sz)) (AX dA h0 sz)) args s 0 0 (AX dA h0 sz)) (F0 m 12 ls []) := by
  intro a0 h H locs ls hw hM hl
  have hx := C.1
  have hb := C.2.1
  have hown := C.2.2.2.2.2.1
  have hts := C.2.2.2.2.2.2.1
  unfold wp_J6_rangeCheckForAdd_12 at hw
  exact hw.elim
set_option maxHeartbeats 4000000 in
/-- java/util/ArrayList.rangeCheckForAdd(I)V -/
theorem mt_J6_rangeCheckForAdd (l : Launch) (D : va_G) (dA : Nat → ClassId) (ev : Nat → Nat) (sz : Nat) (h : Hp) (a0 : Nat) (p1 : Int32) (Qr : Hp → Prop) (hw : wp_J6_rangeCheckForAdd ev h a0 p1 Qr) : Met l yJ6_rangeCheckForAdd (ws_ yJ6_rangeCheckForAdd cJ6_rangeCheckForAdd 2 none) rm_J6_rangeCheckForAdd (PcX D dA ev h sz [.ref a0, .int p1]) (va_Qv Qr (BX D dA (AX dA h sz)) (AX dA h sz)) 0 0 (AX dA h sz) := by
  refine Met.ofW (cc := cJ6_rangeCheckForAdd) (maxL := 2) (ret := none) (by decide) rfl ?_
  intro p e s m args below meth c s₁ B hml hv
  obtain ⟨rfl, hsz, hP, hK, hD0, hE⟩ := hv
  subst hsz
  have hts0 := atoms_spec (ws := ws_ yJ6_rangeCheckForAdd cJ6_rangeCheckForAdd 2 none) B.pre
  have C : CxM p s m meth c _ (AX dA h s.heap.size) "java/util/ArrayList" cJ6_rangeCheckForAdd 2 none := ⟨B.exec, B.bytes, B.returns, B.notSynchronized, hml, findClass_of_methodNamed B.named, fun w h => hts0 w (List.mem_cons_of_mem _ h), fun q h => Or.inr h⟩
  have hM : wX D dA ev (AX dA h s.heap.size) s h s.heap [] := ⟨hK, hP, hD0.self, va_S.rf, hE⟩
  have hx := C.1
  have hb := C.2.1
  have hown := C.2.2.2.2.2.1
  have hts := C.2.2.2.2.2.2.1
  have hl := lv_entry ([.ref a0, .int p1]) (n := 2) (Nat.le_of_ble_eq_true rfl)
  rw [lg_entry_eq]
  generalize (lg_sl ([.ref a0, .int p1]) ++ List.replicate (2 - (lg_sl ([.ref a0, .int p1])).length) Slot.unset).toArray = ls at hl ⊢
  have hl : lv_has ls 2 [(0, .ref a0), (1, .int p1)] := hl
  unfold wp_J6_rangeCheckForAdd at hw
  refine lv_iload_n hx hb dJ6_rangeCheckForAdd_0 rfl (lv_at hl 1 rfl) ?_
  refine lv_aload_n hx hb dJ6_rangeCheckForAdd_1 rfl (lv_at hl 0 rfl) ?_
  have o1 := hw.1
  replace hw := hw.2
  refine rX_getI C hM 11 2 rfl in_J6 (by decide) (by decide) rfl q362 o1 dJ6_rangeCheckForAdd_2 ?_
  refine lv_icmp_gt (tgt := 12) hx hb dJ6_rangeCheckForAdd_5 (by decide) (fun hc => ?_) (fun hc => ?_)
  · replace hw := hw.1 hc
    exact wk_J6_rangeCheckForAdd_12 C  a0 h _ _ ls hw hM (lv_sub hl [0] rfl)
  · replace hw := hw.2 hc
    refine lv_iload_n hx hb dJ6_rangeCheckForAdd_8 rfl (lv_at hl 1 rfl) ?_
    refine lv_if_ge (tgt := 25) hx hb dJ6_rangeCheckForAdd_9 (by decide) (fun hc => ?_) (fun hc => ?_)
    · replace hw := hw.1 hc
      exact rX_vret C hM ⟨Nat.le_refl _, Nat.le_refl _⟩ hw dJ6_rangeCheckForAdd_25
    · replace hw := hw.2 hc
      exact wk_J6_rangeCheckForAdd_12 C  a0 h _ _ ls hw hM (lv_sub hl [0] rfl)
abbrev rm_J6_add_3 (MC MS : Nat) : Room := { frames := 5, cells := MC, slots := MS, locals := 147 }
set_option maxHeartbeats 4000000 in
theorem wk_J6_add_3_38 {p : Program} {l : Launch} {e : Env} {s : State} {m : MethodId} {args : Array Value} {below : List Frame} {meth : Method} {c : Code} {D : va_G} {dA : Nat → ClassId} {ev : Nat → Nat} {h0 : Hp} {sz : Nat} {MC MS : Nat} (C : CxM p s m meth c args (AX dA h0 sz) "java/util/ArrayList" cJ6_add_3 5 none) {Qr : Hp → Prop} : ∀ (a0 : Nat) (v1 : Int32) (v2 : Nat) (v3 : Int32) (v4 : Nat) (h : Hp) (mc ms : Nat) (cells slots : Nat) (H : Heap) (locs : List Loc) (ls : Array Slot), wp_J6_add_3_38 ev Qr a0 v1 v2 v3 v4 h mc ms → wX D dA ev (AX dA h0 sz) s h H locs → cells + mc ≤ MC ∧ slots + ms ≤ MS → lv_has ls 5 [(0, .ref a0), (1, .int v1), (2, .ref v2), (3, .int v3), (4, .ref v4)] → W p l e (rm_J6_add_3 MC MS) s m args below meth c H locs cells slots (MQ below (va_Qv Qr (BX D dA (AX dA h0 sz)) (AX dA h0 sz)) args s MC MS (AX dA h0 sz)) (F0 m 38 ls []) := by
  intro a0 v1 v2 v3 v4 h mc ms cells slots H locs ls hw hM hbud hl
  have hx := C.1
  have hb := C.2.1
  have hown := C.2.2.2.2.2.1
  have hts := C.2.2.2.2.2.2.1
  unfold wp_J6_add_3_38 at hw
  refine lv_aload hx hb dJ6_add_3_38 (lv_at hl 4 rfl) ?_
  refine lv_iload_n hx hb dJ6_add_3_40 rfl (lv_at hl 1 rfl) ?_
  refine lv_aload hx hb dJ6_add_3_41 (lv_at hl 4 rfl) ?_
  refine lv_iload_n hx hb dJ6_add_3_43 rfl (lv_at hl 1 rfl) ?_
  refine lv_iconst (v := 1) hx hb dJ6_add_3_44 (by decide) ?_
  refine lv_iadd hx hb dJ6_add_3_45 ?_
  refine lv_iload_n hx hb dJ6_add_3_46 rfl (lv_at hl 3 rfl) ?_
  refine lv_iload_n hx hb dJ6_add_3_47 rfl (lv_at hl 1 rfl) ?_
  refine lv_isub hx hb dJ6_add_3_48 ?_
  have o2 := hw.1
  replace hw := hw.2
  have o3 := hw.1
  replace hw := hw.2
  have o4 := hw.1
  replace hw := hw.2
  refine rX_copyV C hM hl.1 q992 q758 q757 q99 q1723 o2 o3 o4 (Nat.le_of_ble_eq_true rfl) (Nat.le_of_ble_eq_true rfl) dJ6_add_3_49 (fun h1 H locs eσ hM => ?_)
  replace hw := hw h1 eσ
  clear eσ
  refine lv_aload hx hb dJ6_add_3_52 (lv_at hl 4 rfl) ?_
  refine lv_iload_n hx hb dJ6_add_3_54 rfl (lv_at hl 1 rfl) ?_
  refine lv_aload_n hx hb dJ6_add_3_55 rfl (lv_at hl 2 rfl) ?_
  have o6 := hw.1
  replace hw := hw.2
  have o7 := hw.1
  replace hw := hw.2
  have o8 := hw.1
  replace hw := hw.2
  refine rX_aastV C hM o6 o7 (vb_asgC (hM.2.2.2.2.2.2.2.2.1 _ (nx_in q1723 rfl))) o8 dJ6_add_3_56 (fun h5 H locs eσ hM => ?_)
  replace hw := hw h5 eσ
  clear eσ
  refine lv_aload_n hx hb dJ6_add_3_57 rfl (lv_at hl 0 rfl) ?_
  refine lv_iload_n hx hb dJ6_add_3_58 rfl (lv_at hl 3 rfl) ?_
  refine lv_iconst (v := 1) hx hb dJ6_add_3_59 (by decide) ?_
  refine lv_iadd hx hb dJ6_add_3_60 ?_
  have o10 := hw.1
  replace hw := hw.2
  refine rX_putI C hM 11 2 rfl in_J6 (by decide) (by decide) rfl rfl q362 o10 tyJ6 tyJ6_ok nmJ6 rfl rfl rfl dJ6_add_3_61 (fun h9 H locs eσ hM => ?_)
  replace hw := hw h9 eσ
  clear eσ
  exact rX_vret C hM ⟨by show cells ≤ MC; omega, by show slots ≤ MS; omega⟩ hw dJ6_add_3_64
set_option maxHeartbeats 4000000 in
/-- java/util/ArrayList.add(ILjava/lang/Object;)V -/
theorem mt_J6_add_3 (l : Launch) (D : va_G) (dA : Nat → ClassId) (ev : Nat → Nat) (sz : Nat) (h : Hp) (a0 : Nat) (p1 : Int32) (p2 : Nat) (MC MS : Nat) (Qr : Hp → Prop) (hw : wp_J6_add_3 ev h a0 p1 p2 MC MS Qr) : Met l yJ6_add_3 (ws_ yJ6_add_3 cJ6_add_3 5 none) (rm_J6_add_3 MC MS) (PcX D dA ev h sz [.ref a0, .int p1, .ref p2]) (va_Qv Qr (BX D dA (AX dA h sz)) (AX dA h sz)) MC MS (AX dA h sz) := by
  refine Met.ofW (cc := cJ6_add_3) (maxL := 5) (ret := none) (by decide) rfl ?_
  intro p e s m args below meth c s₁ B hml hv
  obtain ⟨rfl, hsz, hP, hK, hD0, hE⟩ := hv
  subst hsz
  have hts0 := atoms_spec (ws := ws_ yJ6_add_3 cJ6_add_3 5 none) B.pre
  have C : CxM p s m meth c _ (AX dA h s.heap.size) "java/util/ArrayList" cJ6_add_3 5 none := ⟨B.exec, B.bytes, B.returns, B.notSynchronized, hml, findClass_of_methodNamed B.named, fun w h => hts0 w (List.mem_cons_of_mem _ h), fun q h => Or.inr h⟩
  have hM : wX D dA ev (AX dA h s.heap.size) s h s.heap [] := ⟨hK, hP, hD0.self, va_S.rf, hE⟩
  have hx := C.1
  have hb := C.2.1
  have hown := C.2.2.2.2.2.1
  have hts := C.2.2.2.2.2.2.1
  have hl := lv_entry ([.ref a0, .int p1, .ref p2]) (n := 5) (Nat.le_of_ble_eq_true rfl)
  rw [lg_entry_eq]
  generalize (lg_sl ([.ref a0, .int p1, .ref p2]) ++ List.replicate (5 - (lg_sl ([.ref a0, .int p1, .ref p2])).length) Slot.unset).toArray = ls at hl ⊢
  have hl : lv_has ls 5 [(0, .ref a0), (1, .int p1), (2, .ref p2)] := hl
  have hbud : 0 + MC ≤ MC ∧ 0 + MS ≤ MS := ⟨by omega, by omega⟩
  unfold wp_J6_add_3 at hw
  refine lv_aload_n hx hb dJ6_add_3_0 rfl (lv_at hl 0 rfl) ?_
  refine lv_iload_n hx hb dJ6_add_3_1 rfl (lv_at hl 1 rfl) ?_
  have o2 := hw.1
  replace hw := hw.2
  refine rX_gov C hM (runX_V C hM hl.1 11 1 (As := [.int p1]) rfl (by decide) o2 (mt_J6_rangeCheckForAdd l D dA ev _ h a0 p1  _ hw) (lw_V q1041 q1043 qs36 q90 q1044) rfl rfl (by decide +kernel) ⟨Nat.le_of_ble_eq_true rfl, Nat.le_of_ble_eq_true rfl⟩ rfl (Nat.le_of_ble_eq_true rfl) rfl dJ6_add_3_2 ⟨by show 0 + 0 ≤ MC; omega, by show 0 + 0 ≤ MS; omega⟩) (fun h1 H locs hw hM => ?_)
  refine lv_aload_n hx hb dJ6_add_3_5 rfl (lv_at hl 0 rfl) ?_
  refine lv_dup hx hb dJ6_add_3_6 rfl ?_
  have o3 := hw.1
  replace hw := hw.2
  refine rX_getM C hM q364 o3 dJ6_add_3_7 ?_
  refine lv_iconst (v := 1) hx hb dJ6_add_3_10 (by decide) ?_
  refine lv_iadd hx hb dJ6_add_3_11 ?_
  have o5 := hw.1
  replace hw := hw.2
  refine rX_putM C hM q364 o5 dJ6_add_3_12 (fun h4 H locs eσ hM => ?_)
  replace hw := hw h4 eσ
  clear eσ
  refine lv_aload_n hx hb dJ6_add_3_15 rfl (lv_at hl 0 rfl) ?_
  have o6 := hw.1
  replace hw := hw.2
  refine rX_getI C hM 11 2 rfl in_J6 (by decide) (by decide) rfl q362 o6 dJ6_add_3_16 ?_
  refine lv_topi (fun x7 ex7 => ?_)
  replace hw := hw x7 ex7
  refine lv_dup hx hb dJ6_add_3_19 rfl ?_
  refine lv_istore_n (lv' := [(3, .int x7), (0, .ref a0), (1, .int p1), (2, .ref p2)]) hx hb dJ6_add_3_20 rfl hl (by decide) rfl (fun ls hl => ?_)
  refine lv_aload_n hx hb dJ6_add_3_21 rfl (lv_at hl 1 rfl) ?_
  have o8 := hw.1
  replace hw := hw.2
  obtain ⟨b9, ebb9, hw⟩ := hw
  refine rX_getRs C hM 11 1 rfl in_J6 (by decide) (by decide) rfl q361 o8 ebb9 dJ6_add_3_22 ?_
  refine lv_dup hx hb dJ6_add_3_25 rfl ?_
  refine lv_astore (lv' := [(4, .ref b9), (3, .int x7), (0, .ref a0), (1, .int p1), (2, .ref p2)]) hx hb dJ6_add_3_26 hl (by decide) rfl (fun ls hl => ?_)
  have o10 := hw.1
  replace hw := hw.2
  refine rX_alenE C hM o10 dJ6_add_3_28 ?_
  refine lv_icmp_ne (tgt := 38) hx hb dJ6_add_3_29 (by decide) (fun hc => ?_) (fun hc => ?_)
  · replace hw := hw.1 hc
    exact wk_J6_add_3_38 C  a0 p1 p2 x7 b9 h4 MC MS _ _ _ _ ls hw hM hbud (lv_sub hl [2, 3, 4, 1, 0] rfl)
  · replace hw := hw.2 hc
    refine lv_aload_n hx hb dJ6_add_3_32 rfl (lv_at hl 2 rfl) ?_
    obtain ⟨c11, d12, mc13, ms14, emc13, ems14, hw⟩ := hw
    have o17 := hw.1
    replace hw := hw.2
    refine rX_goq C hM (runX_V C hM hl.1 11 0 (As := []) rfl (by decide) o17 (mt_J6_grow l D dA ev _ h4 a0  c11 d12 _ hw) (lw_V q702 q704 qs23 q90 q705) rfl rfl (by decide +kernel) ⟨Nat.le_of_ble_eq_true rfl, Nat.le_of_ble_eq_true rfl⟩ rfl (Nat.le_of_ble_eq_true rfl) rfl dJ6_add_3_33 ⟨by show 0 + c11 ≤ MC; omega, by show 0 + d12 ≤ MS; omega⟩) (fun r16 h15 H locs hw hM => ?_)
    have hbud : 0 + c11 + mc13 ≤ MC ∧ 0 + d12 + ms14 ≤ MS := ⟨by omega, by omega⟩
    obtain ⟨b18, eb, hw⟩ := hw
    subst eb
    refine lv_astore (lv' := [(4, .ref b18), (3, .int x7), (0, .ref a0), (1, .int p1), (2, .ref p2)]) hx hb dJ6_add_3_36 hl (by decide) rfl (fun ls hl => ?_)
    exact wk_J6_add_3_38 C  a0 p1 p2 x7 b18 h15 mc13 ms14 _ _ _ _ ls hw hM hbud (lv_sub hl [2, 3, 4, 1, 0] rfl)
abbrev rm_J6_clear : Room := { frames := 0, cells := 0, slots := 0, locals := 0 }
set_option maxHeartbeats 4000000 in
theorem wk_J6_clear_27 {p : Program} {l : Launch} {e : Env} {s : State} {m : MethodId} {args : Array Value} {below : List Frame} {meth : Method} {c : Code} {D : va_G} {dA : Nat → ClassId} {ev : Nat → Nat} {h0 : Hp} {sz : Nat} (C : CxM p s m meth c args (AX dA h0 sz) "java/util/ArrayList" cJ6_clear 4 none) {Qr : Hp → Prop} : ∀ (n : Nat) (a0 : Nat) (v1 : Nat) (v2 : Int32) (v3 : Int32) (h : Hp) (H : Heap) (locs : List Loc) (ls : Array Slot), wp_J6_clear_27 ev Qr n a0 v1 v2 v3 h → wX D dA ev (AX dA h0 sz) s h H locs → lv_has ls 4 [(0, .ref a0), (1, .ref v1), (2, .int v2), (3, .int v3)] → W p l e rm_J6_clear s m args below meth c H locs 0 0 (MQ below (va_Qv Qr (BX D dA (AX dA h0 sz)) (AX dA h0 sz)) args s 0 0 (AX dA h0 sz)) (F0 m 27 ls []) := by
  intro n
  induction n with
  | zero => intro a0 v1 v2 v3 h H locs ls hw; exact hw.elim
  | succ n27 ih =>
    intro a0 v1 v2 v3 h H locs ls hw hM hl
    have hx := C.1
    have hb := C.2.1
    have hown := C.2.2.2.2.2.1
    have hts := C.2.2.2.2.2.2.1
    unfold wp_J6_clear_27 at hw
    refine lv_iload_n hx hb dJ6_clear_27 rfl (lv_at hl 3 rfl) ?_
    refine lv_iload_n hx hb dJ6_clear_28 rfl (lv_at hl 2 rfl) ?_
    refine lv_icmp_ge (tgt := 42) hx hb dJ6_clear_29 (by decide) (fun hc => ?_) (fun hc => ?_)
    · replace hw := hw.1 hc
      exact rX_vret C hM ⟨Nat.le_refl _, Nat.le_refl _⟩ hw dJ6_clear_42
    · replace hw := hw.2 hc
      refine lv_aload_n hx hb dJ6_clear_32 rfl (lv_at hl 1 rfl) ?_
      refine lv_iload_n hx hb dJ6_clear_33 rfl (lv_at hl 3 rfl) ?_
      refine lv_null hx hb dJ6_clear_34 ?_
      have o2 := hw.1
      replace hw := hw.2
      have o3 := hw.1
      replace hw := hw.2
      refine rX_aastN C hM o2 o3 dJ6_clear_35 (fun h1 H locs eσ hM => ?_)
      replace hw := hw h1 eσ
      clear eσ
      obtain ⟨x4, ex4⟩ : ∃ y : Int32, y = v3 + 1 := ⟨_, rfl⟩
      replace hw := hw x4 ex4
      refine lv_iinc (v := x4) (lv' := [(3, .int x4), (0, .ref a0), (1, .ref v1), (2, .int v2)]) hx hb dJ6_clear_36 hl (k := 3) rfl (by rw [ex4]; rfl) (by decide) rfl (fun ls hl => ?_)
      refine lv_goto (tgt := 27) hx hb dJ6_clear_39 (by decide) ?_
      exact ih a0 v1 v2 x4 h1 _ _ ls hw hM (lv_sub hl [1, 2, 3, 0] rfl)
set_option maxHeartbeats 4000000 in
/-- java/util/ArrayList.clear()V -/
theorem mt_J6_clear (l : Launch) (D : va_G) (dA : Nat → ClassId) (ev : Nat → Nat) (sz : Nat) (h : Hp) (a0 : Nat) (Qr : Hp → Prop) (hw : wp_J6_clear ev h a0 Qr) : Met l yJ6_clear (ws_ yJ6_clear cJ6_clear 4 none) rm_J6_clear (PcX D dA ev h sz [.ref a0]) (va_Qv Qr (BX D dA (AX dA h sz)) (AX dA h sz)) 0 0 (AX dA h sz) := by
  refine Met.ofW (cc := cJ6_clear) (maxL := 4) (ret := none) (by decide) rfl ?_
  intro p e s m args below meth c s₁ B hml hv
  obtain ⟨rfl, hsz, hP, hK, hD0, hE⟩ := hv
  subst hsz
  have hts0 := atoms_spec (ws := ws_ yJ6_clear cJ6_clear 4 none) B.pre
  have C : CxM p s m meth c _ (AX dA h s.heap.size) "java/util/ArrayList" cJ6_clear 4 none := ⟨B.exec, B.bytes, B.returns, B.notSynchronized, hml, findClass_of_methodNamed B.named, fun w h => hts0 w (List.mem_cons_of_mem _ h), fun q h => Or.inr h⟩
  have hM : wX D dA ev (AX dA h s.heap.size) s h s.heap [] := ⟨hK, hP, hD0.self, va_S.rf, hE⟩
  have hx := C.1
  have hb := C.2.1
  have hown := C.2.2.2.2.2.1
  have hts := C.2.2.2.2.2.2.1
  have hl := lv_entry ([.ref a0]) (n := 4) (Nat.le_of_ble_eq_true rfl)
  rw [lg_entry_eq]
  generalize (lg_sl ([.ref a0]) ++ List.replicate (4 - (lg_sl ([.ref a0])).length) Slot.unset).toArray = ls at hl ⊢
  have hl : lv_has ls 4 [(0, .ref a0)] := hl
  unfold wp_J6_clear at hw
  refine lv_aload_n hx hb dJ6_clear_0 rfl (lv_at hl 0 rfl) ?_
  refine lv_dup hx hb dJ6_clear_1 rfl ?_
  have o1 := hw.1
  replace hw := hw.2
  refine rX_getM C hM q364 o1 dJ6_clear_2 ?_
  refine lv_iconst (v := 1) hx hb dJ6_clear_5 (by decide) ?_
  refine lv_iadd hx hb dJ6_clear_6 ?_
  have o3 := hw.1
  replace hw := hw.2
  refine rX_putM C hM q364 o3 dJ6_clear_7 (fun h2 H locs eσ hM => ?_)
  replace hw := hw h2 eσ
  clear eσ
  refine lv_aload_n hx hb dJ6_clear_10 rfl (lv_at hl 0 rfl) ?_
  have o4 := hw.1
  replace hw := hw.2
  obtain ⟨b5, ebb5, hw⟩ := hw
  refine rX_getRs C hM 11 1 rfl in_J6 (by decide) (by decide) rfl q361 o4 ebb5 dJ6_clear_11 ?_
  refine lv_astore_n (lv' := [(1, .ref b5), (0, .ref a0)]) hx hb dJ6_clear_14 rfl hl (by decide) rfl (fun ls hl => ?_)
  refine lv_aload_n hx hb dJ6_clear_15 rfl (lv_at hl 1 rfl) ?_
  have o6 := hw.1
  replace hw := hw.2
  refine rX_getI C hM 11 2 rfl in_J6 (by decide) (by decide) rfl q362 o6 dJ6_clear_16 ?_
  refine lv_topi (fun x7 ex7 => ?_)
  replace hw := hw x7 ex7
  refine lv_istore_n (lv' := [(2, .int x7), (1, .ref b5), (0, .ref a0)]) hx hb dJ6_clear_19 rfl hl (by decide) rfl (fun ls hl => ?_)
  refine lv_aload_n hx hb dJ6_clear_20 rfl (lv_at hl 2 rfl) ?_
  refine lv_iconst (v := 0) hx hb dJ6_clear_21 (by decide) ?_
  refine lv_dup_x1 hx hb dJ6_clear_22 rfl rfl ?_
  have o9 := hw.1
  replace hw := hw.2
  refine rX_putI C hM 11 2 rfl in_J6 (by decide) (by decide) rfl rfl q362 o9 tyJ6 tyJ6_ok nmJ6 rfl rfl rfl dJ6_clear_23 (fun h8 H locs eσ hM => ?_)
  replace hw := hw h8 eσ
  clear eσ
  refine lv_istore_n (lv' := [(3, .int 0), (2, .int x7), (1, .ref b5), (0, .ref a0)]) hx hb dJ6_clear_26 rfl hl (by decide) rfl (fun ls hl => ?_)
  obtain ⟨n27, hw⟩ := hw
  exact wk_J6_clear_27 C  n27 a0 b5 x7 0 h8 _ _ ls hw hM (lv_sub hl [3, 2, 1, 0] rfl)
abbrev rm_J9_checkIndex : Room := { frames := 0, cells := 0, slots := 0, locals := 0 }
set_option maxHeartbeats 4000000 in
theorem wk_J9_checkIndex_9 {p : Program} {l : Launch} {e : Env} {s : State} {m : MethodId} {args : Array Value} {below : List Frame} {meth : Method} {c : Code} {D : va_G} {dA : Nat → ClassId} {ev : Nat → Nat} {h0 : Hp} {sz : Nat} (C : CxM p s m meth c args (AX dA h0 sz) "jdk/internal/util/Preconditions" cJ9_checkIndex 3 (some .int)) {Qr : Int32 → Hp → Prop} : ∀ (v0 : Int32) (v1 : Int32) (v2 : Option Nat) (h : Hp) (H : Heap) (locs : List Loc) (ls : Array Slot), wp_J9_checkIndex_9 ev Qr v0 v1 v2 h → wX D dA ev (AX dA h0 sz) s h H locs → lv_has ls 3 [(0, .int v0), (1, .int v1), (2, va_rf v2)] → W p l e rm_J9_checkIndex s m args below meth c H locs 0 0 (MQ below (va_Qi Qr (BX D dA (AX dA h0 sz)) (AX dA h0 sz)) args s 0 0 (AX dA h0 sz)) (F0 m 9 ls []) := by
  intro v0 v1 v2 h H locs ls hw hM hl
  have hx := C.1
  have hb := C.2.1
  have hown := C.2.2.2.2.2.1
  have hts := C.2.2.2.2.2.2.1
  unfold wp_J9_checkIndex_9 at hw
  refine lv_aload_nQ hx hb dJ9_checkIndex_9 rfl (lv_at hl 2 rfl) ?_
  refine lv_iload_n hx hb dJ9_checkIndex_10 rfl (lv_at hl 0 rfl) ?_
  refine lv_iload_n hx hb dJ9_checkIndex_11 rfl (lv_at hl 1 rfl) ?_
  exact hw.elim
set_option maxHeartbeats 4000000 in
/-- jdk/internal/util/Preconditions.checkIndex(IILjava/util/function/BiFunction;)I -/
theorem mt_J9_checkIndex (l : Launch) (D : va_G) (dA : Nat → ClassId) (ev : Nat → Nat) (sz : Nat) (h : Hp) (p0 : Int32) (p1 : Int32) (p2 : Option Nat) (Qr : Int32 → Hp → Prop) (hw : wp_J9_checkIndex ev h p0 p1 p2 Qr) : Met l yJ9_checkIndex (ws_ yJ9_checkIndex cJ9_checkIndex 3 (some .int)) rm_J9_checkIndex (PcX D dA ev h sz [.int p0, .int p1, va_rf p2]) (va_Qi Qr (BX D dA (AX dA h sz)) (AX dA h sz)) 0 0 (AX dA h sz) := by
  refine Met.ofW (cc := cJ9_checkIndex) (maxL := 3) (ret := (some .int)) (by decide) rfl ?_
  intro p e s m args below meth c s₁ B hml hv
  obtain ⟨rfl, hsz, hP, hK, hD0, hE⟩ := hv
  subst hsz
  have hts0 := atoms_spec (ws := ws_ yJ9_checkIndex cJ9_checkIndex 3 (some .int)) B.pre
  have C : CxM p s m meth c _ (AX dA h s.heap.size) "jdk/internal/util/Preconditions" cJ9_checkIndex 3 (some .int) := ⟨B.exec, B.bytes, B.returns, B.notSynchronized, hml, findClass_of_methodNamed B.named, fun w h => hts0 w (List.mem_cons_of_mem _ h), fun q h => Or.inr h⟩
  have hM : wX D dA ev (AX dA h s.heap.size) s h s.heap [] := ⟨hK, hP, hD0.self, va_S.rf, hE⟩
  have hx := C.1
  have hb := C.2.1
  have hown := C.2.2.2.2.2.1
  have hts := C.2.2.2.2.2.2.1
  have hl := lv_entry ([.int p0, .int p1, va_rf p2]) (n := 3) (by cases p2 <;> exact Nat.le_of_ble_eq_true rfl)
  rw [lg_entry_eq]
  generalize (lg_sl ([.int p0, .int p1, va_rf p2]) ++ List.replicate (3 - (lg_sl ([.int p0, .int p1, va_rf p2])).length) Slot.unset).toArray = ls at hl ⊢
  have hl : lv_has ls 3 [(0, .int p0), (1, .int p1), (2, va_rf p2)] := by cases p2 <;> exact hl
  unfold wp_J9_checkIndex at hw
  refine lv_iload_n hx hb dJ9_checkIndex_0 rfl (lv_at hl 0 rfl) ?_
  refine lv_if_lt (tgt := 9) hx hb dJ9_checkIndex_1 (by decide) (fun hc => ?_) (fun hc => ?_)
  · replace hw := hw.1 hc
    exact wk_J9_checkIndex_9 C  p0 p1 p2 h _ _ ls hw hM (lv_sub hl [0, 1, 2] rfl)
  · replace hw := hw.2 hc
    refine lv_iload_n hx hb dJ9_checkIndex_4 rfl (lv_at hl 0 rfl) ?_
    refine lv_iload_n hx hb dJ9_checkIndex_5 rfl (lv_at hl 1 rfl) ?_
    refine lv_icmp_lt (tgt := 16) hx hb dJ9_checkIndex_6 (by decide) (fun hc => ?_) (fun hc => ?_)
    · replace hw := hw.1 hc
      refine lv_iload_n hx hb dJ9_checkIndex_16 rfl (lv_at hl 0 rfl) ?_
      exact rX_iret C hM ⟨Nat.le_refl _, Nat.le_refl _⟩ hw dJ9_checkIndex_17
    · replace hw := hw.2 hc
      exact wk_J9_checkIndex_9 C  p0 p1 p2 h _ _ ls hw hM (lv_sub hl [0, 1, 2] rfl)
abbrev rm_J8_checkIndex : Room := { frames := 1, cells := 0, slots := 0, locals := 22 }
set_option maxHeartbeats 4000000 in
/-- java/util/Objects.checkIndex(II)I -/
theorem mt_J8_checkIndex (l : Launch) (D : va_G) (dA : Nat → ClassId) (ev : Nat → Nat) (sz : Nat) (h : Hp) (p0 : Int32) (p1 : Int32) (Qr : Int32 → Hp → Prop) (hw : wp_J8_checkIndex ev h p0 p1 Qr) : Met l yJ8_checkIndex (ws_ yJ8_checkIndex cJ8_checkIndex 2 (some .int)) rm_J8_checkIndex (PcX D dA ev h sz [.int p0, .int p1]) (va_Qi Qr (BX D dA (AX dA h sz)) (AX dA h sz)) 0 0 (AX dA h sz) := by
  refine Met.ofW (cc := cJ8_checkIndex) (maxL := 2) (ret := (some .int)) (by decide) rfl ?_
  intro p e s m args below meth c s₁ B hml hv
  obtain ⟨rfl, hsz, hP, hK, hD0, hE⟩ := hv
  subst hsz
  have hts0 := atoms_spec (ws := ws_ yJ8_checkIndex cJ8_checkIndex 2 (some .int)) B.pre
  have C : CxM p s m meth c _ (AX dA h s.heap.size) "java/util/Objects" cJ8_checkIndex 2 (some .int) := ⟨B.exec, B.bytes, B.returns, B.notSynchronized, hml, findClass_of_methodNamed B.named, fun w h => hts0 w (List.mem_cons_of_mem _ h), fun q h => Or.inr h⟩
  have hM : wX D dA ev (AX dA h s.heap.size) s h s.heap [] := ⟨hK, hP, hD0.self, va_S.rf, hE⟩
  have hx := C.1
  have hb := C.2.1
  have hown := C.2.2.2.2.2.1
  have hts := C.2.2.2.2.2.2.1
  have hl := lv_entry ([.int p0, .int p1]) (n := 2) (Nat.le_of_ble_eq_true rfl)
  rw [lg_entry_eq]
  generalize (lg_sl ([.int p0, .int p1]) ++ List.replicate (2 - (lg_sl ([.int p0, .int p1])).length) Slot.unset).toArray = ls at hl ⊢
  have hl : lv_has ls 2 [(0, .int p0), (1, .int p1)] := hl
  unfold wp_J8_checkIndex at hw
  refine lv_iload_n hx hb dJ8_checkIndex_0 rfl (lv_at hl 0 rfl) ?_
  refine lv_iload_n hx hb dJ8_checkIndex_1 rfl (lv_at hl 1 rfl) ?_
  refine lv_null hx hb dJ8_checkIndex_2 ?_
  refine rX_goi C hM (runX_S C hM hl.1 3 (As := [.int p0, .int p1, va_rf none]) (mt_J9_checkIndex l D dA ev _ h p0 p1 none  _ hw) (lw_S q686 q687 q96 q688) rfl rfl (by decide +kernel) ⟨Nat.le_of_ble_eq_true rfl, Nat.le_of_ble_eq_true rfl⟩ rfl (Nat.le_of_ble_eq_true rfl) rfl dJ8_checkIndex_3 ⟨Nat.le_refl _, Nat.le_refl _⟩) (fun x2 h1 H locs hw hM => ?_)
  exact rX_iret C hM ⟨Nat.le_refl _, Nat.le_refl _⟩ hw dJ8_checkIndex_6
abbrev rm_J6_elementData : Room := { frames := 0, cells := 0, slots := 0, locals := 0 }
set_option maxHeartbeats 4000000 in
/-- java/util/ArrayList.elementData(I)Ljava/lang/Object; -/
theorem mt_J6_elementData (l : Launch) (D : va_G) (dA : Nat → ClassId) (ev : Nat → Nat) (sz : Nat) (h : Hp) (a0 : Nat) (p1 : Int32) (Qr : Option Nat → Hp → Prop) (hw : wp_J6_elementData ev h a0 p1 Qr) : Met l yJ6_elementData (ws_ yJ6_elementData cJ6_elementData 2 (some (.object "java/lang/Object"))) rm_J6_elementData (PcX D dA ev h sz [.ref a0, .int p1]) (va_Qq Qr (BX D dA (AX dA h sz)) (AX dA h sz)) 0 0 (AX dA h sz) := by
  refine Met.ofW (cc := cJ6_elementData) (maxL := 2) (ret := (some (.object "java/lang/Object"))) (by decide) rfl ?_
  intro p e s m args below meth c s₁ B hml hv
  obtain ⟨rfl, hsz, hP, hK, hD0, hE⟩ := hv
  subst hsz
  have hts0 := atoms_spec (ws := ws_ yJ6_elementData cJ6_elementData 2 (some (.object "java/lang/Object"))) B.pre
  have C : CxM p s m meth c _ (AX dA h s.heap.size) "java/util/ArrayList" cJ6_elementData 2 (some (.object "java/lang/Object")) := ⟨B.exec, B.bytes, B.returns, B.notSynchronized, hml, findClass_of_methodNamed B.named, fun w h => hts0 w (List.mem_cons_of_mem _ h), fun q h => Or.inr h⟩
  have hM : wX D dA ev (AX dA h s.heap.size) s h s.heap [] := ⟨hK, hP, hD0.self, va_S.rf, hE⟩
  have hx := C.1
  have hb := C.2.1
  have hown := C.2.2.2.2.2.1
  have hts := C.2.2.2.2.2.2.1
  have hl := lv_entry ([.ref a0, .int p1]) (n := 2) (Nat.le_of_ble_eq_true rfl)
  rw [lg_entry_eq]
  generalize (lg_sl ([.ref a0, .int p1]) ++ List.replicate (2 - (lg_sl ([.ref a0, .int p1])).length) Slot.unset).toArray = ls at hl ⊢
  have hl : lv_has ls 2 [(0, .ref a0), (1, .int p1)] := hl
  unfold wp_J6_elementData at hw
  refine lv_aload_n hx hb dJ6_elementData_0 rfl (lv_at hl 0 rfl) ?_
  have o1 := hw.1
  replace hw := hw.2
  obtain ⟨b2, ebb2, hw⟩ := hw
  refine rX_getRs C hM 11 1 rfl in_J6 (by decide) (by decide) rfl q361 o1 ebb2 dJ6_elementData_1 ?_
  refine lv_iload_n hx hb dJ6_elementData_4 rfl (lv_at hl 1 rfl) ?_
  have o3 := hw.1
  replace hw := hw.2
  have o4 := hw.1
  replace hw := hw.2
  refine rX_aald C hM 6 (by decide) (by decide) o3 o4 dJ6_elementData_5 ?_
  exact rX_qret (v := (hO h b2 p1)) (by first | exact Or.inl ⟨_, rfl⟩ | exact Or.inr ⟨_, rfl⟩) C hM ⟨Nat.le_refl _, Nat.le_refl _⟩ hw dJ6_elementData_6
abbrev rm_J6_get : Room := { frames := 2, cells := 0, slots := 0, locals := 43 }
set_option maxHeartbeats 4000000 in
/-- java/util/ArrayList.get(I)Ljava/lang/Object; -/
theorem mt_J6_get (l : Launch) (D : va_G) (dA : Nat → ClassId) (ev : Nat → Nat) (sz : Nat) (h : Hp) (a0 : Nat) (p1 : Int32) (Qr : Option Nat → Hp → Prop) (hw : wp_J6_get ev h a0 p1 Qr) : Met l yJ6_get (ws_ yJ6_get cJ6_get 2 (some (.object "java/lang/Object"))) rm_J6_get (PcX D dA ev h sz [.ref a0, .int p1]) (va_Qq Qr (BX D dA (AX dA h sz)) (AX dA h sz)) 0 0 (AX dA h sz) := by
  refine Met.ofW (cc := cJ6_get) (maxL := 2) (ret := (some (.object "java/lang/Object"))) (by decide) rfl ?_
  intro p e s m args below meth c s₁ B hml hv
  obtain ⟨rfl, hsz, hP, hK, hD0, hE⟩ := hv
  subst hsz
  have hts0 := atoms_spec (ws := ws_ yJ6_get cJ6_get 2 (some (.object "java/lang/Object"))) B.pre
  have C : CxM p s m meth c _ (AX dA h s.heap.size) "java/util/ArrayList" cJ6_get 2 (some (.object "java/lang/Object")) := ⟨B.exec, B.bytes, B.returns, B.notSynchronized, hml, findClass_of_methodNamed B.named, fun w h => hts0 w (List.mem_cons_of_mem _ h), fun q h => Or.inr h⟩
  have hM : wX D dA ev (AX dA h s.heap.size) s h s.heap [] := ⟨hK, hP, hD0.self, va_S.rf, hE⟩
  have hx := C.1
  have hb := C.2.1
  have hown := C.2.2.2.2.2.1
  have hts := C.2.2.2.2.2.2.1
  have hl := lv_entry ([.ref a0, .int p1]) (n := 2) (Nat.le_of_ble_eq_true rfl)
  rw [lg_entry_eq]
  generalize (lg_sl ([.ref a0, .int p1]) ++ List.replicate (2 - (lg_sl ([.ref a0, .int p1])).length) Slot.unset).toArray = ls at hl ⊢
  have hl : lv_has ls 2 [(0, .ref a0), (1, .int p1)] := hl
  unfold wp_J6_get at hw
  refine lv_iload_n hx hb dJ6_get_0 rfl (lv_at hl 1 rfl) ?_
  refine lv_aload_n hx hb dJ6_get_1 rfl (lv_at hl 0 rfl) ?_
  have o1 := hw.1
  replace hw := hw.2
  refine rX_getI C hM 11 2 rfl in_J6 (by decide) (by decide) rfl q362 o1 dJ6_get_2 ?_
  refine rX_goi C hM (runX_S C hM hl.1 2 (As := [.int p1, .int (hI h a0 2)]) (mt_J8_checkIndex l D dA ev _ h p1 (hI h a0 2)  _ hw) (lw_S q683 q684 q95 q685) rfl rfl (by decide +kernel) ⟨Nat.le_of_ble_eq_true rfl, Nat.le_of_ble_eq_true rfl⟩ rfl (Nat.le_of_ble_eq_true rfl) rfl dJ6_get_5 ⟨Nat.le_refl _, Nat.le_refl _⟩) (fun x3 h2 H locs hw hM => ?_)
  refine lv_pop hx hb dJ6_get_8 rfl ?_
  refine lv_aload_n hx hb dJ6_get_9 rfl (lv_at hl 0 rfl) ?_
  refine lv_iload_n hx hb dJ6_get_10 rfl (lv_at hl 1 rfl) ?_
  have o6 := hw.1
  replace hw := hw.2
  refine rX_goq C hM (runX_V C hM hl.1 11 1 (As := [.int p1]) rfl (by decide) o6 (mt_J6_elementData l D dA ev _ h2 a0 p1  _ hw) (lw_V q689 q690 q691 q90 q692) rfl rfl (by decide +kernel) ⟨Nat.le_of_ble_eq_true rfl, Nat.le_of_ble_eq_true rfl⟩ rfl (Nat.le_of_ble_eq_true rfl) rfl dJ6_get_11 ⟨Nat.le_refl _, Nat.le_refl _⟩) (fun r5 h4 H locs hw hM => ?_)
  exact rX_qret (v := r5) (by first | exact Or.inl ⟨_, rfl⟩ | exact Or.inr ⟨_, rfl⟩) C hM ⟨Nat.le_refl _, Nat.le_refl _⟩ hw dJ6_get_14
abbrev rm_J6_fastRemove : Room := { frames := 1, cells := 0, slots := 0, locals := 60 }
set_option maxHeartbeats 4000000 in
theorem wk_J6_fastRemove_34 {p : Program} {l : Launch} {e : Env} {s : State} {m : MethodId} {args : Array Value} {below : List Frame} {meth : Method} {c : Code} {D : va_G} {dA : Nat → ClassId} {ev : Nat → Nat} {h0 : Hp} {sz : Nat} (C : CxM p s m meth c args (AX dA h0 sz) "java/util/ArrayList" cJ6_fastRemove 4 none) {Qr : Hp → Prop} : ∀ (a0 : Nat) (v1 : Nat) (v3 : Int32) (h : Hp) (H : Heap) (locs : List Loc) (ls : Array Slot), wp_J6_fastRemove_34 ev Qr a0 v1 v3 h → wX D dA ev (AX dA h0 sz) s h H locs → lv_has ls 4 [(0, .ref a0), (1, .ref v1), (3, .int v3)] → W p l e rm_J6_fastRemove s m args below meth c H locs 0 0 (MQ below (va_Qv Qr (BX D dA (AX dA h0 sz)) (AX dA h0 sz)) args s 0 0 (AX dA h0 sz)) (F0 m 34 ls []) := by
  intro a0 v1 v3 h H locs ls hw hM hl
  have hx := C.1
  have hb := C.2.1
  have hown := C.2.2.2.2.2.1
  have hts := C.2.2.2.2.2.2.1
  unfold wp_J6_fastRemove_34 at hw
  refine lv_aload_n hx hb dJ6_fastRemove_34 rfl (lv_at hl 1 rfl) ?_
  refine lv_aload_n hx hb dJ6_fastRemove_35 rfl (lv_at hl 0 rfl) ?_
  refine lv_iload_n hx hb dJ6_fastRemove_36 rfl (lv_at hl 2 rfl) ?_
  refine lv_dup_x1 hx hb dJ6_fastRemove_37 rfl rfl ?_
  have o2 := hw.1
  replace hw := hw.2
  refine rX_putI C hM 11 2 rfl in_J6 (by decide) (by decide) rfl rfl q362 o2 tyJ6 tyJ6_ok nmJ6 rfl rfl rfl dJ6_fastRemove_38 (fun h1 H locs eσ hM => ?_)
  replace hw := hw h1 eσ
  clear eσ
  refine lv_null hx hb dJ6_fastRemove_41 ?_
  have o4 := hw.1
  replace hw := hw.2
  have o5 := hw.1
  replace hw := hw.2
  refine rX_aastN C hM o4 o5 dJ6_fastRemove_42 (fun h3 H locs eσ hM => ?_)
  replace hw := hw h3 eσ
  clear eσ
  exact rX_vret C hM ⟨Nat.le_refl _, Nat.le_refl _⟩ hw dJ6_fastRemove_43
set_option maxHeartbeats 4000000 in
/-- java/util/ArrayList.fastRemove([Ljava/lang/Object;I)V -/
theorem mt_J6_fastRemove (l : Launch) (D : va_G) (dA : Nat → ClassId) (ev : Nat → Nat) (sz : Nat) (h : Hp) (a0 : Nat) (p1 : Nat) (p2 : Int32) (Qr : Hp → Prop) (hw : wp_J6_fastRemove ev h a0 p1 p2 Qr) : Met l yJ6_fastRemove (ws_ yJ6_fastRemove cJ6_fastRemove 4 none) rm_J6_fastRemove (PcX D dA ev h sz [.ref a0, .ref p1, .int p2]) (va_Qv Qr (BX D dA (AX dA h sz)) (AX dA h sz)) 0 0 (AX dA h sz) := by
  refine Met.ofW (cc := cJ6_fastRemove) (maxL := 4) (ret := none) (by decide) rfl ?_
  intro p e s m args below meth c s₁ B hml hv
  obtain ⟨rfl, hsz, hP, hK, hD0, hE⟩ := hv
  subst hsz
  have hts0 := atoms_spec (ws := ws_ yJ6_fastRemove cJ6_fastRemove 4 none) B.pre
  have C : CxM p s m meth c _ (AX dA h s.heap.size) "java/util/ArrayList" cJ6_fastRemove 4 none := ⟨B.exec, B.bytes, B.returns, B.notSynchronized, hml, findClass_of_methodNamed B.named, fun w h => hts0 w (List.mem_cons_of_mem _ h), fun q h => Or.inr h⟩
  have hM : wX D dA ev (AX dA h s.heap.size) s h s.heap [] := ⟨hK, hP, hD0.self, va_S.rf, hE⟩
  have hx := C.1
  have hb := C.2.1
  have hown := C.2.2.2.2.2.1
  have hts := C.2.2.2.2.2.2.1
  have hl := lv_entry ([.ref a0, .ref p1, .int p2]) (n := 4) (Nat.le_of_ble_eq_true rfl)
  rw [lg_entry_eq]
  generalize (lg_sl ([.ref a0, .ref p1, .int p2]) ++ List.replicate (4 - (lg_sl ([.ref a0, .ref p1, .int p2])).length) Slot.unset).toArray = ls at hl ⊢
  have hl : lv_has ls 4 [(0, .ref a0), (1, .ref p1), (2, .int p2)] := hl
  unfold wp_J6_fastRemove at hw
  refine lv_aload_n hx hb dJ6_fastRemove_0 rfl (lv_at hl 0 rfl) ?_
  refine lv_dup hx hb dJ6_fastRemove_1 rfl ?_
  have o1 := hw.1
  replace hw := hw.2
  refine rX_getM C hM q364 o1 dJ6_fastRemove_2 ?_
  refine lv_iconst (v := 1) hx hb dJ6_fastRemove_5 (by decide) ?_
  refine lv_iadd hx hb dJ6_fastRemove_6 ?_
  have o3 := hw.1
  replace hw := hw.2
  refine rX_putM C hM q364 o3 dJ6_fastRemove_7 (fun h2 H locs eσ hM => ?_)
  replace hw := hw h2 eσ
  clear eσ
  refine lv_aload_n hx hb dJ6_fastRemove_10 rfl (lv_at hl 0 rfl) ?_
  have o4 := hw.1
  replace hw := hw.2
  refine rX_getI C hM 11 2 rfl in_J6 (by decide) (by decide) rfl q362 o4 dJ6_fastRemove_11 ?_
  refine lv_iconst (v := 1) hx hb dJ6_fastRemove_14 (by decide) ?_
  refine lv_isub hx hb dJ6_fastRemove_15 ?_
  refine lv_topi (fun x5 ex5 => ?_)
  replace hw := hw x5 ex5
  refine lv_dup hx hb dJ6_fastRemove_16 rfl ?_
  refine lv_istore_n (lv' := [(3, .int x5), (0, .ref a0), (1, .ref p1), (2, .int p2)]) hx hb dJ6_fastRemove_17 rfl hl (by decide) rfl (fun ls hl => ?_)
  refine lv_iload_n hx hb dJ6_fastRemove_18 rfl (lv_at hl 3 rfl) ?_
  refine lv_icmp_le (tgt := 34) hx hb dJ6_fastRemove_19 (by decide) (fun hc => ?_) (fun hc => ?_)
  · replace hw := hw.1 hc
    exact wk_J6_fastRemove_34 C  a0 p1 x5 h2 _ _ ls hw hM (lv_sub hl [1, 2, 0] rfl)
  · replace hw := hw.2 hc
    refine lv_aload_n hx hb dJ6_fastRemove_22 rfl (lv_at hl 2 rfl) ?_
    refine lv_iload_n hx hb dJ6_fastRemove_23 rfl (lv_at hl 3 rfl) ?_
    refine lv_iconst (v := 1) hx hb dJ6_fastRemove_24 (by decide) ?_
    refine lv_iadd hx hb dJ6_fastRemove_25 ?_
    refine lv_aload_n hx hb dJ6_fastRemove_26 rfl (lv_at hl 2 rfl) ?_
    refine lv_iload_n hx hb dJ6_fastRemove_27 rfl (lv_at hl 3 rfl) ?_
    refine lv_iload_n hx hb dJ6_fastRemove_28 rfl (lv_at hl 0 rfl) ?_
    refine lv_iload_n hx hb dJ6_fastRemove_29 rfl (lv_at hl 3 rfl) ?_
    refine lv_isub hx hb dJ6_fastRemove_30 ?_
    have o7 := hw.1
    replace hw := hw.2
    have o8 := hw.1
    replace hw := hw.2
    have o9 := hw.1
    replace hw := hw.2
    refine rX_copyV C hM hl.1 q992 q758 q757 q99 q1723 o7 o8 o9 (Nat.le_of_ble_eq_true rfl) (Nat.le_of_ble_eq_true rfl) dJ6_fastRemove_31 (fun h6 H locs eσ hM => ?_)
    replace hw := hw h6 eσ
    clear eσ
    exact wk_J6_fastRemove_34 C  a0 p1 x5 h6 _ _ ls hw hM (lv_sub hl [1, 2, 0] rfl)
abbrev rm_J6_remove : Room := { frames := 2, cells := 0, slots := 0, locals := 83 }
set_option maxHeartbeats 4000000 in
/-- java/util/ArrayList.remove(I)Ljava/lang/Object; -/
theorem mt_J6_remove (l : Launch) (D : va_G) (dA : Nat → ClassId) (ev : Nat → Nat) (sz : Nat) (h : Hp) (a0 : Nat) (p1 : Int32) (Qr : Option Nat → Hp → Prop) (hw : wp_J6_remove ev h a0 p1 Qr) : Met l yJ6_remove (ws_ yJ6_remove cJ6_remove 4 (some (.object "java/lang/Object"))) rm_J6_remove (PcX D dA ev h sz [.ref a0, .int p1]) (va_Qq Qr (BX D dA (AX dA h sz)) (AX dA h sz)) 0 0 (AX dA h sz) := by
  refine Met.ofW (cc := cJ6_remove) (maxL := 4) (ret := (some (.object "java/lang/Object"))) (by decide) rfl ?_
  intro p e s m args below meth c s₁ B hml hv
  obtain ⟨rfl, hsz, hP, hK, hD0, hE⟩ := hv
  subst hsz
  have hts0 := atoms_spec (ws := ws_ yJ6_remove cJ6_remove 4 (some (.object "java/lang/Object"))) B.pre
  have C : CxM p s m meth c _ (AX dA h s.heap.size) "java/util/ArrayList" cJ6_remove 4 (some (.object "java/lang/Object")) := ⟨B.exec, B.bytes, B.returns, B.notSynchronized, hml, findClass_of_methodNamed B.named, fun w h => hts0 w (List.mem_cons_of_mem _ h), fun q h => Or.inr h⟩
  have hM : wX D dA ev (AX dA h s.heap.size) s h s.heap [] := ⟨hK, hP, hD0.self, va_S.rf, hE⟩
  have hx := C.1
  have hb := C.2.1
  have hown := C.2.2.2.2.2.1
  have hts := C.2.2.2.2.2.2.1
  have hl := lv_entry ([.ref a0, .int p1]) (n := 4) (Nat.le_of_ble_eq_true rfl)
  rw [lg_entry_eq]
  generalize (lg_sl ([.ref a0, .int p1]) ++ List.replicate (4 - (lg_sl ([.ref a0, .int p1])).length) Slot.unset).toArray = ls at hl ⊢
  have hl : lv_has ls 4 [(0, .ref a0), (1, .int p1)] := hl
  unfold wp_J6_remove at hw
  refine lv_iload_n hx hb dJ6_remove_0 rfl (lv_at hl 1 rfl) ?_
  refine lv_aload_n hx hb dJ6_remove_1 rfl (lv_at hl 0 rfl) ?_
  have o1 := hw.1
  replace hw := hw.2
  refine rX_getI C hM 11 2 rfl in_J6 (by decide) (by decide) rfl q362 o1 dJ6_remove_2 ?_
  refine rX_goi C hM (runX_S C hM hl.1 2 (As := [.int p1, .int (hI h a0 2)]) (mt_J8_checkIndex l D dA ev _ h p1 (hI h a0 2)  _ hw) (lw_S q683 q684 q95 q685) rfl rfl (by decide +kernel) ⟨Nat.le_of_ble_eq_true rfl, Nat.le_of_ble_eq_true rfl⟩ rfl (Nat.le_of_ble_eq_true rfl) rfl dJ6_remove_5 ⟨Nat.le_refl _, Nat.le_refl _⟩) (fun x3 h2 H locs hw hM => ?_)
  refine lv_pop hx hb dJ6_remove_8 rfl ?_
  refine lv_aload_n hx hb dJ6_remove_9 rfl (lv_at hl 0 rfl) ?_
  have o4 := hw.1
  replace hw := hw.2
  obtain ⟨b5, ebb5, hw⟩ := hw
  refine rX_getRs C hM 11 1 rfl in_J6 (by decide) (by decide) rfl q361 o4 ebb5 dJ6_remove_10 ?_
  refine lv_astore_n (lv' := [(2, .ref b5), (0, .ref a0), (1, .int p1)]) hx hb dJ6_remove_13 rfl hl (by decide) rfl (fun ls hl => ?_)
  refine lv_aload_n hx hb dJ6_remove_14 rfl (lv_at hl 0 rfl) ?_
  refine lv_iload_n hx hb dJ6_remove_15 rfl (lv_at hl 2 rfl) ?_
  have o6 := hw.1
  replace hw := hw.2
  have o7 := hw.1
  replace hw := hw.2
  refine rX_aald C hM 6 (by decide) (by decide) o6 o7 dJ6_remove_16 ?_
  refine lv_astore_nQ (lv' := [(3, va_rf ((hO h2 b5 p1))), (2, .ref b5), (0, .ref a0), (1, .int p1)]) hx hb dJ6_remove_17 rfl hl (by decide) rfl (fun ls hl => ?_)
  refine lv_aload_n hx hb dJ6_remove_18 rfl (lv_at hl 2 rfl) ?_
  refine lv_aload_n hx hb dJ6_remove_19 rfl (lv_at hl 1 rfl) ?_
  refine lv_iload_n hx hb dJ6_remove_20 rfl (lv_at hl 3 rfl) ?_
  have o9 := hw.1
  replace hw := hw.2
  refine rX_gov C hM (runX_V C hM hl.1 11 2 (As := [.ref b5, .int p1]) rfl (by decide) o9 (mt_J6_fastRemove l D dA ev _ h2 a0 b5 p1  _ hw) (lw_V q988 q990 qs35 q90 q991) rfl rfl (by decide +kernel) ⟨Nat.le_of_ble_eq_true rfl, Nat.le_of_ble_eq_true rfl⟩ rfl (Nat.le_of_ble_eq_true rfl) rfl dJ6_remove_21 ⟨Nat.le_refl _, Nat.le_refl _⟩) (fun h8 H locs hw hM => ?_)
  refine lv_aload_nQ hx hb dJ6_remove_24 rfl (lv_at hl 0 rfl) ?_
  exact rX_qret (v := (hO h2 b5 p1)) (by first | exact Or.inl ⟨_, rfl⟩ | exact Or.inr ⟨_, rfl⟩) C hM ⟨Nat.le_refl _, Nat.le_refl _⟩ hw dJ6_remove_25
abbrev rm_J6_isEmpty : Room := { frames := 0, cells := 0, slots := 0, locals := 0 }
set_option maxHeartbeats 4000000 in
theorem wk_J6_isEmpty_12 {p : Program} {l : Launch} {e : Env} {s : State} {m : MethodId} {args : Array Value} {below : List Frame} {meth : Method} {c : Code} {D : va_G} {dA : Nat → ClassId} {ev : Nat → Nat} {h0 : Hp} {sz : Nat} (C : CxM p s m meth c args (AX dA h0 sz) "java/util/ArrayList" cJ6_isEmpty 1 (some .boolean)) {Qr : Int32 → Hp → Prop} : ∀ (a0 : Nat) (u0 : Int32) (h : Hp) (H : Heap) (locs : List Loc) (ls : Array Slot), wp_J6_isEmpty_12 ev Qr a0 u0 h → wX D dA ev (AX dA h0 sz) s h H locs → lv_has ls 1 [(0, .ref a0)] → W p l e rm_J6_isEmpty s m args below meth c H locs 0 0 (MQ below (va_Qi Qr (BX D dA (AX dA h0 sz)) (AX dA h0 sz)) args s 0 0 (AX dA h0 sz)) (F0 m 12 ls [.int u0]) := by
  intro a0 u0 h H locs ls hw hM hl
  have hx := C.1
  have hb := C.2.1
  have hown := C.2.2.2.2.2.1
  have hts := C.2.2.2.2.2.2.1
  unfold wp_J6_isEmpty_12 at hw
  exact rX_zret C hM ⟨Nat.le_refl _, Nat.le_refl _⟩ hw dJ6_isEmpty_12
set_option maxHeartbeats 4000000 in
/-- java/util/ArrayList.isEmpty()Z -/
theorem mt_J6_isEmpty (l : Launch) (D : va_G) (dA : Nat → ClassId) (ev : Nat → Nat) (sz : Nat) (h : Hp) (a0 : Nat) (Qr : Int32 → Hp → Prop) (hw : wp_J6_isEmpty ev h a0 Qr) : Met l yJ6_isEmpty (ws_ yJ6_isEmpty cJ6_isEmpty 1 (some .boolean)) rm_J6_isEmpty (PcX D dA ev h sz [.ref a0]) (va_Qi Qr (BX D dA (AX dA h sz)) (AX dA h sz)) 0 0 (AX dA h sz) := by
  refine Met.ofW (cc := cJ6_isEmpty) (maxL := 1) (ret := (some .boolean)) (by decide) rfl ?_
  intro p e s m args below meth c s₁ B hml hv
  obtain ⟨rfl, hsz, hP, hK, hD0, hE⟩ := hv
  subst hsz
  have hts0 := atoms_spec (ws := ws_ yJ6_isEmpty cJ6_isEmpty 1 (some .boolean)) B.pre
  have C : CxM p s m meth c _ (AX dA h s.heap.size) "java/util/ArrayList" cJ6_isEmpty 1 (some .boolean) := ⟨B.exec, B.bytes, B.returns, B.notSynchronized, hml, findClass_of_methodNamed B.named, fun w h => hts0 w (List.mem_cons_of_mem _ h), fun q h => Or.inr h⟩
  have hM : wX D dA ev (AX dA h s.heap.size) s h s.heap [] := ⟨hK, hP, hD0.self, va_S.rf, hE⟩
  have hx := C.1
  have hb := C.2.1
  have hown := C.2.2.2.2.2.1
  have hts := C.2.2.2.2.2.2.1
  have hl := lv_entry ([.ref a0]) (n := 1) (Nat.le_of_ble_eq_true rfl)
  rw [lg_entry_eq]
  generalize (lg_sl ([.ref a0]) ++ List.replicate (1 - (lg_sl ([.ref a0])).length) Slot.unset).toArray = ls at hl ⊢
  have hl : lv_has ls 1 [(0, .ref a0)] := hl
  unfold wp_J6_isEmpty at hw
  refine lv_aload_n hx hb dJ6_isEmpty_0 rfl (lv_at hl 0 rfl) ?_
  have o1 := hw.1
  replace hw := hw.2
  refine rX_getI C hM 11 2 rfl in_J6 (by decide) (by decide) rfl q362 o1 dJ6_isEmpty_1 ?_
  refine lv_if_ne (tgt := 11) hx hb dJ6_isEmpty_4 (by decide) (fun hc => ?_) (fun hc => ?_)
  · replace hw := hw.1 hc
    refine lv_iconst (v := 0) hx hb dJ6_isEmpty_11 (by decide) ?_
    exact wk_J6_isEmpty_12 C  a0 0 h _ _ ls hw hM (lv_sub hl [0] rfl)
  · replace hw := hw.2 hc
    refine lv_iconst (v := 1) hx hb dJ6_isEmpty_7 (by decide) ?_
    refine lv_goto (tgt := 12) hx hb dJ6_isEmpty_8 (by decide) ?_
    exact wk_J6_isEmpty_12 C  a0 1 h _ _ ls hw hM (lv_sub hl [0] rfl)
abbrev rm_J7_abs : Room := { frames := 0, cells := 0, slots := 0, locals := 0 }
set_option maxHeartbeats 4000000 in
theorem wk_J7_abs_10 {p : Program} {l : Launch} {e : Env} {s : State} {m : MethodId} {args : Array Value} {below : List Frame} {meth : Method} {c : Code} {D : va_G} {dA : Nat → ClassId} {ev : Nat → Nat} {h0 : Hp} {sz : Nat} (C : CxM p s m meth c args (AX dA h0 sz) "java/lang/Math" cJ7_abs 1 (some .int)) {Qr : Int32 → Hp → Prop} : ∀ (u0 : Int32) (h : Hp) (H : Heap) (locs : List Loc) (ls : Array Slot), wp_J7_abs_10 ev Qr u0 h → wX D dA ev (AX dA h0 sz) s h H locs → lv_has ls 1 [] → W p l e rm_J7_abs s m args below meth c H locs 0 0 (MQ below (va_Qi Qr (BX D dA (AX dA h0 sz)) (AX dA h0 sz)) args s 0 0 (AX dA h0 sz)) (F0 m 10 ls [.int u0]) := by
  intro u0 h H locs ls hw hM hl
  have hx := C.1
  have hb := C.2.1
  have hown := C.2.2.2.2.2.1
  have hts := C.2.2.2.2.2.2.1
  unfold wp_J7_abs_10 at hw
  exact rX_iret C hM ⟨Nat.le_refl _, Nat.le_refl _⟩ hw dJ7_abs_10
set_option maxHeartbeats 4000000 in
/-- java/lang/Math.abs(I)I -/
theorem mt_J7_abs (l : Launch) (D : va_G) (dA : Nat → ClassId) (ev : Nat → Nat) (sz : Nat) (h : Hp) (p0 : Int32) (Qr : Int32 → Hp → Prop) (hw : wp_J7_abs ev h p0 Qr) : Met l yJ7_abs (ws_ yJ7_abs cJ7_abs 1 (some .int)) rm_J7_abs (PcX D dA ev h sz [.int p0]) (va_Qi Qr (BX D dA (AX dA h sz)) (AX dA h sz)) 0 0 (AX dA h sz) := by
  refine Met.ofWF (cc := cJ7_abs) (maxL := 1) (ret := (some .int)) (by decide +kernel) rfl ?_
  intro p e s m args below meth c s₁ B hml hv
  obtain ⟨rfl, hsz, hP, hK, hD0, hE⟩ := hv
  subst hsz
  have hts0 := atoms_spec (ws := ws_ yJ7_abs cJ7_abs 1 (some .int)) B.pre
  have C : CxM p s m meth c _ (AX dA h s.heap.size) "java/lang/Math" cJ7_abs 1 (some .int) := ⟨B.exec, B.bytes, B.returns, B.notSynchronized, hml, findClass_of_methodNamed B.named, fun w h => hts0 w (List.mem_cons_of_mem _ h), fun q h => Or.inr h⟩
  have hM : wX D dA ev (AX dA h s.heap.size) s h s.heap [] := ⟨hK, hP, hD0.self, va_S.rf, hE⟩
  have hx := C.1
  have hb := C.2.1
  have hown := C.2.2.2.2.2.1
  have hts := C.2.2.2.2.2.2.1
  have hl := lv_entry ([.int p0]) (n := 1) (Nat.le_of_ble_eq_true rfl)
  rw [lg_entry_eq]
  generalize (lg_sl ([.int p0]) ++ List.replicate (1 - (lg_sl ([.int p0])).length) Slot.unset).toArray = ls at hl ⊢
  have hl : lv_has ls 1 [(0, .int p0)] := hl
  unfold wp_J7_abs at hw
  refine lv_iload_n hx hb dJ7_abs_0 rfl (lv_at hl 0 rfl) ?_
  refine lv_if_ge (tgt := 9) hx hb dJ7_abs_1 (by decide) (fun hc => ?_) (fun hc => ?_)
  · replace hw := hw.1 hc
    refine lv_iload_n hx hb dJ7_abs_9 rfl (lv_at hl 0 rfl) ?_
    exact wk_J7_abs_10 C  p0 h _ _ ls hw hM (lv_sub hl [] rfl)
  · replace hw := hw.2 hc
    refine lv_iload_n hx hb dJ7_abs_4 rfl (lv_at hl 0 rfl) ?_
    refine lv_ineg hx hb dJ7_abs_5 ?_
    refine lv_goto (tgt := 10) hx hb dJ7_abs_6 (by decide) ?_
    exact wk_J7_abs_10 C  ((-p0)) h _ _ ls hw hM (lv_sub hl [] rfl)
abbrev rm_J7_abs_2 : Room := { frames := 0, cells := 0, slots := 0, locals := 0 }
set_option maxHeartbeats 4000000 in
theorem wk_J7_abs_2_12 {p : Program} {l : Launch} {e : Env} {s : State} {m : MethodId} {args : Array Value} {below : List Frame} {meth : Method} {c : Code} {D : va_G} {dA : Nat → ClassId} {ev : Nat → Nat} {h0 : Hp} {sz : Nat} (C : CxM p s m meth c args (AX dA h0 sz) "java/lang/Math" cJ7_abs_2 2 (some .long)) {Qr : Int64 → Hp → Prop} : ∀ (u0 : Int64) (h : Hp) (H : Heap) (locs : List Loc) (ls : Array Slot), wp_J7_abs_2_12 ev Qr u0 h → wX D dA ev (AX dA h0 sz) s h H locs → lv_has ls 2 [] → W p l e rm_J7_abs_2 s m args below meth c H locs 0 0 (MQ below (va_Ql Qr (BX D dA (AX dA h0 sz)) (AX dA h0 sz)) args s 0 0 (AX dA h0 sz)) (F0 m 12 ls [.long u0]) := by
  intro u0 h H locs ls hw hM hl
  have hx := C.1
  have hb := C.2.1
  have hown := C.2.2.2.2.2.1
  have hts := C.2.2.2.2.2.2.1
  unfold wp_J7_abs_2_12 at hw
  exact rX_lret C hM ⟨Nat.le_refl _, Nat.le_refl _⟩ hw dJ7_abs_2_12
set_option maxHeartbeats 4000000 in
/-- java/lang/Math.abs(J)J -/
theorem mt_J7_abs_2 (l : Launch) (D : va_G) (dA : Nat → ClassId) (ev : Nat → Nat) (sz : Nat) (h : Hp) (p0 : Int64) (Qr : Int64 → Hp → Prop) (hw : wp_J7_abs_2 ev h p0 Qr) : Met l yJ7_abs_2 (ws_ yJ7_abs_2 cJ7_abs_2 2 (some .long)) rm_J7_abs_2 (PcX D dA ev h sz [.long p0]) (va_Ql Qr (BX D dA (AX dA h sz)) (AX dA h sz)) 0 0 (AX dA h sz) := by
  refine Met.ofWF (cc := cJ7_abs_2) (maxL := 2) (ret := (some .long)) (by decide +kernel) rfl ?_
  intro p e s m args below meth c s₁ B hml hv
  obtain ⟨rfl, hsz, hP, hK, hD0, hE⟩ := hv
  subst hsz
  have hts0 := atoms_spec (ws := ws_ yJ7_abs_2 cJ7_abs_2 2 (some .long)) B.pre
  have C : CxM p s m meth c _ (AX dA h s.heap.size) "java/lang/Math" cJ7_abs_2 2 (some .long) := ⟨B.exec, B.bytes, B.returns, B.notSynchronized, hml, findClass_of_methodNamed B.named, fun w h => hts0 w (List.mem_cons_of_mem _ h), fun q h => Or.inr h⟩
  have hM : wX D dA ev (AX dA h s.heap.size) s h s.heap [] := ⟨hK, hP, hD0.self, va_S.rf, hE⟩
  have hx := C.1
  have hb := C.2.1
  have hown := C.2.2.2.2.2.1
  have hts := C.2.2.2.2.2.2.1
  have hl := lv_entry ([.long p0]) (n := 2) (Nat.le_of_ble_eq_true rfl)
  rw [lg_entry_eq]
  generalize (lg_sl ([.long p0]) ++ List.replicate (2 - (lg_sl ([.long p0])).length) Slot.unset).toArray = ls at hl ⊢
  have hl : lv_has ls 2 [(0, .long p0)] := hl
  unfold wp_J7_abs_2 at hw
  refine lv_lload_n hx hb dJ7_abs_2_0 rfl (lv_at hl 0 rfl) ?_
  refine lv_lconst (v := 0) hx hb dJ7_abs_2_1 (by decide) ?_
  refine W.lcmp hx hb dJ7_abs_2_2 ?_
  refine lv_if_ge (tgt := 11) hx hb dJ7_abs_2_3 (by decide) (fun hc => ?_) (fun hc => ?_)
  · replace hw := hw.1 hc
    refine lv_lload_n hx hb dJ7_abs_2_11 rfl (lv_at hl 0 rfl) ?_
    exact wk_J7_abs_2_12 C  p0 h _ _ ls hw hM (lv_sub hl [] rfl)
  · replace hw := hw.2 hc
    refine lv_lload_n hx hb dJ7_abs_2_6 rfl (lv_at hl 0 rfl) ?_
    refine lv_lneg hx hb dJ7_abs_2_7 ?_
    refine lv_goto (tgt := 12) hx hb dJ7_abs_2_8 (by decide) ?_
    exact wk_J7_abs_2_12 C  ((-p0)) h _ _ ls hw hM (lv_sub hl [] rfl)
abbrev rm_J7_floorDiv : Room := { frames := 0, cells := 0, slots := 0, locals := 0 }
set_option maxHeartbeats 4000000 in
theorem wk_J7_floorDiv_27 {p : Program} {l : Launch} {e : Env} {s : State} {m : MethodId} {args : Array Value} {below : List Frame} {meth : Method} {c : Code} {D : va_G} {dA : Nat → ClassId} {ev : Nat → Nat} {h0 : Hp} {sz : Nat} (C : CxM p s m meth c args (AX dA h0 sz) "java/lang/Math" cJ7_floorDiv 6 (some .long)) {Qr : Int64 → Hp → Prop} : ∀ (v4 : Int64) (h : Hp) (H : Heap) (locs : List Loc) (ls : Array Slot), wp_J7_floorDiv_27 ev Qr v4 h → wX D dA ev (AX dA h0 sz) s h H locs → lv_has ls 6 [(4, .long v4)] → W p l e rm_J7_floorDiv s m args below meth c H locs 0 0 (MQ below (va_Ql Qr (BX D dA (AX dA h0 sz)) (AX dA h0 sz)) args s 0 0 (AX dA h0 sz)) (F0 m 27 ls []) := by
  intro v4 h H locs ls hw hM hl
  have hx := C.1
  have hb := C.2.1
  have hown := C.2.2.2.2.2.1
  have hts := C.2.2.2.2.2.2.1
  unfold wp_J7_floorDiv_27 at hw
  refine lv_lload hx hb dJ7_floorDiv_27 (lv_at hl 0 rfl) ?_
  exact rX_lret C hM ⟨Nat.le_refl _, Nat.le_refl _⟩ hw dJ7_floorDiv_29
set_option maxHeartbeats 4000000 in
/-- java/lang/Math.floorDiv(JJ)J -/
theorem mt_J7_floorDiv (l : Launch) (D : va_G) (dA : Nat → ClassId) (ev : Nat → Nat) (sz : Nat) (h : Hp) (p0 : Int64) (p2 : Int64) (Qr : Int64 → Hp → Prop) (hw : wp_J7_floorDiv ev h p0 p2 Qr) : Met l yJ7_floorDiv (ws_ yJ7_floorDiv cJ7_floorDiv 6 (some .long)) rm_J7_floorDiv (PcX D dA ev h sz [.long p0, .long p2]) (va_Ql Qr (BX D dA (AX dA h sz)) (AX dA h sz)) 0 0 (AX dA h sz) := by
  refine Met.ofWF (cc := cJ7_floorDiv) (maxL := 6) (ret := (some .long)) (by decide +kernel) rfl ?_
  intro p e s m args below meth c s₁ B hml hv
  obtain ⟨rfl, hsz, hP, hK, hD0, hE⟩ := hv
  subst hsz
  have hts0 := atoms_spec (ws := ws_ yJ7_floorDiv cJ7_floorDiv 6 (some .long)) B.pre
  have C : CxM p s m meth c _ (AX dA h s.heap.size) "java/lang/Math" cJ7_floorDiv 6 (some .long) := ⟨B.exec, B.bytes, B.returns, B.notSynchronized, hml, findClass_of_methodNamed B.named, fun w h => hts0 w (List.mem_cons_of_mem _ h), fun q h => Or.inr h⟩
  have hM : wX D dA ev (AX dA h s.heap.size) s h s.heap [] := ⟨hK, hP, hD0.self, va_S.rf, hE⟩
  have hx := C.1
  have hb := C.2.1
  have hown := C.2.2.2.2.2.1
  have hts := C.2.2.2.2.2.2.1
  have hl := lv_entry ([.long p0, .long p2]) (n := 6) (Nat.le_of_ble_eq_true rfl)
  rw [lg_entry_eq]
  generalize (lg_sl ([.long p0, .long p2]) ++ List.replicate (6 - (lg_sl ([.long p0, .long p2])).length) Slot.unset).toArray = ls at hl ⊢
  have hl : lv_has ls 6 [(0, .long p0), (2, .long p2)] := hl
  unfold wp_J7_floorDiv at hw
  refine lv_lload_n hx hb dJ7_floorDiv_0 rfl (lv_at hl 0 rfl) ?_
  refine lv_lload_n hx hb dJ7_floorDiv_1 rfl (lv_at hl 1 rfl) ?_
  have o1 := hw.1
  replace hw := hw.2
  refine lv_ldiv hx hb dJ7_floorDiv_2 o1 ?_
  refine lv_topl (fun y2 ey2 => ?_)
  replace hw := hw y2 ey2
  refine lv_lstore (lv' := [(4, .long y2), (0, .long p0), (2, .long p2)]) hx hb dJ7_floorDiv_3 hl (by decide) rfl (fun ls hl => ?_)
  refine lv_lload_n hx hb dJ7_floorDiv_5 rfl (lv_at hl 1 rfl) ?_
  refine lv_lload_n hx hb dJ7_floorDiv_6 rfl (lv_at hl 2 rfl) ?_
  refine lv_lxor hx hb dJ7_floorDiv_7 ?_
  refine lv_lconst (v := 0) hx hb dJ7_floorDiv_8 (by decide) ?_
  refine W.lcmp hx hb dJ7_floorDiv_9 ?_
  refine lv_if_ge (tgt := 27) hx hb dJ7_floorDiv_10 (by decide) (fun hc => ?_) (fun hc => ?_)
  · replace hw := hw.1 hc
    exact wk_J7_floorDiv_27 C  y2 h _ _ ls hw hM (lv_sub hl [0] rfl)
  · replace hw := hw.2 hc
    refine lv_lload hx hb dJ7_floorDiv_13 (lv_at hl 0 rfl) ?_
    refine lv_lload_n hx hb dJ7_floorDiv_15 rfl (lv_at hl 2 rfl) ?_
    refine lv_lmul hx hb dJ7_floorDiv_16 ?_
    refine lv_lload_n hx hb dJ7_floorDiv_17 rfl (lv_at hl 1 rfl) ?_
    refine W.lcmp hx hb dJ7_floorDiv_18 ?_
    refine lv_if_eq (tgt := 27) hx hb dJ7_floorDiv_19 (by decide) (fun hc => ?_) (fun hc => ?_)
    · replace hw := hw.1 hc
      exact wk_J7_floorDiv_27 C  y2 h _ _ ls hw hM (lv_sub hl [0] rfl)
    · replace hw := hw.2 hc
      refine lv_lload hx hb dJ7_floorDiv_22 (lv_at hl 0 rfl) ?_
      refine lv_lconst (v := 1) hx hb dJ7_floorDiv_24 (by decide) ?_
      refine lv_lsub hx hb dJ7_floorDiv_25 ?_
      exact rX_lret C hM ⟨Nat.le_refl _, Nat.le_refl _⟩ hw dJ7_floorDiv_26
abbrev rm_X11_init (MC MS : Nat) : Room := { frames := 1, cells := MC, slots := MS, locals := 60 }
set_option maxHeartbeats 4000000 in
/-- LeastSolutions$Vector.<init>()V -/
theorem mt_X11_init (l : Launch) (D : va_G) (dA : Nat → ClassId) (ev : Nat → Nat) (sz : Nat) (h : Hp) (a0 : Nat) (MC MS : Nat) (Qr : Hp → Prop) (hw : wp_X11_init ev h a0 MC MS Qr) : Met l yX11_init (ws_ yX11_init cX11_init 1 none) (rm_X11_init MC MS) (PcX D dA ev h sz [.ref a0]) (va_Qv Qr (BX D dA (AX dA h sz)) (AX dA h sz)) MC MS (AX dA h sz) := by
  refine Met.ofW (cc := cX11_init) (maxL := 1) (ret := none) (by decide) rfl ?_
  intro p e s m args below meth c s₁ B hml hv
  obtain ⟨rfl, hsz, hP, hK, hD0, hE⟩ := hv
  subst hsz
  have hts0 := atoms_spec (ws := ws_ yX11_init cX11_init 1 none) B.pre
  have C : CxM p s m meth c _ (AX dA h s.heap.size) "LeastSolutions$Vector" cX11_init 1 none := ⟨B.exec, B.bytes, B.returns, B.notSynchronized, hml, findClass_of_methodNamed B.named, fun w h => hts0 w (List.mem_cons_of_mem _ h), fun q h => Or.inr h⟩
  have hin0 : meth.name = "<init>" := (name_of_methodNamed B.named B.method).1
  have hM : wX D dA ev (AX dA h s.heap.size) s h s.heap [] := ⟨hK, hP, hD0.self, va_S.rf, hE⟩
  have hx := C.1
  have hb := C.2.1
  have hown := C.2.2.2.2.2.1
  have hts := C.2.2.2.2.2.2.1
  have hl := lv_entry ([.ref a0]) (n := 1) (Nat.le_of_ble_eq_true rfl)
  rw [lg_entry_eq]
  generalize (lg_sl ([.ref a0]) ++ List.replicate (1 - (lg_sl ([.ref a0])).length) Slot.unset).toArray = ls at hl ⊢
  have hl : lv_has ls 1 [(0, .ref a0)] := hl
  have hbud : 0 + MC ≤ MC ∧ 0 + MS ≤ MS := ⟨by omega, by omega⟩
  unfold wp_X11_init at hw
  refine lv_aload_n hx hb dX11_init_0 rfl (lv_at hl 0 rfl) ?_
  refine W.objInit hx hb hown (hts _ q997) (hts _ q118) (hts _ q119) rfl (by rw [C.2.2.2.2.1]; exact hl.1) rfl dX11_init_1 (Nat.le_of_ble_eq_true rfl) (Nat.le_of_ble_eq_true rfl) ?_
  refine W.eq (g2 := F0 m 4 ls []) rfl ?_
  refine lv_aload_n hx hb dX11_init_4 rfl (lv_at hl 0 rfl) ?_
  refine lv_bipush (v := 6) hx hb dX11_init_5 (by decide) ?_
  obtain ⟨mc2, ms3, emc2, ems3, hw⟩ := hw
  refine rX_newb C hM (N := 6) q152 (by decide) (by decide) (by decide) (by show 0 + 1 ≤ MC; omega) (by show 0 + 6 ≤ MS; omega) dX11_init_7 (fun q4 h5 H hqq4 eσ hM => ?_)
  replace hw := hw q4 hqq4 h5 eσ
  clear eσ
  have hbud : 0 + 1 + mc2 ≤ MC ∧ 0 + 6 + ms3 ≤ MS := ⟨by omega, by omega⟩
  have o7 := hw.1
  replace hw := hw.2
  refine rX_putF C hin0 hM 10 0 rfl in_X11 (by decide) (by decide) rfl rfl q998 rfl o7 (x := (some q4)) tyX11 tyX11_ok nmX11 rfl rfl rfl dX11_init_9 (fun h6 H locs eσ hM => ?_)
  replace hw := hw h6 eσ
  clear eσ
  exact rX_vret C hM ⟨by show 0 + 1 ≤ MC; omega, by show 0 + 6 ≤ MS; omega⟩ hw dX11_init_12
abbrev rm_X11_be : Room := { frames := 0, cells := 0, slots := 0, locals := 0 }
set_option maxHeartbeats 4000000 in
theorem wk_X11_be_37 {p : Program} {l : Launch} {e : Env} {s : State} {m : MethodId} {args : Array Value} {below : List Frame} {meth : Method} {c : Code} {D : va_G} {dA : Nat → ClassId} {ev : Nat → Nat} {h0 : Hp} {sz : Nat} (C : CxM p s m meth c args (AX dA h0 sz) "LeastSolutions$Vector" cX11_be 4 none) {Qr : Hp → Prop} {K7 : Nat → Nat → Int32 → Int32 → Hp → Prop} (hK7 : ∀ (a0 : Nat) (v1 : Nat) (v2 : Int32) (v3 : Int32) (h : Hp) (H : Heap) (locs : List Loc) (ls : Array Slot), K7 a0 v1 v2 v3 h → wX D dA ev (AX dA h0 sz) s h H locs → lv_has ls 4 [(0, .ref a0), (1, .ref v1), (2, .int v2), (3, .int v3)] → W p l e rm_X11_be s m args below meth c H locs 0 0 (MQ below (va_Qv Qr (BX D dA (AX dA h0 sz)) (AX dA h0 sz)) args s 0 0 (AX dA h0 sz)) (F0 m 7 ls [])) : ∀ (a0 : Nat) (v1 : Nat) (v2 : Int32) (v3 : Int32) (u0 : Nat) (u1 : Int32) (u2 : Int32) (h : Hp) (H : Heap) (locs : List Loc) (ls : Array Slot), wp_X11_be_37 ev Qr K7 a0 v1 v2 v3 u0 u1 u2 h → wX D dA ev (AX dA h0 sz) s h H locs → lv_has ls 4 [(0, .ref a0), (1, .ref v1), (2, .int v2), (3, .int v3)] → W p l e rm_X11_be s m args below meth c H locs 0 0 (MQ below (va_Qv Qr (BX D dA (AX dA h0 sz)) (AX dA h0 sz)) args s 0 0 (AX dA h0 sz)) (F0 m 37 ls [.int u2, .int u1, .ref u0]) := by
  intro a0 v1 v2 v3 u0 u1 u2 h H locs ls hw hM hl
  have hx := C.1
  have hb := C.2.1
  have hown := C.2.2.2.2.2.1
  have hts := C.2.2.2.2.2.2.1
  unfold wp_X11_be_37 at hw
  refine lv_i2b hx hb dX11_be_37 rfl ?_
  have o2 := hw.1
  replace hw := hw.2
  have o3 := hw.1
  replace hw := hw.2
  refine rX_bast C hM o2 o3 dX11_be_38 (fun h1 H locs eσ hM => ?_)
  replace hw := hw h1 eσ
  clear eσ
  refine lv_aload_n hx hb dX11_be_39 rfl (lv_at hl 0 rfl) ?_
  refine lv_dup hx hb dX11_be_40 rfl ?_
  have o4 := hw.1
  replace hw := hw.2
  refine rX_getI C hM 10 1 rfl in_X11 (by decide) (by decide) rfl q1000 o4 dX11_be_41 ?_
  refine lv_aload_n hx hb dX11_be_44 rfl (lv_at hl 1 rfl) ?_
  refine lv_iload_n hx hb dX11_be_45 rfl (lv_at hl 3 rfl) ?_
  have o5 := hw.1
  replace hw := hw.2
  have o6 := hw.1
  replace hw := hw.2
  refine rX_iald C hM o5 o6 dX11_be_46 ?_
  refine lv_iadd hx hb dX11_be_47 ?_
  have o8 := hw.1
  replace hw := hw.2
  refine rX_putI C hM 10 1 rfl in_X11 (by decide) (by decide) rfl rfl q1000 o8 tyX11 tyX11_ok nmX11 rfl rfl rfl dX11_be_48 (fun h7 H locs eσ hM => ?_)
  replace hw := hw h7 eσ
  clear eσ
  obtain ⟨x9, ex9⟩ : ∃ y : Int32, y = v3 + 1 := ⟨_, rfl⟩
  replace hw := hw x9 ex9
  refine lv_iinc (v := x9) (lv' := [(3, .int x9), (0, .ref a0), (1, .ref v1), (2, .int v2)]) hx hb dX11_be_51 hl (k := 3) rfl (by rw [ex9]; rfl) (by decide) rfl (fun ls hl => ?_)
  refine lv_goto (tgt := 7) hx hb dX11_be_54 (by decide) ?_
  exact hK7 a0 v1 v2 x9 h7 _ _ ls hw hM (lv_sub hl [1, 2, 3, 0] rfl)
set_option maxHeartbeats 4000000 in
theorem wk_X11_be_7 {p : Program} {l : Launch} {e : Env} {s : State} {m : MethodId} {args : Array Value} {below : List Frame} {meth : Method} {c : Code} {D : va_G} {dA : Nat → ClassId} {ev : Nat → Nat} {h0 : Hp} {sz : Nat} (C : CxM p s m meth c args (AX dA h0 sz) "LeastSolutions$Vector" cX11_be 4 none) {Qr : Hp → Prop} : ∀ (n : Nat) (a0 : Nat) (v1 : Nat) (v2 : Int32) (v3 : Int32) (h : Hp) (H : Heap) (locs : List Loc) (ls : Array Slot), wp_X11_be_7 ev Qr n a0 v1 v2 v3 h → wX D dA ev (AX dA h0 sz) s h H locs → lv_has ls 4 [(0, .ref a0), (1, .ref v1), (2, .int v2), (3, .int v3)] → W p l e rm_X11_be s m args below meth c H locs 0 0 (MQ below (va_Qv Qr (BX D dA (AX dA h0 sz)) (AX dA h0 sz)) args s 0 0 (AX dA h0 sz)) (F0 m 7 ls []) := by
  intro n
  induction n with
  | zero => intro a0 v1 v2 v3 h H locs ls hw; exact hw.elim
  | succ n7 ih =>
    intro a0 v1 v2 v3 h H locs ls hw hM hl
    have hx := C.1
    have hb := C.2.1
    have hown := C.2.2.2.2.2.1
    have hts := C.2.2.2.2.2.2.1
    unfold wp_X11_be_7 at hw
    refine lv_iload_n hx hb dX11_be_7 rfl (lv_at hl 3 rfl) ?_
    refine lv_bipush (v := 6) hx hb dX11_be_8 (by decide) ?_
    refine lv_icmp_ge (tgt := 57) hx hb dX11_be_10 (by decide) (fun hc => ?_) (fun hc => ?_)
    · replace hw := hw.1 hc
      exact rX_vret C hM ⟨Nat.le_refl _, Nat.le_refl _⟩ hw dX11_be_57
    · replace hw := hw.2 hc
      refine lv_aload_n hx hb dX11_be_13 rfl (lv_at hl 0 rfl) ?_
      have o1 := hw.1
      replace hw := hw.2
      obtain ⟨b2, ebb2, hw⟩ := hw
      refine rX_getRs C hM 10 0 rfl in_X11 (by decide) (by decide) rfl q998 o1 ebb2 dX11_be_14 ?_
      refine lv_iload_n hx hb dX11_be_17 rfl (lv_at hl 3 rfl) ?_
      refine lv_iload_n hx hb dX11_be_18 rfl (lv_at hl 2 rfl) ?_
      refine lv_iload_n hx hb dX11_be_19 rfl (lv_at hl 3 rfl) ?_
      refine lv_ishr hx hb dX11_be_20 ?_
      refine lv_iconst (v := 1) hx hb dX11_be_21 (by decide) ?_
      refine lv_iand hx hb dX11_be_22 ?_
      refine lv_iconst (v := 1) hx hb dX11_be_23 (by decide) ?_
      refine lv_icmp_ne (tgt := 34) hx hb dX11_be_24 (by decide) (fun hc => ?_) (fun hc => ?_)
      · replace hw := hw.1 hc
        refine lv_aload_n hx hb dX11_be_34 rfl (lv_at hl 1 rfl) ?_
        refine lv_iload_n hx hb dX11_be_35 rfl (lv_at hl 3 rfl) ?_
        have o3 := hw.1
        replace hw := hw.2
        have o4 := hw.1
        replace hw := hw.2
        refine rX_iald C hM o3 o4 dX11_be_36 ?_
        exact wk_X11_be_37 C ih a0 v1 v2 v3 b2 v3 ((hA h v1 v3)) h _ _ ls hw hM (lv_sub hl [0, 1, 2, 3] rfl)
      · replace hw := hw.2 hc
        refine lv_aload_n hx hb dX11_be_27 rfl (lv_at hl 1 rfl) ?_
        refine lv_iload_n hx hb dX11_be_28 rfl (lv_at hl 3 rfl) ?_
        have o5 := hw.1
        replace hw := hw.2
        have o6 := hw.1
        replace hw := hw.2
        refine rX_iald C hM o5 o6 dX11_be_29 ?_
        refine lv_ineg hx hb dX11_be_30 ?_
        refine lv_goto (tgt := 37) hx hb dX11_be_31 (by decide) ?_
        exact wk_X11_be_37 C ih a0 v1 v2 v3 b2 v3 ((-(hA h v1 v3))) h _ _ ls hw hM (lv_sub hl [0, 1, 2, 3] rfl)
set_option maxHeartbeats 4000000 in
/-- LeastSolutions$Vector.be([II)V -/
theorem mt_X11_be (l : Launch) (D : va_G) (dA : Nat → ClassId) (ev : Nat → Nat) (sz : Nat) (h : Hp) (a0 : Nat) (p1 : Nat) (p2 : Int32) (Qr : Hp → Prop) (hw : wp_X11_be ev h a0 p1 p2 Qr) : Met l yX11_be (ws_ yX11_be cX11_be 4 none) rm_X11_be (PcX D dA ev h sz [.ref a0, .ref p1, .int p2]) (va_Qv Qr (BX D dA (AX dA h sz)) (AX dA h sz)) 0 0 (AX dA h sz) := by
  refine Met.ofW (cc := cX11_be) (maxL := 4) (ret := none) (by decide) rfl ?_
  intro p e s m args below meth c s₁ B hml hv
  obtain ⟨rfl, hsz, hP, hK, hD0, hE⟩ := hv
  subst hsz
  have hts0 := atoms_spec (ws := ws_ yX11_be cX11_be 4 none) B.pre
  have C : CxM p s m meth c _ (AX dA h s.heap.size) "LeastSolutions$Vector" cX11_be 4 none := ⟨B.exec, B.bytes, B.returns, B.notSynchronized, hml, findClass_of_methodNamed B.named, fun w h => hts0 w (List.mem_cons_of_mem _ h), fun q h => Or.inr h⟩
  have hM : wX D dA ev (AX dA h s.heap.size) s h s.heap [] := ⟨hK, hP, hD0.self, va_S.rf, hE⟩
  have hx := C.1
  have hb := C.2.1
  have hown := C.2.2.2.2.2.1
  have hts := C.2.2.2.2.2.2.1
  have hl := lv_entry ([.ref a0, .ref p1, .int p2]) (n := 4) (Nat.le_of_ble_eq_true rfl)
  rw [lg_entry_eq]
  generalize (lg_sl ([.ref a0, .ref p1, .int p2]) ++ List.replicate (4 - (lg_sl ([.ref a0, .ref p1, .int p2])).length) Slot.unset).toArray = ls at hl ⊢
  have hl : lv_has ls 4 [(0, .ref a0), (1, .ref p1), (2, .int p2)] := hl
  unfold wp_X11_be at hw
  refine lv_aload_n hx hb dX11_be_0 rfl (lv_at hl 0 rfl) ?_
  refine lv_iconst (v := 0) hx hb dX11_be_1 (by decide) ?_
  have o2 := hw.1
  replace hw := hw.2
  refine rX_putI C hM 10 1 rfl in_X11 (by decide) (by decide) rfl rfl q1000 o2 tyX11 tyX11_ok nmX11 rfl rfl rfl dX11_be_2 (fun h1 H locs eσ hM => ?_)
  replace hw := hw h1 eσ
  clear eσ
  refine lv_iconst (v := 0) hx hb dX11_be_5 (by decide) ?_
  refine lv_istore_n (lv' := [(3, .int 0), (0, .ref a0), (1, .ref p1), (2, .int p2)]) hx hb dX11_be_6 rfl hl (by decide) rfl (fun ls hl => ?_)
  obtain ⟨n7, hw⟩ := hw
  exact wk_X11_be_7 C  n7 a0 p1 p2 0 h1 _ _ ls hw hM (lv_sub hl [1, 2, 3, 0] rfl)
abbrev rm_X11_show : Room := { frames := 0, cells := 0, slots := 0, locals := 0 }
set_option maxHeartbeats 4000000 in
theorem wk_X11_show_2 {p : Program} {l : Launch} {e : Env} {s : State} {m : MethodId} {args : Array Value} {below : List Frame} {meth : Method} {c : Code} {D : va_G} {dA : Nat → ClassId} {ev : Nat → Nat} {h0 : Hp} {sz : Nat} (C : CxM p s m meth c args (AX dA h0 sz) "LeastSolutions$Vector" cX11_show 3 none) {Qr : Hp → Prop} : ∀ (n : Nat) (a0 : Nat) (v1 : Nat) (v2 : Int32) (h : Hp) (H : Heap) (locs : List Loc) (ls : Array Slot), wp_X11_show_2 ev Qr n a0 v1 v2 h → wX D dA ev (AX dA h0 sz) s h H locs → lv_has ls 3 [(0, .ref a0), (1, .ref v1), (2, .int v2)] → W p l e rm_X11_show s m args below meth c H locs 0 0 (MQ below (va_Qv Qr (BX D dA (AX dA h0 sz)) (AX dA h0 sz)) args s 0 0 (AX dA h0 sz)) (F0 m 2 ls []) := by
  intro n
  induction n with
  | zero => intro a0 v1 v2 h H locs ls hw; exact hw.elim
  | succ n2 ih =>
    intro a0 v1 v2 h H locs ls hw hM hl
    have hx := C.1
    have hb := C.2.1
    have hown := C.2.2.2.2.2.1
    have hts := C.2.2.2.2.2.2.1
    unfold wp_X11_show_2 at hw
    refine lv_iload_n hx hb dX11_show_2 rfl (lv_at hl 2 rfl) ?_
    refine lv_bipush (v := 6) hx hb dX11_show_3 (by decide) ?_
    refine lv_icmp_ge (tgt := 23) hx hb dX11_show_5 (by decide) (fun hc => ?_) (fun hc => ?_)
    · replace hw := hw.1 hc
      exact rX_vret C hM ⟨Nat.le_refl _, Nat.le_refl _⟩ hw dX11_show_23
    · replace hw := hw.2 hc
      refine lv_aload_n hx hb dX11_show_8 rfl (lv_at hl 1 rfl) ?_
      refine lv_iload_n hx hb dX11_show_9 rfl (lv_at hl 2 rfl) ?_
      refine lv_aload_n hx hb dX11_show_10 rfl (lv_at hl 0 rfl) ?_
      have o1 := hw.1
      replace hw := hw.2
      obtain ⟨b2, ebb2, hw⟩ := hw
      refine rX_getRs C hM 10 0 rfl in_X11 (by decide) (by decide) rfl q998 o1 ebb2 dX11_show_11 ?_
      refine lv_iload_n hx hb dX11_show_14 rfl (lv_at hl 2 rfl) ?_
      have o3 := hw.1
      replace hw := hw.2
      have o4 := hw.1
      replace hw := hw.2
      refine rX_bald C hM o3 o4 dX11_show_15 ?_
      have o6 := hw.1
      replace hw := hw.2
      have o7 := hw.1
      replace hw := hw.2
      refine rX_iast C hM o6 o7 dX11_show_16 (fun h5 H locs eσ hM => ?_)
      replace hw := hw h5 eσ
      clear eσ
      obtain ⟨x8, ex8⟩ : ∃ y : Int32, y = v2 + 1 := ⟨_, rfl⟩
      replace hw := hw x8 ex8
      refine lv_iinc (v := x8) (lv' := [(2, .int x8), (0, .ref a0), (1, .ref v1)]) hx hb dX11_show_17 hl (k := 2) rfl (by rw [ex8]; rfl) (by decide) rfl (fun ls hl => ?_)
      refine lv_goto (tgt := 2) hx hb dX11_show_20 (by decide) ?_
      exact ih a0 v1 x8 h5 _ _ ls hw hM (lv_sub hl [1, 2, 0] rfl)
set_option maxHeartbeats 4000000 in
/-- LeastSolutions$Vector.show([I)V -/
theorem mt_X11_show (l : Launch) (D : va_G) (dA : Nat → ClassId) (ev : Nat → Nat) (sz : Nat) (h : Hp) (a0 : Nat) (p1 : Nat) (Qr : Hp → Prop) (hw : wp_X11_show ev h a0 p1 Qr) : Met l yX11_show (ws_ yX11_show cX11_show 3 none) rm_X11_show (PcX D dA ev h sz [.ref a0, .ref p1]) (va_Qv Qr (BX D dA (AX dA h sz)) (AX dA h sz)) 0 0 (AX dA h sz) := by
  refine Met.ofW (cc := cX11_show) (maxL := 3) (ret := none) (by decide) rfl ?_
  intro p e s m args below meth c s₁ B hml hv
  obtain ⟨rfl, hsz, hP, hK, hD0, hE⟩ := hv
  subst hsz
  have hts0 := atoms_spec (ws := ws_ yX11_show cX11_show 3 none) B.pre
  have C : CxM p s m meth c _ (AX dA h s.heap.size) "LeastSolutions$Vector" cX11_show 3 none := ⟨B.exec, B.bytes, B.returns, B.notSynchronized, hml, findClass_of_methodNamed B.named, fun w h => hts0 w (List.mem_cons_of_mem _ h), fun q h => Or.inr h⟩
  have hM : wX D dA ev (AX dA h s.heap.size) s h s.heap [] := ⟨hK, hP, hD0.self, va_S.rf, hE⟩
  have hx := C.1
  have hb := C.2.1
  have hown := C.2.2.2.2.2.1
  have hts := C.2.2.2.2.2.2.1
  have hl := lv_entry ([.ref a0, .ref p1]) (n := 3) (Nat.le_of_ble_eq_true rfl)
  rw [lg_entry_eq]
  generalize (lg_sl ([.ref a0, .ref p1]) ++ List.replicate (3 - (lg_sl ([.ref a0, .ref p1])).length) Slot.unset).toArray = ls at hl ⊢
  have hl : lv_has ls 3 [(0, .ref a0), (1, .ref p1)] := hl
  unfold wp_X11_show at hw
  refine lv_iconst (v := 0) hx hb dX11_show_0 (by decide) ?_
  refine lv_istore_n (lv' := [(2, .int 0), (0, .ref a0), (1, .ref p1)]) hx hb dX11_show_1 rfl hl (by decide) rfl (fun ls hl => ?_)
  obtain ⟨n2, hw⟩ := hw
  exact wk_X11_show_2 C  n2 a0 p1 0 h _ _ ls hw hM (lv_sub hl [1, 2, 0] rfl)
abbrev rm_X11_isIn : Room := { frames := 0, cells := 0, slots := 0, locals := 0 }
set_option maxHeartbeats 4000000 in
theorem wk_X11_isIn_38 {p : Program} {l : Launch} {e : Env} {s : State} {m : MethodId} {args : Array Value} {below : List Frame} {meth : Method} {c : Code} {D : va_G} {dA : Nat → ClassId} {ev : Nat → Nat} {h0 : Hp} {sz : Nat} (C : CxM p s m meth c args (AX dA h0 sz) "LeastSolutions$Vector" cX11_isIn 4 (some .boolean)) {Qr : Int32 → Hp → Prop} : ∀ (a0 : Nat) (v2 : Int32) (h : Hp) (H : Heap) (locs : List Loc) (ls : Array Slot), wp_X11_isIn_38 ev Qr a0 v2 h → wX D dA ev (AX dA h0 sz) s h H locs → lv_has ls 4 [(0, .ref a0), (2, .int v2)] → W p l e rm_X11_isIn s m args below meth c H locs 0 0 (MQ below (va_Qi Qr (BX D dA (AX dA h0 sz)) (AX dA h0 sz)) args s 0 0 (AX dA h0 sz)) (F0 m 38 ls []) := by
  intro a0 v2 h H locs ls hw hM hl
  have hx := C.1
  have hb := C.2.1
  have hown := C.2.2.2.2.2.1
  have hts := C.2.2.2.2.2.2.1
  unfold wp_X11_isIn_38 at hw
  refine lv_iload_n hx hb dX11_isIn_38 rfl (lv_at hl 1 rfl) ?_
  exact rX_zret C hM ⟨Nat.le_refl _, Nat.le_refl _⟩ hw dX11_isIn_39
set_option maxHeartbeats 4000000 in
theorem wk_X11_isIn_31 {p : Program} {l : Launch} {e : Env} {s : State} {m : MethodId} {args : Array Value} {below : List Frame} {meth : Method} {c : Code} {D : va_G} {dA : Nat → ClassId} {ev : Nat → Nat} {h0 : Hp} {sz : Nat} (C : CxM p s m meth c args (AX dA h0 sz) "LeastSolutions$Vector" cX11_isIn 4 (some .boolean)) {Qr : Int32 → Hp → Prop} {K4 : Nat → Nat → Int32 → Int32 → Hp → Prop} (hK4 : ∀ (a0 : Nat) (v1 : Nat) (v2 : Int32) (v3 : Int32) (h : Hp) (H : Heap) (locs : List Loc) (ls : Array Slot), K4 a0 v1 v2 v3 h → wX D dA ev (AX dA h0 sz) s h H locs → lv_has ls 4 [(0, .ref a0), (1, .ref v1), (2, .int v2), (3, .int v3)] → W p l e rm_X11_isIn s m args below meth c H locs 0 0 (MQ below (va_Qi Qr (BX D dA (AX dA h0 sz)) (AX dA h0 sz)) args s 0 0 (AX dA h0 sz)) (F0 m 4 ls [])) : ∀ (a0 : Nat) (v1 : Nat) (v3 : Int32) (u0 : Int32) (h : Hp) (H : Heap) (locs : List Loc) (ls : Array Slot), wp_X11_isIn_31 ev Qr K4 a0 v1 v3 u0 h → wX D dA ev (AX dA h0 sz) s h H locs → lv_has ls 4 [(0, .ref a0), (1, .ref v1), (3, .int v3)] → W p l e rm_X11_isIn s m args below meth c H locs 0 0 (MQ below (va_Qi Qr (BX D dA (AX dA h0 sz)) (AX dA h0 sz)) args s 0 0 (AX dA h0 sz)) (F0 m 31 ls [.int u0]) := by
  intro a0 v1 v3 u0 h H locs ls hw hM hl
  have hx := C.1
  have hb := C.2.1
  have hown := C.2.2.2.2.2.1
  have hts := C.2.2.2.2.2.2.1
  unfold wp_X11_isIn_31 at hw
  refine lv_istore_n (lv' := [(2, .int u0), (0, .ref a0), (1, .ref v1), (3, .int v3)]) hx hb dX11_isIn_31 rfl hl (by decide) rfl (fun ls hl => ?_)
  obtain ⟨x1, ex1⟩ : ∃ y : Int32, y = v3 + 1 := ⟨_, rfl⟩
  replace hw := hw x1 ex1
  refine lv_iinc (v := x1) (lv' := [(3, .int x1), (2, .int u0), (0, .ref a0), (1, .ref v1)]) hx hb dX11_isIn_32 hl (k := 3) rfl (by rw [ex1]; rfl) (by decide) rfl (fun ls hl => ?_)
  refine lv_goto (tgt := 4) hx hb dX11_isIn_35 (by decide) ?_
  exact hK4 a0 v1 u0 x1 h _ _ ls hw hM (lv_sub hl [2, 3, 1, 0] rfl)
set_option maxHeartbeats 4000000 in
theorem wk_X11_isIn_4 {p : Program} {l : Launch} {e : Env} {s : State} {m : MethodId} {args : Array Value} {below : List Frame} {meth : Method} {c : Code} {D : va_G} {dA : Nat → ClassId} {ev : Nat → Nat} {h0 : Hp} {sz : Nat} (C : CxM p s m meth c args (AX dA h0 sz) "LeastSolutions$Vector" cX11_isIn 4 (some .boolean)) {Qr : Int32 → Hp → Prop} : ∀ (n : Nat) (a0 : Nat) (v1 : Nat) (v2 : Int32) (v3 : Int32) (h : Hp) (H : Heap) (locs : List Loc) (ls : Array Slot), wp_X11_isIn_4 ev Qr n a0 v1 v2 v3 h → wX D dA ev (AX dA h0 sz) s h H locs → lv_has ls 4 [(0, .ref a0), (1, .ref v1), (2, .int v2), (3, .int v3)] → W p l e rm_X11_isIn s m args below meth c H locs 0 0 (MQ below (va_Qi Qr (BX D dA (AX dA h0 sz)) (AX dA h0 sz)) args s 0 0 (AX dA h0 sz)) (F0 m 4 ls []) := by
  intro n
  induction n with
  | zero => intro a0 v1 v2 v3 h H locs ls hw; exact hw.elim
  | succ n4 ih =>
    intro a0 v1 v2 v3 h H locs ls hw hM hl
    have hx := C.1
    have hb := C.2.1
    have hown := C.2.2.2.2.2.1
    have hts := C.2.2.2.2.2.2.1
    unfold wp_X11_isIn_4 at hw
    refine lv_iload_n hx hb dX11_isIn_4 rfl (lv_at hl 3 rfl) ?_
    refine lv_bipush (v := 6) hx hb dX11_isIn_5 (by decide) ?_
    refine lv_icmp_ge (tgt := 38) hx hb dX11_isIn_7 (by decide) (fun hc => ?_) (fun hc => ?_)
    · replace hw := hw.1 hc
      exact wk_X11_isIn_38 C  a0 v2 h _ _ ls hw hM (lv_sub hl [0, 2] rfl)
    · replace hw := hw.2 hc
      refine lv_iload_n hx hb dX11_isIn_10 rfl (lv_at hl 2 rfl) ?_
      refine lv_if_eq (tgt := 38) hx hb dX11_isIn_11 (by decide) (fun hc => ?_) (fun hc => ?_)
      · replace hw := hw.1 hc
        exact wk_X11_isIn_38 C  a0 v2 h _ _ ls hw hM (lv_sub hl [0, 2] rfl)
      · replace hw := hw.2 hc
        refine lv_aload_n hx hb dX11_isIn_14 rfl (lv_at hl 0 rfl) ?_
        have o1 := hw.1
        replace hw := hw.2
        obtain ⟨b2, ebb2, hw⟩ := hw
        refine rX_getRs C hM 10 0 rfl in_X11 (by decide) (by decide) rfl q998 o1 ebb2 dX11_isIn_15 ?_
        refine lv_iload_n hx hb dX11_isIn_18 rfl (lv_at hl 3 rfl) ?_
        have o3 := hw.1
        replace hw := hw.2
        have o4 := hw.1
        replace hw := hw.2
        refine rX_bald C hM o3 o4 dX11_isIn_19 ?_
        refine lv_aload_n hx hb dX11_isIn_20 rfl (lv_at hl 1 rfl) ?_
        refine lv_iload_n hx hb dX11_isIn_21 rfl (lv_at hl 3 rfl) ?_
        have o5 := hw.1
        replace hw := hw.2
        have o6 := hw.1
        replace hw := hw.2
        refine rX_iald C hM o5 o6 dX11_isIn_22 ?_
        refine lv_icmp_gt (tgt := 30) hx hb dX11_isIn_23 (by decide) (fun hc => ?_) (fun hc => ?_)
        · replace hw := hw.1 hc
          refine lv_iconst (v := 0) hx hb dX11_isIn_30 (by decide) ?_
          exact wk_X11_isIn_31 C ih a0 v1 v3 0 h _ _ ls hw hM (lv_sub hl [0, 1, 3] rfl)
        · replace hw := hw.2 hc
          refine lv_iconst (v := 1) hx hb dX11_isIn_26 (by decide) ?_
          refine lv_goto (tgt := 31) hx hb dX11_isIn_27 (by decide) ?_
          exact wk_X11_isIn_31 C ih a0 v1 v3 1 h _ _ ls hw hM (lv_sub hl [0, 1, 3] rfl)
set_option maxHeartbeats 4000000 in
/-- LeastSolutions$Vector.isIn([I)Z -/
theorem mt_X11_isIn (l : Launch) (D : va_G) (dA : Nat → ClassId) (ev : Nat → Nat) (sz : Nat) (h : Hp) (a0 : Nat) (p1 : Nat) (Qr : Int32 → Hp → Prop) (hw : wp_X11_isIn ev h a0 p1 Qr) : Met l yX11_isIn (ws_ yX11_isIn cX11_isIn 4 (some .boolean)) rm_X11_isIn (PcX D dA ev h sz [.ref a0, .ref p1]) (va_Qi Qr (BX D dA (AX dA h sz)) (AX dA h sz)) 0 0 (AX dA h sz) := by
  refine Met.ofW (cc := cX11_isIn) (maxL := 4) (ret := (some .boolean)) (by decide) rfl ?_
  intro p e s m args below meth c s₁ B hml hv
  obtain ⟨rfl, hsz, hP, hK, hD0, hE⟩ := hv
  subst hsz
  have hts0 := atoms_spec (ws := ws_ yX11_isIn cX11_isIn 4 (some .boolean)) B.pre
  have C : CxM p s m meth c _ (AX dA h s.heap.size) "LeastSolutions$Vector" cX11_isIn 4 (some .boolean) := ⟨B.exec, B.bytes, B.returns, B.notSynchronized, hml, findClass_of_methodNamed B.named, fun w h => hts0 w (List.mem_cons_of_mem _ h), fun q h => Or.inr h⟩
  have hM : wX D dA ev (AX dA h s.heap.size) s h s.heap [] := ⟨hK, hP, hD0.self, va_S.rf, hE⟩
  have hx := C.1
  have hb := C.2.1
  have hown := C.2.2.2.2.2.1
  have hts := C.2.2.2.2.2.2.1
  have hl := lv_entry ([.ref a0, .ref p1]) (n := 4) (Nat.le_of_ble_eq_true rfl)
  rw [lg_entry_eq]
  generalize (lg_sl ([.ref a0, .ref p1]) ++ List.replicate (4 - (lg_sl ([.ref a0, .ref p1])).length) Slot.unset).toArray = ls at hl ⊢
  have hl : lv_has ls 4 [(0, .ref a0), (1, .ref p1)] := hl
  unfold wp_X11_isIn at hw
  refine lv_iconst (v := 1) hx hb dX11_isIn_0 (by decide) ?_
  refine lv_istore_n (lv' := [(2, .int 1), (0, .ref a0), (1, .ref p1)]) hx hb dX11_isIn_1 rfl hl (by decide) rfl (fun ls hl => ?_)
  refine lv_iconst (v := 0) hx hb dX11_isIn_2 (by decide) ?_
  refine lv_istore_n (lv' := [(3, .int 0), (2, .int 1), (0, .ref a0), (1, .ref p1)]) hx hb dX11_isIn_3 rfl hl (by decide) rfl (fun ls hl => ?_)
  obtain ⟨n4, hw⟩ := hw
  exact wk_X11_isIn_4 C  n4 a0 p1 1 0 h _ _ ls hw hM (lv_sub hl [2, 3, 1, 0] rfl)
abbrev rm_X11_against_2 : Room := { frames := 0, cells := 0, slots := 0, locals := 0 }
set_option maxHeartbeats 4000000 in
theorem wk_X11_against_2_73 {p : Program} {l : Launch} {e : Env} {s : State} {m : MethodId} {args : Array Value} {below : List Frame} {meth : Method} {c : Code} {D : va_G} {dA : Nat → ClassId} {ev : Nat → Nat} {h0 : Hp} {sz : Nat} (C : CxM p s m meth c args (AX dA h0 sz) "LeastSolutions$Vector" cX11_against_2 3 (some .int)) {Qr : Int32 → Hp → Prop} : ∀ (a0 : Nat) (u0 : Int32) (h : Hp) (H : Heap) (locs : List Loc) (ls : Array Slot), wp_X11_against_2_73 ev Qr a0 u0 h → wX D dA ev (AX dA h0 sz) s h H locs → lv_has ls 3 [(0, .ref a0)] → W p l e rm_X11_against_2 s m args below meth c H locs 0 0 (MQ below (va_Qi Qr (BX D dA (AX dA h0 sz)) (AX dA h0 sz)) args s 0 0 (AX dA h0 sz)) (F0 m 73 ls [.int u0]) := by
  intro a0 u0 h H locs ls hw hM hl
  have hx := C.1
  have hb := C.2.1
  have hown := C.2.2.2.2.2.1
  have hts := C.2.2.2.2.2.2.1
  unfold wp_X11_against_2_73 at hw
  exact rX_iret C hM ⟨Nat.le_refl _, Nat.le_refl _⟩ hw dX11_against_2_73
set_option maxHeartbeats 4000000 in
theorem wk_X11_against_2_50 {p : Program} {l : Launch} {e : Env} {s : State} {m : MethodId} {args : Array Value} {below : List Frame} {meth : Method} {c : Code} {D : va_G} {dA : Nat → ClassId} {ev : Nat → Nat} {h0 : Hp} {sz : Nat} (C : CxM p s m meth c args (AX dA h0 sz) "LeastSolutions$Vector" cX11_against_2 3 (some .int)) {Qr : Int32 → Hp → Prop} : ∀ (a0 : Nat) (v1 : Nat) (v2 : Int32) (h : Hp) (H : Heap) (locs : List Loc) (ls : Array Slot), wp_X11_against_2_50 ev Qr a0 v1 v2 h → wX D dA ev (AX dA h0 sz) s h H locs → lv_has ls 3 [(0, .ref a0), (1, .ref v1), (2, .int v2)] → W p l e rm_X11_against_2 s m args below meth c H locs 0 0 (MQ below (va_Qi Qr (BX D dA (AX dA h0 sz)) (AX dA h0 sz)) args s 0 0 (AX dA h0 sz)) (F0 m 50 ls []) := by
  intro a0 v1 v2 h H locs ls hw hM hl
  have hx := C.1
  have hb := C.2.1
  have hown := C.2.2.2.2.2.1
  have hts := C.2.2.2.2.2.2.1
  unfold wp_X11_against_2_50 at hw
  refine lv_iload_n hx hb dX11_against_2_50 rfl (lv_at hl 2 rfl) ?_
  refine lv_bipush (v := 6) hx hb dX11_against_2_51 (by decide) ?_
  refine lv_icmp_ne (tgt := 60) hx hb dX11_against_2_53 (by decide) (fun hc => ?_) (fun hc => ?_)
  · replace hw := hw.1 hc
    refine lv_aload_n hx hb dX11_against_2_60 rfl (lv_at hl 0 rfl) ?_
    have o1 := hw.1
    replace hw := hw.2
    obtain ⟨b2, ebb2, hw⟩ := hw
    refine rX_getRs C hM 10 0 rfl in_X11 (by decide) (by decide) rfl q998 o1 ebb2 dX11_against_2_61 ?_
    refine lv_iload_n hx hb dX11_against_2_64 rfl (lv_at hl 2 rfl) ?_
    have o3 := hw.1
    replace hw := hw.2
    have o4 := hw.1
    replace hw := hw.2
    refine rX_bald C hM o3 o4 dX11_against_2_65 ?_
    refine lv_aload_n hx hb dX11_against_2_66 rfl (lv_at hl 1 rfl) ?_
    have o5 := hw.1
    replace hw := hw.2
    obtain ⟨b6, ebb6, hw⟩ := hw
    refine rX_getRs C hM 10 0 rfl in_X11 (by decide) (by decide) rfl q998 o5 ebb6 dX11_against_2_67 ?_
    refine lv_iload_n hx hb dX11_against_2_70 rfl (lv_at hl 2 rfl) ?_
    have o7 := hw.1
    replace hw := hw.2
    have o8 := hw.1
    replace hw := hw.2
    refine rX_bald C hM o7 o8 dX11_against_2_71 ?_
    refine lv_isub hx hb dX11_against_2_72 ?_
    exact wk_X11_against_2_73 C  a0 (((hA h b2 v2) - (hA h b6 v2))) h _ _ ls hw hM (lv_sub hl [0] rfl)
  · replace hw := hw.2 hc
    refine lv_iconst (v := 0) hx hb dX11_against_2_56 (by decide) ?_
    refine lv_goto (tgt := 73) hx hb dX11_against_2_57 (by decide) ?_
    exact wk_X11_against_2_73 C  a0 0 h _ _ ls hw hM (lv_sub hl [0] rfl)
set_option maxHeartbeats 4000000 in
theorem wk_X11_against_2_23 {p : Program} {l : Launch} {e : Env} {s : State} {m : MethodId} {args : Array Value} {below : List Frame} {meth : Method} {c : Code} {D : va_G} {dA : Nat → ClassId} {ev : Nat → Nat} {h0 : Hp} {sz : Nat} (C : CxM p s m meth c args (AX dA h0 sz) "LeastSolutions$Vector" cX11_against_2 3 (some .int)) {Qr : Int32 → Hp → Prop} : ∀ (n : Nat) (a0 : Nat) (v1 : Nat) (v2 : Int32) (h : Hp) (H : Heap) (locs : List Loc) (ls : Array Slot), wp_X11_against_2_23 ev Qr n a0 v1 v2 h → wX D dA ev (AX dA h0 sz) s h H locs → lv_has ls 3 [(0, .ref a0), (1, .ref v1), (2, .int v2)] → W p l e rm_X11_against_2 s m args below meth c H locs 0 0 (MQ below (va_Qi Qr (BX D dA (AX dA h0 sz)) (AX dA h0 sz)) args s 0 0 (AX dA h0 sz)) (F0 m 23 ls []) := by
  intro n
  induction n with
  | zero => intro a0 v1 v2 h H locs ls hw; exact hw.elim
  | succ n23 ih =>
    intro a0 v1 v2 h H locs ls hw hM hl
    have hx := C.1
    have hb := C.2.1
    have hown := C.2.2.2.2.2.1
    have hts := C.2.2.2.2.2.2.1
    unfold wp_X11_against_2_23 at hw
    refine lv_iload_n hx hb dX11_against_2_23 rfl (lv_at hl 2 rfl) ?_
    refine lv_bipush (v := 6) hx hb dX11_against_2_24 (by decide) ?_
    refine lv_icmp_ge (tgt := 50) hx hb dX11_against_2_26 (by decide) (fun hc => ?_) (fun hc => ?_)
    · replace hw := hw.1 hc
      exact wk_X11_against_2_50 C  a0 v1 v2 h _ _ ls hw hM (lv_sub hl [0, 1, 2] rfl)
    · replace hw := hw.2 hc
      refine lv_aload_n hx hb dX11_against_2_29 rfl (lv_at hl 0 rfl) ?_
      have o1 := hw.1
      replace hw := hw.2
      obtain ⟨b2, ebb2, hw⟩ := hw
      refine rX_getRs C hM 10 0 rfl in_X11 (by decide) (by decide) rfl q998 o1 ebb2 dX11_against_2_30 ?_
      refine lv_iload_n hx hb dX11_against_2_33 rfl (lv_at hl 2 rfl) ?_
      have o3 := hw.1
      replace hw := hw.2
      have o4 := hw.1
      replace hw := hw.2
      refine rX_bald C hM o3 o4 dX11_against_2_34 ?_
      refine lv_aload_n hx hb dX11_against_2_35 rfl (lv_at hl 1 rfl) ?_
      have o5 := hw.1
      replace hw := hw.2
      obtain ⟨b6, ebb6, hw⟩ := hw
      refine rX_getRs C hM 10 0 rfl in_X11 (by decide) (by decide) rfl q998 o5 ebb6 dX11_against_2_36 ?_
      refine lv_iload_n hx hb dX11_against_2_39 rfl (lv_at hl 2 rfl) ?_
      have o7 := hw.1
      replace hw := hw.2
      have o8 := hw.1
      replace hw := hw.2
      refine rX_bald C hM o7 o8 dX11_against_2_40 ?_
      refine lv_icmp_ne (tgt := 50) hx hb dX11_against_2_41 (by decide) (fun hc => ?_) (fun hc => ?_)
      · replace hw := hw.1 hc
        exact wk_X11_against_2_50 C  a0 v1 v2 h _ _ ls hw hM (lv_sub hl [0, 1, 2] rfl)
      · replace hw := hw.2 hc
        obtain ⟨x9, ex9⟩ : ∃ y : Int32, y = v2 + 1 := ⟨_, rfl⟩
        replace hw := hw x9 ex9
        refine lv_iinc (v := x9) (lv' := [(2, .int x9), (0, .ref a0), (1, .ref v1)]) hx hb dX11_against_2_44 hl (k := 2) rfl (by rw [ex9]; rfl) (by decide) rfl (fun ls hl => ?_)
        refine lv_goto (tgt := 23) hx hb dX11_against_2_47 (by decide) ?_
        exact ih a0 v1 x9 h _ _ ls hw hM (lv_sub hl [1, 2, 0] rfl)
set_option maxHeartbeats 4000000 in
/-- LeastSolutions$Vector.against(LLeastSolutions$Vector;)I -/
theorem mt_X11_against_2 (l : Launch) (D : va_G) (dA : Nat → ClassId) (ev : Nat → Nat) (sz : Nat) (h : Hp) (a0 : Nat) (p1 : Nat) (Qr : Int32 → Hp → Prop) (hw : wp_X11_against_2 ev h a0 p1 Qr) : Met l yX11_against_2 (ws_ yX11_against_2 cX11_against_2 3 (some .int)) rm_X11_against_2 (PcX D dA ev h sz [.ref a0, .ref p1]) (va_Qi Qr (BX D dA (AX dA h sz)) (AX dA h sz)) 0 0 (AX dA h sz) := by
  refine Met.ofW (cc := cX11_against_2) (maxL := 3) (ret := (some .int)) (by decide) rfl ?_
  intro p e s m args below meth c s₁ B hml hv
  obtain ⟨rfl, hsz, hP, hK, hD0, hE⟩ := hv
  subst hsz
  have hts0 := atoms_spec (ws := ws_ yX11_against_2 cX11_against_2 3 (some .int)) B.pre
  have C : CxM p s m meth c _ (AX dA h s.heap.size) "LeastSolutions$Vector" cX11_against_2 3 (some .int) := ⟨B.exec, B.bytes, B.returns, B.notSynchronized, hml, findClass_of_methodNamed B.named, fun w h => hts0 w (List.mem_cons_of_mem _ h), fun q h => Or.inr h⟩
  have hM : wX D dA ev (AX dA h s.heap.size) s h s.heap [] := ⟨hK, hP, hD0.self, va_S.rf, hE⟩
  have hx := C.1
  have hb := C.2.1
  have hown := C.2.2.2.2.2.1
  have hts := C.2.2.2.2.2.2.1
  have hl := lv_entry ([.ref a0, .ref p1]) (n := 3) (Nat.le_of_ble_eq_true rfl)
  rw [lg_entry_eq]
  generalize (lg_sl ([.ref a0, .ref p1]) ++ List.replicate (3 - (lg_sl ([.ref a0, .ref p1])).length) Slot.unset).toArray = ls at hl ⊢
  have hl : lv_has ls 3 [(0, .ref a0), (1, .ref p1)] := hl
  unfold wp_X11_against_2 at hw
  refine lv_aload_n hx hb dX11_against_2_0 rfl (lv_at hl 0 rfl) ?_
  have o1 := hw.1
  replace hw := hw.2
  refine rX_getI C hM 10 1 rfl in_X11 (by decide) (by decide) rfl q1000 o1 dX11_against_2_1 ?_
  refine lv_aload_n hx hb dX11_against_2_4 rfl (lv_at hl 1 rfl) ?_
  have o2 := hw.1
  replace hw := hw.2
  refine rX_getI C hM 10 1 rfl in_X11 (by decide) (by decide) rfl q1000 o2 dX11_against_2_5 ?_
  refine lv_icmp_eq (tgt := 21) hx hb dX11_against_2_8 (by decide) (fun hc => ?_) (fun hc => ?_)
  · replace hw := hw.1 hc
    refine lv_iconst (v := 0) hx hb dX11_against_2_21 (by decide) ?_
    refine lv_istore_n (lv' := [(2, .int 0), (0, .ref a0), (1, .ref p1)]) hx hb dX11_against_2_22 rfl hl (by decide) rfl (fun ls hl => ?_)
    obtain ⟨n23, hw⟩ := hw
    exact wk_X11_against_2_23 C  n23 a0 p1 0 h _ _ ls hw hM (lv_sub hl [1, 2, 0] rfl)
  · replace hw := hw.2 hc
    refine lv_aload_n hx hb dX11_against_2_11 rfl (lv_at hl 0 rfl) ?_
    have o3 := hw.1
    replace hw := hw.2
    refine rX_getI C hM 10 1 rfl in_X11 (by decide) (by decide) rfl q1000 o3 dX11_against_2_12 ?_
    refine lv_aload_n hx hb dX11_against_2_15 rfl (lv_at hl 1 rfl) ?_
    have o4 := hw.1
    replace hw := hw.2
    refine rX_getI C hM 10 1 rfl in_X11 (by decide) (by decide) rfl q1000 o4 dX11_against_2_16 ?_
    refine lv_isub hx hb dX11_against_2_19 ?_
    exact rX_iret C hM ⟨Nat.le_refl _, Nat.le_refl _⟩ hw dX11_against_2_20
abbrev rm_X11_against : Room := { frames := 1, cells := 0, slots := 0, locals := 22 }
set_option maxHeartbeats 4000000 in
/-- LeastSolutions$Vector.against(Ljava/lang/Object;)I -/
theorem mt_X11_against (l : Launch) (D : va_G) (dA : Nat → ClassId) (ev : Nat → Nat) (sz : Nat) (h : Hp) (a0 : Nat) (p1 : Nat) (Qr : Int32 → Hp → Prop) (hw : wp_X11_against ev h a0 p1 Qr) : Met l yX11_against (ws_ yX11_against cX11_against 2 (some .int)) rm_X11_against (PcX D dA ev h sz [.ref a0, .ref p1]) (va_Qi Qr (BX D dA (AX dA h sz)) (AX dA h sz)) 0 0 (AX dA h sz) := by
  refine Met.ofW (cc := cX11_against) (maxL := 2) (ret := (some .int)) (by decide) rfl ?_
  intro p e s m args below meth c s₁ B hml hv
  obtain ⟨rfl, hsz, hP, hK, hD0, hE⟩ := hv
  subst hsz
  have hts0 := atoms_spec (ws := ws_ yX11_against cX11_against 2 (some .int)) B.pre
  have C : CxM p s m meth c _ (AX dA h s.heap.size) "LeastSolutions$Vector" cX11_against 2 (some .int) := ⟨B.exec, B.bytes, B.returns, B.notSynchronized, hml, findClass_of_methodNamed B.named, fun w h => hts0 w (List.mem_cons_of_mem _ h), fun q h => Or.inr h⟩
  have hM : wX D dA ev (AX dA h s.heap.size) s h s.heap [] := ⟨hK, hP, hD0.self, va_S.rf, hE⟩
  have hx := C.1
  have hb := C.2.1
  have hown := C.2.2.2.2.2.1
  have hts := C.2.2.2.2.2.2.1
  have hl := lv_entry ([.ref a0, .ref p1]) (n := 2) (Nat.le_of_ble_eq_true rfl)
  rw [lg_entry_eq]
  generalize (lg_sl ([.ref a0, .ref p1]) ++ List.replicate (2 - (lg_sl ([.ref a0, .ref p1])).length) Slot.unset).toArray = ls at hl ⊢
  have hl : lv_has ls 2 [(0, .ref a0), (1, .ref p1)] := hl
  unfold wp_X11_against at hw
  refine lv_aload_n hx hb dX11_against_0 rfl (lv_at hl 0 rfl) ?_
  refine lv_aload_n hx hb dX11_against_1 rfl (lv_at hl 1 rfl) ?_
  have o1 := hw.1
  replace hw := hw.2
  refine rX_castS (r := (some p1)) C hM 10 rfl (by decide) q1032 (fun b e => by cases e; exact o1) dX11_against_2 ?_
  have o4 := hw.1
  replace hw := hw.2
  refine rX_goi C hM (runX_V C hM hl.1 10 1 (As := [.ref p1]) rfl (by decide) o4 (mt_X11_against_2 l D dA ev _ h a0 p1  _ hw) (lw_V q1033 q1034 q1035 q104 q1036) rfl rfl (by decide +kernel) ⟨Nat.le_of_ble_eq_true rfl, Nat.le_of_ble_eq_true rfl⟩ rfl (Nat.le_of_ble_eq_true rfl) rfl dX11_against_5 ⟨Nat.le_refl _, Nat.le_refl _⟩) (fun x3 h2 H locs hw hM => ?_)
  exact rX_iret C hM ⟨Nat.le_refl _, Nat.le_refl _⟩ hw dX11_against_8
abbrev rm_J4_init : Room := { frames := 1, cells := 0, slots := 0, locals := 60 }
set_option maxHeartbeats 4000000 in
/-- java/util/AbstractCollection.<init>()V -/
theorem mt_J4_init (l : Launch) (D : va_G) (dA : Nat → ClassId) (ev : Nat → Nat) (sz : Nat) (h : Hp) (a0 : Nat) (Qr : Hp → Prop) (hw : wp_J4_init ev h a0 Qr) : Met l yJ4_init (ws_ yJ4_init cJ4_init 1 none) rm_J4_init (PcX D dA ev h sz [.ref a0]) (va_Qv Qr (BX D dA (AX dA h sz)) (AX dA h sz)) 0 0 (AX dA h sz) := by
  refine Met.ofW (cc := cJ4_init) (maxL := 1) (ret := none) (by decide) rfl ?_
  intro p e s m args below meth c s₁ B hml hv
  obtain ⟨rfl, hsz, hP, hK, hD0, hE⟩ := hv
  subst hsz
  have hts0 := atoms_spec (ws := ws_ yJ4_init cJ4_init 1 none) B.pre
  have C : CxM p s m meth c _ (AX dA h s.heap.size) "java/util/AbstractCollection" cJ4_init 1 none := ⟨B.exec, B.bytes, B.returns, B.notSynchronized, hml, findClass_of_methodNamed B.named, fun w h => hts0 w (List.mem_cons_of_mem _ h), fun q h => Or.inr h⟩
  have hin0 : meth.name = "<init>" := (name_of_methodNamed B.named B.method).1
  have hM : wX D dA ev (AX dA h s.heap.size) s h s.heap [] := ⟨hK, hP, hD0.self, va_S.rf, hE⟩
  have hx := C.1
  have hb := C.2.1
  have hown := C.2.2.2.2.2.1
  have hts := C.2.2.2.2.2.2.1
  have hl := lv_entry ([.ref a0]) (n := 1) (Nat.le_of_ble_eq_true rfl)
  rw [lg_entry_eq]
  generalize (lg_sl ([.ref a0]) ++ List.replicate (1 - (lg_sl ([.ref a0])).length) Slot.unset).toArray = ls at hl ⊢
  have hl : lv_has ls 1 [(0, .ref a0)] := hl
  unfold wp_J4_init at hw
  refine lv_aload_n hx hb dJ4_init_0 rfl (lv_at hl 0 rfl) ?_
  refine W.objInit hx hb hown (hts _ q358) (hts _ q118) (hts _ q119) rfl (by rw [C.2.2.2.2.1]; exact hl.1) rfl dJ4_init_1 (Nat.le_of_ble_eq_true rfl) (Nat.le_of_ble_eq_true rfl) ?_
  refine W.eq (g2 := F0 m 4 ls []) rfl ?_
  exact rX_vret C hM ⟨Nat.le_refl _, Nat.le_refl _⟩ hw dJ4_init_4
abbrev rm_J5_init : Room := { frames := 2, cells := 0, slots := 0, locals := 80 }
set_option maxHeartbeats 4000000 in
/-- java/util/AbstractList.<init>()V -/
theorem mt_J5_init (l : Launch) (D : va_G) (dA : Nat → ClassId) (ev : Nat → Nat) (sz : Nat) (h : Hp) (a0 : Nat) (Qr : Hp → Prop) (hw : wp_J5_init ev h a0 Qr) : Met l yJ5_init (ws_ yJ5_init cJ5_init 1 none) rm_J5_init (PcX D dA ev h sz [.ref a0]) (va_Qv Qr (BX D dA (AX dA h sz)) (AX dA h sz)) 0 0 (AX dA h sz) := by
  refine Met.ofW (cc := cJ5_init) (maxL := 1) (ret := none) (by decide) rfl ?_
  intro p e s m args below meth c s₁ B hml hv
  obtain ⟨rfl, hsz, hP, hK, hD0, hE⟩ := hv
  subst hsz
  have hts0 := atoms_spec (ws := ws_ yJ5_init cJ5_init 1 none) B.pre
  have C : CxM p s m meth c _ (AX dA h s.heap.size) "java/util/AbstractList" cJ5_init 1 none := ⟨B.exec, B.bytes, B.returns, B.notSynchronized, hml, findClass_of_methodNamed B.named, fun w h => hts0 w (List.mem_cons_of_mem _ h), fun q h => Or.inr h⟩
  have hin0 : meth.name = "<init>" := (name_of_methodNamed B.named B.method).1
  have hM : wX D dA ev (AX dA h s.heap.size) s h s.heap [] := ⟨hK, hP, hD0.self, va_S.rf, hE⟩
  have hx := C.1
  have hb := C.2.1
  have hown := C.2.2.2.2.2.1
  have hts := C.2.2.2.2.2.2.1
  have hl := lv_entry ([.ref a0]) (n := 1) (Nat.le_of_ble_eq_true rfl)
  rw [lg_entry_eq]
  generalize (lg_sl ([.ref a0]) ++ List.replicate (1 - (lg_sl ([.ref a0])).length) Slot.unset).toArray = ls at hl ⊢
  have hl : lv_has ls 1 [(0, .ref a0)] := hl
  unfold wp_J5_init at hw
  refine lv_aload_n hx hb dJ5_init_0 rfl (lv_at hl 0 rfl) ?_
  refine rX_gov C hM (runX_I C hM hl.1 0 (As := []) (mt_J4_init l D dA ev _ h a0  _ hw) q357 q88 q355 q356 rfl rfl rfl (by decide +kernel) ⟨Nat.le_of_ble_eq_true rfl, Nat.le_of_ble_eq_true rfl⟩ rfl (Nat.le_of_ble_eq_true rfl) rfl dJ5_init_1 ⟨Nat.le_refl _, Nat.le_refl _⟩) (fun h1 H locs hw hM => ?_)
  refine lv_aload_n hx hb dJ5_init_4 rfl (lv_at hl 0 rfl) ?_
  refine lv_iconst (v := 0) hx hb dJ5_init_5 (by decide) ?_
  have o3 := hw.1
  replace hw := hw.2
  refine rX_putI C hM 11 0 rfl in_J6 (by decide) (by decide) rfl rfl q363 o3 tyJ6 tyJ6_ok nmJ6 rfl rfl rfl dJ5_init_6 (fun h2 H locs eσ hM => ?_)
  replace hw := hw h2 eσ
  clear eσ
  exact rX_vret C hM ⟨Nat.le_refl _, Nat.le_refl _⟩ hw dJ5_init_9
abbrev rm_J6_init : Room := { frames := 3, cells := 0, slots := 0, locals := 100 }
set_option maxHeartbeats 4000000 in
/-- java/util/ArrayList.<init>()V -/
theorem mt_J6_init (l : Launch) (D : va_G) (dA : Nat → ClassId) (ev : Nat → Nat) (sz : Nat) (h : Hp) (a0 : Nat) (Qr : Hp → Prop) (hw : wp_J6_init ev h a0 Qr) : Met l yJ6_init (ws_ yJ6_init cJ6_init 1 none) rm_J6_init (PcX D dA ev h sz [.ref a0]) (va_Qv Qr (BX D dA (AX dA h sz)) (AX dA h sz)) 0 0 (AX dA h sz) := by
  refine Met.ofW (cc := cJ6_init) (maxL := 1) (ret := none) (by decide) rfl ?_
  intro p e s m args below meth c s₁ B hml hv
  obtain ⟨rfl, hsz, hP, hK, hD0, hE⟩ := hv
  subst hsz
  have hts0 := atoms_spec (ws := ws_ yJ6_init cJ6_init 1 none) B.pre
  have C : CxM p s m meth c _ (AX dA h s.heap.size) "java/util/ArrayList" cJ6_init 1 none := ⟨B.exec, B.bytes, B.returns, B.notSynchronized, hml, findClass_of_methodNamed B.named, fun w h => hts0 w (List.mem_cons_of_mem _ h), fun q h => Or.inr h⟩
  have hin0 : meth.name = "<init>" := (name_of_methodNamed B.named B.method).1
  have hM : wX D dA ev (AX dA h s.heap.size) s h s.heap [] := ⟨hK, hP, hD0.self, va_S.rf, hE⟩
  have hx := C.1
  have hb := C.2.1
  have hown := C.2.2.2.2.2.1
  have hts := C.2.2.2.2.2.2.1
  have hl := lv_entry ([.ref a0]) (n := 1) (Nat.le_of_ble_eq_true rfl)
  rw [lg_entry_eq]
  generalize (lg_sl ([.ref a0]) ++ List.replicate (1 - (lg_sl ([.ref a0])).length) Slot.unset).toArray = ls at hl ⊢
  have hl : lv_has ls 1 [(0, .ref a0)] := hl
  unfold wp_J6_init at hw
  refine lv_aload_n hx hb dJ6_init_0 rfl (lv_at hl 0 rfl) ?_
  refine rX_gov C hM (runX_I C hM hl.1 0 (As := []) (mt_J5_init l D dA ev _ h a0  _ hw) q354 q89 q352 q353 rfl rfl rfl (by decide +kernel) ⟨Nat.le_of_ble_eq_true rfl, Nat.le_of_ble_eq_true rfl⟩ rfl (Nat.le_of_ble_eq_true rfl) rfl dJ6_init_1 ⟨Nat.le_refl _, Nat.le_refl _⟩) (fun h1 H locs hw hM => ?_)
  refine lv_aload_n hx hb dJ6_init_4 rfl (lv_at hl 0 rfl) ?_
  refine rX_empty C hM q359 dJ6_init_5 ?_
  have o3 := hw.1
  replace hw := hw.2
  refine rX_putR C hM 11 1 rfl in_J6 (by decide) (by decide) rfl rfl q361 o3 (x := (some (ev 11))) tyJ6 tyJ6_ok nmJ6 rfl rfl rfl dJ6_init_8 (fun h2 H locs eσ hM => ?_)
  replace hw := hw h2 eσ
  clear eσ
  exact rX_vret C hM ⟨Nat.le_refl _, Nat.le_refl _⟩ hw dJ6_init_11
abbrev rm_X7_init (MC MS : Nat) : Room := { frames := 4, cells := MC, slots := MS, locals := 120 }
set_option maxHeartbeats 4000000 in
/-- LeastSolutions$Shelf.<init>()V -/
theorem mt_X7_init (l : Launch) (D : va_G) (dA : Nat → ClassId) (ev : Nat → Nat) (sz : Nat) (h : Hp) (a0 : Nat) (MC MS : Nat) (Qr : Hp → Prop) (hw : wp_X7_init ev h a0 MC MS Qr) : Met l yX7_init (ws_ yX7_init cX7_init 1 none) (rm_X7_init MC MS) (PcX D dA ev h sz [.ref a0]) (va_Qv Qr (BX D dA (AX dA h sz)) (AX dA h sz)) MC MS (AX dA h sz) := by
  refine Met.ofW (cc := cX7_init) (maxL := 1) (ret := none) (by decide) rfl ?_
  intro p e s m args below meth c s₁ B hml hv
  obtain ⟨rfl, hsz, hP, hK, hD0, hE⟩ := hv
  subst hsz
  have hts0 := atoms_spec (ws := ws_ yX7_init cX7_init 1 none) B.pre
  have C : CxM p s m meth c _ (AX dA h s.heap.size) "LeastSolutions$Shelf" cX7_init 1 none := ⟨B.exec, B.bytes, B.returns, B.notSynchronized, hml, findClass_of_methodNamed B.named, fun w h => hts0 w (List.mem_cons_of_mem _ h), fun q h => Or.inr h⟩
  have hin0 : meth.name = "<init>" := (name_of_methodNamed B.named B.method).1
  have hM : wX D dA ev (AX dA h s.heap.size) s h s.heap [] := ⟨hK, hP, hD0.self, va_S.rf, hE⟩
  have hx := C.1
  have hb := C.2.1
  have hown := C.2.2.2.2.2.1
  have hts := C.2.2.2.2.2.2.1
  have hl := lv_entry ([.ref a0]) (n := 1) (Nat.le_of_ble_eq_true rfl)
  rw [lg_entry_eq]
  generalize (lg_sl ([.ref a0]) ++ List.replicate (1 - (lg_sl ([.ref a0])).length) Slot.unset).toArray = ls at hl ⊢
  have hl : lv_has ls 1 [(0, .ref a0)] := hl
  have hbud : 0 + MC ≤ MC ∧ 0 + MS ≤ MS := ⟨by omega, by omega⟩
  unfold wp_X7_init at hw
  refine lv_aload_n hx hb dX7_init_0 rfl (lv_at hl 0 rfl) ?_
  refine W.objInit hx hb hown (hts _ q346) (hts _ q118) (hts _ q119) rfl (by rw [C.2.2.2.2.1]; exact hl.1) rfl dX7_init_1 (Nat.le_of_ble_eq_true rfl) (Nat.le_of_ble_eq_true rfl) ?_
  refine W.eq (g2 := F0 m 4 ls []) rfl ?_
  refine lv_aload_n hx hb dX7_init_4 rfl (lv_at hl 0 rfl) ?_
  obtain ⟨mc1, ms2, emc1, ems2, hw⟩ := hw
  refine rX_new C hM 11 rfl in_J6 (by decide) tyJ6 tyJ6_ok q347 q348 q90 (fun j hj => by match j, hj with | 0, _ => rfl | 1, _ => rfl | 2, _ => rfl) (by show 0 + 1 ≤ MC; omega) (by show 0 + 3 ≤ MS; omega) dX7_init_5 (fun q3 h4 H hqq3 eσ hM => ?_)
  replace hw := hw q3 hqq3 h4 eσ
  clear eσ
  have hbud : 0 + 1 + mc1 ≤ MC ∧ 0 + 3 + ms2 ≤ MS := ⟨by omega, by omega⟩
  refine lv_dup hx hb dX7_init_8 rfl ?_
  refine rX_gov C hM (runX_I C hM hl.1 0 (As := []) (mt_J6_init l D dA ev _ h4 q3  _ hw) q351 q90 q349 q350 rfl rfl rfl (by decide +kernel) ⟨Nat.le_of_ble_eq_true rfl, Nat.le_of_ble_eq_true rfl⟩ rfl (Nat.le_of_ble_eq_true rfl) rfl dX7_init_9 ⟨by show 0 + 1 + 0 ≤ MC; omega, by show 0 + 3 + 0 ≤ MS; omega⟩) (fun h5 H locs hw hM => ?_)
  have o7 := hw.1
  replace hw := hw.2
  refine rX_putF C hin0 hM 6 0 rfl in_X7 (by decide) (by decide) rfl rfl q373 rfl o7 (x := (some q3)) tyX7 tyX7_ok nmX7 rfl rfl rfl dX7_init_12 (fun h6 H locs eσ hM => ?_)
  replace hw := hw h6 eσ
  clear eσ
  refine lv_aload_n hx hb dX7_init_15 rfl (lv_at hl 0 rfl) ?_
  obtain ⟨mc8, ms9, emc8, ems9, hw⟩ := hw
  refine rX_new C hM 11 rfl in_J6 (by decide) tyJ6 tyJ6_ok q347 q348 q90 (fun j hj => by match j, hj with | 0, _ => rfl | 1, _ => rfl | 2, _ => rfl) (by show 0 + 1 + 1 ≤ MC; omega) (by show 0 + 3 + 3 ≤ MS; omega) dX7_init_16 (fun q10 h11 H hqq10 eσ hM => ?_)
  replace hw := hw q10 hqq10 h11 eσ
  clear eσ
  have hbud : 0 + 1 + 1 + mc8 ≤ MC ∧ 0 + 3 + 3 + ms9 ≤ MS := ⟨by omega, by omega⟩
  refine lv_dup hx hb dX7_init_19 rfl ?_
  refine rX_gov C hM (runX_I C hM hl.1 0 (As := []) (mt_J6_init l D dA ev _ h11 q10  _ hw) q351 q90 q349 q350 rfl rfl rfl (by decide +kernel) ⟨Nat.le_of_ble_eq_true rfl, Nat.le_of_ble_eq_true rfl⟩ rfl (Nat.le_of_ble_eq_true rfl) rfl dX7_init_20 ⟨by show 0 + 1 + 1 + 0 ≤ MC; omega, by show 0 + 3 + 3 + 0 ≤ MS; omega⟩) (fun h12 H locs hw hM => ?_)
  have o14 := hw.1
  replace hw := hw.2
  refine rX_putF C hin0 hM 6 1 rfl in_X7 (by decide) (by decide) rfl rfl q374 rfl o14 (x := (some q10)) tyX7 tyX7_ok nmX7 rfl rfl rfl dX7_init_23 (fun h13 H locs eσ hM => ?_)
  replace hw := hw h13 eσ
  clear eσ
  exact rX_vret C hM ⟨by show 0 + 1 + 1 ≤ MC; omega, by show 0 + 3 + 3 ≤ MS; omega⟩ hw dX7_init_26
abbrev rm_J6_size : Room := { frames := 0, cells := 0, slots := 0, locals := 0 }
set_option maxHeartbeats 4000000 in
/-- java/util/ArrayList.size()I -/
theorem mt_J6_size (l : Launch) (D : va_G) (dA : Nat → ClassId) (ev : Nat → Nat) (sz : Nat) (h : Hp) (a0 : Nat) (Qr : Int32 → Hp → Prop) (hw : wp_J6_size ev h a0 Qr) : Met l yJ6_size (ws_ yJ6_size cJ6_size 1 (some .int)) rm_J6_size (PcX D dA ev h sz [.ref a0]) (va_Qi Qr (BX D dA (AX dA h sz)) (AX dA h sz)) 0 0 (AX dA h sz) := by
  refine Met.ofW (cc := cJ6_size) (maxL := 1) (ret := (some .int)) (by decide) rfl ?_
  intro p e s m args below meth c s₁ B hml hv
  obtain ⟨rfl, hsz, hP, hK, hD0, hE⟩ := hv
  subst hsz
  have hts0 := atoms_spec (ws := ws_ yJ6_size cJ6_size 1 (some .int)) B.pre
  have C : CxM p s m meth c _ (AX dA h s.heap.size) "java/util/ArrayList" cJ6_size 1 (some .int) := ⟨B.exec, B.bytes, B.returns, B.notSynchronized, hml, findClass_of_methodNamed B.named, fun w h => hts0 w (List.mem_cons_of_mem _ h), fun q h => Or.inr h⟩
  have hM : wX D dA ev (AX dA h s.heap.size) s h s.heap [] := ⟨hK, hP, hD0.self, va_S.rf, hE⟩
  have hx := C.1
  have hb := C.2.1
  have hown := C.2.2.2.2.2.1
  have hts := C.2.2.2.2.2.2.1
  have hl := lv_entry ([.ref a0]) (n := 1) (Nat.le_of_ble_eq_true rfl)
  rw [lg_entry_eq]
  generalize (lg_sl ([.ref a0]) ++ List.replicate (1 - (lg_sl ([.ref a0])).length) Slot.unset).toArray = ls at hl ⊢
  have hl : lv_has ls 1 [(0, .ref a0)] := hl
  unfold wp_J6_size at hw
  refine lv_aload_n hx hb dJ6_size_0 rfl (lv_at hl 0 rfl) ?_
  have o1 := hw.1
  replace hw := hw.2
  refine rX_getI C hM 11 2 rfl in_J6 (by decide) (by decide) rfl q362 o1 dJ6_size_1 ?_
  exact rX_iret C hM ⟨Nat.le_refl _, Nat.le_refl _⟩ hw dJ6_size_4
abbrev rm_X7_size : Room := { frames := 1, cells := 0, slots := 0, locals := 20 }
set_option maxHeartbeats 4000000 in
/-- LeastSolutions$Shelf.size()I -/
theorem mt_X7_size (l : Launch) (D : va_G) (dA : Nat → ClassId) (ev : Nat → Nat) (sz : Nat) (h : Hp) (a0 : Nat) (Qr : Int32 → Hp → Prop) (hw : wp_X7_size ev h a0 Qr) : Met l yX7_size (ws_ yX7_size cX7_size 1 (some .int)) rm_X7_size (PcX D dA ev h sz [.ref a0]) (va_Qi Qr (BX D dA (AX dA h sz)) (AX dA h sz)) 0 0 (AX dA h sz) := by
  refine Met.ofW (cc := cX7_size) (maxL := 1) (ret := (some .int)) (by decide) rfl ?_
  intro p e s m args below meth c s₁ B hml hv
  obtain ⟨rfl, hsz, hP, hK, hD0, hE⟩ := hv
  subst hsz
  have hts0 := atoms_spec (ws := ws_ yX7_size cX7_size 1 (some .int)) B.pre
  have C : CxM p s m meth c _ (AX dA h s.heap.size) "LeastSolutions$Shelf" cX7_size 1 (some .int) := ⟨B.exec, B.bytes, B.returns, B.notSynchronized, hml, findClass_of_methodNamed B.named, fun w h => hts0 w (List.mem_cons_of_mem _ h), fun q h => Or.inr h⟩
  have hM : wX D dA ev (AX dA h s.heap.size) s h s.heap [] := ⟨hK, hP, hD0.self, va_S.rf, hE⟩
  have hx := C.1
  have hb := C.2.1
  have hown := C.2.2.2.2.2.1
  have hts := C.2.2.2.2.2.2.1
  have hl := lv_entry ([.ref a0]) (n := 1) (Nat.le_of_ble_eq_true rfl)
  rw [lg_entry_eq]
  generalize (lg_sl ([.ref a0]) ++ List.replicate (1 - (lg_sl ([.ref a0])).length) Slot.unset).toArray = ls at hl ⊢
  have hl : lv_has ls 1 [(0, .ref a0)] := hl
  unfold wp_X7_size at hw
  refine lv_aload_n hx hb dX7_size_0 rfl (lv_at hl 0 rfl) ?_
  have o1 := hw.1
  replace hw := hw.2
  obtain ⟨b2, ebb2, hw⟩ := hw
  refine rX_getRs C hM 6 0 rfl in_X7 (by decide) (by decide) rfl q373 o1 ebb2 dX7_size_1 ?_
  have o5 := hw.1
  replace hw := hw.2
  refine rX_goi C hM (runX_V C hM hl.1 11 0 (As := []) rfl (by decide) o5 (mt_J6_size l D dA ev _ h b2  _ hw) (lw_V q675 q676 q677 q90 q678) rfl rfl (by decide +kernel) ⟨Nat.le_of_ble_eq_true rfl, Nat.le_of_ble_eq_true rfl⟩ rfl (Nat.le_of_ble_eq_true rfl) rfl dX7_size_4 ⟨Nat.le_refl _, Nat.le_refl _⟩) (fun x4 h3 H locs hw hM => ?_)
  exact rX_iret C hM ⟨Nat.le_refl _, Nat.le_refl _⟩ hw dX7_size_7
abbrev rm_X7_get : Room := { frames := 3, cells := 0, slots := 0, locals := 64 }
set_option maxHeartbeats 4000000 in
/-- LeastSolutions$Shelf.get(I)LLeastSolutions$Ranked; -/
theorem mt_X7_get (l : Launch) (D : va_G) (dA : Nat → ClassId) (ev : Nat → Nat) (sz : Nat) (h : Hp) (a0 : Nat) (p1 : Int32) (Qr : Option Nat → Hp → Prop) (hw : wp_X7_get ev h a0 p1 Qr) : Met l yX7_get (ws_ yX7_get cX7_get 2 (some (.object "LeastSolutions$Ranked"))) rm_X7_get (PcX D dA ev h sz [.ref a0, .int p1]) (va_Qq Qr (BX D dA (AX dA h sz)) (AX dA h sz)) 0 0 (AX dA h sz) := by
  refine Met.ofW (cc := cX7_get) (maxL := 2) (ret := (some (.object "LeastSolutions$Ranked"))) (by decide) rfl ?_
  intro p e s m args below meth c s₁ B hml hv
  obtain ⟨rfl, hsz, hP, hK, hD0, hE⟩ := hv
  subst hsz
  have hts0 := atoms_spec (ws := ws_ yX7_get cX7_get 2 (some (.object "LeastSolutions$Ranked"))) B.pre
  have C : CxM p s m meth c _ (AX dA h s.heap.size) "LeastSolutions$Shelf" cX7_get 2 (some (.object "LeastSolutions$Ranked")) := ⟨B.exec, B.bytes, B.returns, B.notSynchronized, hml, findClass_of_methodNamed B.named, fun w h => hts0 w (List.mem_cons_of_mem _ h), fun q h => Or.inr h⟩
  have hM : wX D dA ev (AX dA h s.heap.size) s h s.heap [] := ⟨hK, hP, hD0.self, va_S.rf, hE⟩
  have hx := C.1
  have hb := C.2.1
  have hown := C.2.2.2.2.2.1
  have hts := C.2.2.2.2.2.2.1
  have hl := lv_entry ([.ref a0, .int p1]) (n := 2) (Nat.le_of_ble_eq_true rfl)
  rw [lg_entry_eq]
  generalize (lg_sl ([.ref a0, .int p1]) ++ List.replicate (2 - (lg_sl ([.ref a0, .int p1])).length) Slot.unset).toArray = ls at hl ⊢
  have hl : lv_has ls 2 [(0, .ref a0), (1, .int p1)] := hl
  unfold wp_X7_get at hw
  refine lv_aload_n hx hb dX7_get_0 rfl (lv_at hl 0 rfl) ?_
  have o1 := hw.1
  replace hw := hw.2
  obtain ⟨b2, ebb2, hw⟩ := hw
  refine rX_getRs C hM 6 0 rfl in_X7 (by decide) (by decide) rfl q373 o1 ebb2 dX7_get_1 ?_
  refine lv_iload_n hx hb dX7_get_4 rfl (lv_at hl 1 rfl) ?_
  have o5 := hw.1
  replace hw := hw.2
  refine rX_goq C hM (runX_V C hM hl.1 11 1 (As := [.int p1]) rfl (by decide) o5 (mt_J6_get l D dA ev _ h b2 p1  _ hw) (lw_V q679 q680 q681 q90 q682) rfl rfl (by decide +kernel) ⟨Nat.le_of_ble_eq_true rfl, Nat.le_of_ble_eq_true rfl⟩ rfl (Nat.le_of_ble_eq_true rfl) rfl dX7_get_5 ⟨Nat.le_refl _, Nat.le_refl _⟩) (fun r4 h3 H locs hw hM => ?_)
  have o6 := hw.1
  replace hw := hw.2
  refine rX_castY (r := r4) C hM 10 rfl (by decide) q693 q1018 o6 dX7_get_8 ?_
  exact rX_qret (v := r4) (by first | exact Or.inl ⟨_, rfl⟩ | exact Or.inr ⟨_, rfl⟩) C hM ⟨Nat.le_refl _, Nat.le_refl _⟩ hw dX7_get_11
abbrev rm_X7_clear (MC MS : Nat) : Room := { frames := 7, cells := MC, slots := MS, locals := 191 }
set_option maxHeartbeats 4000000 in
theorem wk_X7_clear_2 {p : Program} {l : Launch} {e : Env} {s : State} {m : MethodId} {args : Array Value} {below : List Frame} {meth : Method} {c : Code} {D : va_G} {dA : Nat → ClassId} {ev : Nat → Nat} {h0 : Hp} {sz : Nat} {MC MS : Nat} (C : CxM p s m meth c args (AX dA h0 sz) "LeastSolutions$Shelf" cX7_clear 2 none) {Qr : Hp → Prop} : ∀ (n : Nat) (a0 : Nat) (v1 : Int32) (h : Hp) (mc ms : Nat) (cells slots : Nat) (H : Heap) (locs : List Loc) (ls : Array Slot), wp_X7_clear_2 ev Qr n a0 v1 h mc ms → wX D dA ev (AX dA h0 sz) s h H locs → cells + mc ≤ MC ∧ slots + ms ≤ MS → lv_has ls 2 [(0, .ref a0), (1, .int v1)] → W p l e (rm_X7_clear MC MS) s m args below meth c H locs cells slots (MQ below (va_Qv Qr (BX D dA (AX dA h0 sz)) (AX dA h0 sz)) args s MC MS (AX dA h0 sz)) (F0 m 2 ls []) := by
  intro n
  induction n with
  | zero => intro a0 v1 h mc ms cells slots H locs ls hw; exact hw.elim
  | succ n2 ih =>
    intro a0 v1 h mc ms cells slots H locs ls hw hM hbud hl
    have hx := C.1
    have hb := C.2.1
    have hown := C.2.2.2.2.2.1
    have hts := C.2.2.2.2.2.2.1
    unfold wp_X7_clear_2 at hw
    refine lv_iload_n hx hb dX7_clear_2 rfl (lv_at hl 1 rfl) ?_
    refine lv_aload_n hx hb dX7_clear_3 rfl (lv_at hl 0 rfl) ?_
    have o1 := hw.1
    replace hw := hw.2
    obtain ⟨b2, ebb2, hw⟩ := hw
    refine rX_getRs C hM 6 0 rfl in_X7 (by decide) (by decide) rfl q373 o1 ebb2 dX7_clear_4 ?_
    have o5 := hw.1
    replace hw := hw.2
    refine rX_goi C hM (runX_V C hM hl.1 11 0 (As := []) rfl (by decide) o5 (mt_J6_size l D dA ev _ h b2  _ hw) (lw_V q675 q676 q677 q90 q678) rfl rfl (by decide +kernel) ⟨Nat.le_of_ble_eq_true rfl, Nat.le_of_ble_eq_true rfl⟩ rfl (Nat.le_of_ble_eq_true rfl) rfl dX7_clear_7 ⟨by show cells + 0 ≤ MC; omega, by show slots + 0 ≤ MS; omega⟩) (fun x4 h3 H locs hw hM => ?_)
    refine lv_icmp_ge (tgt := 38) hx hb dX7_clear_10 (by decide) (fun hc => ?_) (fun hc => ?_)
    · replace hw := hw.1 hc
      refine lv_aload_n hx hb dX7_clear_38 rfl (lv_at hl 0 rfl) ?_
      have o6 := hw.1
      replace hw := hw.2
      obtain ⟨b7, ebb7, hw⟩ := hw
      refine rX_getRs C hM 6 0 rfl in_X7 (by decide) (by decide) rfl q373 o6 ebb7 dX7_clear_39 ?_
      have o9 := hw.1
      replace hw := hw.2
      refine rX_gov C hM (runX_V C hM hl.1 11 0 (As := []) rfl (by decide) o9 (mt_J6_clear l D dA ev _ h3 b7  _ hw) (lw_V q761 q762 q763 q90 q764) rfl rfl (by decide +kernel) ⟨Nat.le_of_ble_eq_true rfl, Nat.le_of_ble_eq_true rfl⟩ rfl (Nat.le_of_ble_eq_true rfl) rfl dX7_clear_42 ⟨by show cells + 0 ≤ MC; omega, by show slots + 0 ≤ MS; omega⟩) (fun h8 H locs hw hM => ?_)
      exact rX_vret C hM ⟨by show cells ≤ MC; omega, by show slots ≤ MS; omega⟩ hw dX7_clear_45
    · replace hw := hw.2 hc
      refine lv_aload_n hx hb dX7_clear_13 rfl (lv_at hl 0 rfl) ?_
      have o10 := hw.1
      replace hw := hw.2
      obtain ⟨b11, ebb11, hw⟩ := hw
      refine rX_getRs C hM 6 1 rfl in_X7 (by decide) (by decide) rfl q374 o10 ebb11 dX7_clear_14 ?_
      refine lv_aload_n hx hb dX7_clear_17 rfl (lv_at hl 0 rfl) ?_
      have o12 := hw.1
      replace hw := hw.2
      obtain ⟨b13, ebb13, hw⟩ := hw
      refine rX_getRs C hM 6 0 rfl in_X7 (by decide) (by decide) rfl q373 o12 ebb13 dX7_clear_18 ?_
      refine lv_iload_n hx hb dX7_clear_21 rfl (lv_at hl 1 rfl) ?_
      have o16 := hw.1
      replace hw := hw.2
      refine rX_goq C hM (runX_V C hM hl.1 11 1 (As := [.int v1]) rfl (by decide) o16 (mt_J6_get l D dA ev _ h3 b13 v1  _ hw) (lw_V q679 q680 q681 q90 q682) rfl rfl (by decide +kernel) ⟨Nat.le_of_ble_eq_true rfl, Nat.le_of_ble_eq_true rfl⟩ rfl (Nat.le_of_ble_eq_true rfl) rfl dX7_clear_22 ⟨by show cells + 0 ≤ MC; omega, by show slots + 0 ≤ MS; omega⟩) (fun r15 h14 H locs hw hM => ?_)
      have o17 := hw.1
      replace hw := hw.2
      refine rX_castY (r := r15) C hM 10 rfl (by decide) q693 q1018 o17 dX7_clear_25 ?_
      obtain ⟨b18, eb, hw⟩ := hw
      subst eb
      obtain ⟨c19, d20, mc21, ms22, emc21, ems22, hw⟩ := hw
      have o25 := hw.1
      replace hw := hw.2
      refine rX_goi C hM (runX_V C hM hl.1 11 1 (As := [.ref b18]) rfl (by decide) o25 (mt_J6_add l D dA ev _ h14 b11 b18  c19 d20 _ hw) (lw_V q694 q695 q696 q90 q697) rfl rfl (by decide +kernel) ⟨Nat.le_of_ble_eq_true rfl, Nat.le_of_ble_eq_true rfl⟩ rfl (Nat.le_of_ble_eq_true rfl) rfl dX7_clear_28 ⟨by show cells + c19 ≤ MC; omega, by show slots + d20 ≤ MS; omega⟩) (fun x24 h23 H locs hw hM => ?_)
      have hbud : cells + c19 + mc21 ≤ MC ∧ slots + d20 + ms22 ≤ MS := ⟨by omega, by omega⟩
      refine lv_pop hx hb dX7_clear_31 rfl ?_
      obtain ⟨x26, ex26⟩ : ∃ y : Int32, y = v1 + 1 := ⟨_, rfl⟩
      replace hw := hw x26 ex26
      refine lv_iinc (v := x26) (lv' := [(1, .int x26), (0, .ref a0)]) hx hb dX7_clear_32 hl (k := 1) rfl (by rw [ex26]; rfl) (by decide) rfl (fun ls hl => ?_)
      refine lv_goto (tgt := 2) hx hb dX7_clear_35 (by decide) ?_
      exact ih a0 x26 h23 mc21 ms22 _ _ _ _ ls hw hM hbud (lv_sub hl [1, 0] rfl)
set_option maxHeartbeats 4000000 in
/-- LeastSolutions$Shelf.clear()V -/
theorem mt_X7_clear (l : Launch) (D : va_G) (dA : Nat → ClassId) (ev : Nat → Nat) (sz : Nat) (h : Hp) (a0 : Nat) (MC MS : Nat) (Qr : Hp → Prop) (hw : wp_X7_clear ev h a0 MC MS Qr) : Met l yX7_clear (ws_ yX7_clear cX7_clear 2 none) (rm_X7_clear MC MS) (PcX D dA ev h sz [.ref a0]) (va_Qv Qr (BX D dA (AX dA h sz)) (AX dA h sz)) MC MS (AX dA h sz) := by
  refine Met.ofW (cc := cX7_clear) (maxL := 2) (ret := none) (by decide) rfl ?_
  intro p e s m args below meth c s₁ B hml hv
  obtain ⟨rfl, hsz, hP, hK, hD0, hE⟩ := hv
  subst hsz
  have hts0 := atoms_spec (ws := ws_ yX7_clear cX7_clear 2 none) B.pre
  have C : CxM p s m meth c _ (AX dA h s.heap.size) "LeastSolutions$Shelf" cX7_clear 2 none := ⟨B.exec, B.bytes, B.returns, B.notSynchronized, hml, findClass_of_methodNamed B.named, fun w h => hts0 w (List.mem_cons_of_mem _ h), fun q h => Or.inr h⟩
  have hM : wX D dA ev (AX dA h s.heap.size) s h s.heap [] := ⟨hK, hP, hD0.self, va_S.rf, hE⟩
  have hx := C.1
  have hb := C.2.1
  have hown := C.2.2.2.2.2.1
  have hts := C.2.2.2.2.2.2.1
  have hl := lv_entry ([.ref a0]) (n := 2) (Nat.le_of_ble_eq_true rfl)
  rw [lg_entry_eq]
  generalize (lg_sl ([.ref a0]) ++ List.replicate (2 - (lg_sl ([.ref a0])).length) Slot.unset).toArray = ls at hl ⊢
  have hl : lv_has ls 2 [(0, .ref a0)] := hl
  have hbud : 0 + MC ≤ MC ∧ 0 + MS ≤ MS := ⟨by omega, by omega⟩
  unfold wp_X7_clear at hw
  refine lv_iconst (v := 0) hx hb dX7_clear_0 (by decide) ?_
  refine lv_istore_n (lv' := [(1, .int 0), (0, .ref a0)]) hx hb dX7_clear_1 rfl hl (by decide) rfl (fun ls hl => ?_)
  obtain ⟨n2, hw⟩ := hw
  exact wk_X7_clear_2 C  n2 a0 0 h MC MS _ _ _ _ ls hw hM hbud (lv_sub hl [1, 0] rfl)
abbrev rm_X7_spare : Room := { frames := 3, cells := 0, slots := 0, locals := 106 }
set_option maxHeartbeats 4000000 in
theorem wk_X7_spare_33 {p : Program} {l : Launch} {e : Env} {s : State} {m : MethodId} {args : Array Value} {below : List Frame} {meth : Method} {c : Code} {D : va_G} {dA : Nat → ClassId} {ev : Nat → Nat} {h0 : Hp} {sz : Nat} (C : CxM p s m meth c args (AX dA h0 sz) "LeastSolutions$Shelf" cX7_spare 1 (some (.object "LeastSolutions$Ranked"))) {Qr : Option Nat → Hp → Prop} : ∀ (a0 : Nat) (u0 : Option Nat) (h : Hp) (H : Heap) (locs : List Loc) (ls : Array Slot), wp_X7_spare_33 ev Qr a0 u0 h → wX D dA ev (AX dA h0 sz) s h H locs → lv_has ls 1 [(0, .ref a0)] → W p l e rm_X7_spare s m args below meth c H locs 0 0 (MQ below (va_Qq Qr (BX D dA (AX dA h0 sz)) (AX dA h0 sz)) args s 0 0 (AX dA h0 sz)) (F0 m 33 ls [va_rf u0]) := by
  intro a0 u0 h H locs ls hw hM hl
  have hx := C.1
  have hb := C.2.1
  have hown := C.2.2.2.2.2.1
  have hts := C.2.2.2.2.2.2.1
  unfold wp_X7_spare_33 at hw
  exact rX_qret (v := u0) (by first | exact Or.inl ⟨_, rfl⟩ | exact Or.inr ⟨_, rfl⟩) C hM ⟨Nat.le_refl _, Nat.le_refl _⟩ hw dX7_spare_33
set_option maxHeartbeats 4000000 in
/-- LeastSolutions$Shelf.spare()LLeastSolutions$Ranked; -/
theorem mt_X7_spare (l : Launch) (D : va_G) (dA : Nat → ClassId) (ev : Nat → Nat) (sz : Nat) (h : Hp) (a0 : Nat) (Qr : Option Nat → Hp → Prop) (hw : wp_X7_spare ev h a0 Qr) : Met l yX7_spare (ws_ yX7_spare cX7_spare 1 (some (.object "LeastSolutions$Ranked"))) rm_X7_spare (PcX D dA ev h sz [.ref a0]) (va_Qq Qr (BX D dA (AX dA h sz)) (AX dA h sz)) 0 0 (AX dA h sz) := by
  refine Met.ofW (cc := cX7_spare) (maxL := 1) (ret := (some (.object "LeastSolutions$Ranked"))) (by decide) rfl ?_
  intro p e s m args below meth c s₁ B hml hv
  obtain ⟨rfl, hsz, hP, hK, hD0, hE⟩ := hv
  subst hsz
  have hts0 := atoms_spec (ws := ws_ yX7_spare cX7_spare 1 (some (.object "LeastSolutions$Ranked"))) B.pre
  have C : CxM p s m meth c _ (AX dA h s.heap.size) "LeastSolutions$Shelf" cX7_spare 1 (some (.object "LeastSolutions$Ranked")) := ⟨B.exec, B.bytes, B.returns, B.notSynchronized, hml, findClass_of_methodNamed B.named, fun w h => hts0 w (List.mem_cons_of_mem _ h), fun q h => Or.inr h⟩
  have hM : wX D dA ev (AX dA h s.heap.size) s h s.heap [] := ⟨hK, hP, hD0.self, va_S.rf, hE⟩
  have hx := C.1
  have hb := C.2.1
  have hown := C.2.2.2.2.2.1
  have hts := C.2.2.2.2.2.2.1
  have hl := lv_entry ([.ref a0]) (n := 1) (Nat.le_of_ble_eq_true rfl)
  rw [lg_entry_eq]
  generalize (lg_sl ([.ref a0]) ++ List.replicate (1 - (lg_sl ([.ref a0])).length) Slot.unset).toArray = ls at hl ⊢
  have hl : lv_has ls 1 [(0, .ref a0)] := hl
  unfold wp_X7_spare at hw
  refine lv_aload_n hx hb dX7_spare_0 rfl (lv_at hl 0 rfl) ?_
  have o1 := hw.1
  replace hw := hw.2
  obtain ⟨b2, ebb2, hw⟩ := hw
  refine rX_getRs C hM 6 1 rfl in_X7 (by decide) (by decide) rfl q374 o1 ebb2 dX7_spare_1 ?_
  have o5 := hw.1
  replace hw := hw.2
  refine rX_goi C hM (runX_V C hM hl.1 11 0 (As := []) rfl (by decide) o5 (mt_J6_isEmpty l D dA ev _ h b2  _ hw) (lw_V q980 q981 q982 q90 q983) rfl rfl (by decide +kernel) ⟨Nat.le_of_ble_eq_true rfl, Nat.le_of_ble_eq_true rfl⟩ rfl (Nat.le_of_ble_eq_true rfl) rfl dX7_spare_4 ⟨Nat.le_refl _, Nat.le_refl _⟩) (fun x4 h3 H locs hw hM => ?_)
  refine lv_if_eq (tgt := 14) hx hb dX7_spare_7 (by decide) (fun hc => ?_) (fun hc => ?_)
  · replace hw := hw.1 hc
    refine lv_aload_n hx hb dX7_spare_14 rfl (lv_at hl 0 rfl) ?_
    have o6 := hw.1
    replace hw := hw.2
    obtain ⟨b7, ebb7, hw⟩ := hw
    refine rX_getRs C hM 6 1 rfl in_X7 (by decide) (by decide) rfl q374 o6 ebb7 dX7_spare_15 ?_
    refine lv_aload_n hx hb dX7_spare_18 rfl (lv_at hl 0 rfl) ?_
    have o8 := hw.1
    replace hw := hw.2
    obtain ⟨b9, ebb9, hw⟩ := hw
    refine rX_getRs C hM 6 1 rfl in_X7 (by decide) (by decide) rfl q374 o8 ebb9 dX7_spare_19 ?_
    have o12 := hw.1
    replace hw := hw.2
    refine rX_goi C hM (runX_V C hM hl.1 11 0 (As := []) rfl (by decide) o12 (mt_J6_size l D dA ev _ h3 b9  _ hw) (lw_V q675 q676 q677 q90 q678) rfl rfl (by decide +kernel) ⟨Nat.le_of_ble_eq_true rfl, Nat.le_of_ble_eq_true rfl⟩ rfl (Nat.le_of_ble_eq_true rfl) rfl dX7_spare_22 ⟨Nat.le_refl _, Nat.le_refl _⟩) (fun x11 h10 H locs hw hM => ?_)
    refine lv_iconst (v := 1) hx hb dX7_spare_25 (by decide) ?_
    refine lv_isub hx hb dX7_spare_26 ?_
    have o15 := hw.1
    replace hw := hw.2
    refine rX_goq C hM (runX_V C hM hl.1 11 1 (As := [.int (x11 - 1)]) rfl (by decide) o15 (mt_J6_remove l D dA ev _ h10 b7 (x11 - 1)  _ hw) (lw_V q984 q985 q986 q90 q987) rfl rfl (by decide +kernel) ⟨Nat.le_of_ble_eq_true rfl, Nat.le_of_ble_eq_true rfl⟩ rfl (Nat.le_of_ble_eq_true rfl) rfl dX7_spare_27 ⟨Nat.le_refl _, Nat.le_refl _⟩) (fun r14 h13 H locs hw hM => ?_)
    have o16 := hw.1
    replace hw := hw.2
    refine rX_castY (r := r14) C hM 10 rfl (by decide) q693 q1018 o16 dX7_spare_30 ?_
    exact wk_X7_spare_33 C  a0 r14 h13 _ _ ls hw hM (lv_sub hl [0] rfl)
  · replace hw := hw.2 hc
    refine lv_null hx hb dX7_spare_10 ?_
    refine lv_goto (tgt := 33) hx hb dX7_spare_11 (by decide) ?_
    exact wk_X7_spare_33 C  a0 none h3 _ _ ls hw hM (lv_sub hl [0] rfl)
abbrev rm_X9_init (MC MS : Nat) : Room := { frames := 5, cells := MC, slots := MS, locals := 140 }
set_option maxHeartbeats 4000000 in
/-- LeastSolutions$Found.<init>()V -/
theorem mt_X9_init (l : Launch) (D : va_G) (dA : Nat → ClassId) (ev : Nat → Nat) (sz : Nat) (h : Hp) (a0 : Nat) (MC MS : Nat) (Qr : Hp → Prop) (hw : wp_X9_init ev h a0 MC MS Qr) : Met l yX9_init (ws_ yX9_init cX9_init 1 none) (rm_X9_init MC MS) (PcX D dA ev h sz [.ref a0]) (va_Qv Qr (BX D dA (AX dA h sz)) (AX dA h sz)) MC MS (AX dA h sz) := by
  refine Met.ofW (cc := cX9_init) (maxL := 1) (ret := none) (by decide) rfl ?_
  intro p e s m args below meth c s₁ B hml hv
  obtain ⟨rfl, hsz, hP, hK, hD0, hE⟩ := hv
  subst hsz
  have hts0 := atoms_spec (ws := ws_ yX9_init cX9_init 1 none) B.pre
  have C : CxM p s m meth c _ (AX dA h s.heap.size) "LeastSolutions$Found" cX9_init 1 none := ⟨B.exec, B.bytes, B.returns, B.notSynchronized, hml, findClass_of_methodNamed B.named, fun w h => hts0 w (List.mem_cons_of_mem _ h), fun q h => Or.inr h⟩
  have hin0 : meth.name = "<init>" := (name_of_methodNamed B.named B.method).1
  have hM : wX D dA ev (AX dA h s.heap.size) s h s.heap [] := ⟨hK, hP, hD0.self, va_S.rf, hE⟩
  have hx := C.1
  have hb := C.2.1
  have hown := C.2.2.2.2.2.1
  have hts := C.2.2.2.2.2.2.1
  have hl := lv_entry ([.ref a0]) (n := 1) (Nat.le_of_ble_eq_true rfl)
  rw [lg_entry_eq]
  generalize (lg_sl ([.ref a0]) ++ List.replicate (1 - (lg_sl ([.ref a0])).length) Slot.unset).toArray = ls at hl ⊢
  have hl : lv_has ls 1 [(0, .ref a0)] := hl
  have hbud : 0 + MC ≤ MC ∧ 0 + MS ≤ MS := ⟨by omega, by omega⟩
  unfold wp_X9_init at hw
  refine lv_aload_n hx hb dX9_init_0 rfl (lv_at hl 0 rfl) ?_
  refine W.objInit hx hb hown (hts _ q449) (hts _ q118) (hts _ q119) rfl (by rw [C.2.2.2.2.1]; exact hl.1) rfl dX9_init_1 (Nat.le_of_ble_eq_true rfl) (Nat.le_of_ble_eq_true rfl) ?_
  refine W.eq (g2 := F0 m 4 ls []) rfl ?_
  refine lv_aload_n hx hb dX9_init_4 rfl (lv_at hl 0 rfl) ?_
  obtain ⟨mc1, ms2, emc1, ems2, hw⟩ := hw
  refine rX_new C hM 6 rfl in_X7 (by decide) tyX7 tyX7_ok q450 q342 q87 (fun j hj => by match j, hj with | 0, _ => rfl | 1, _ => rfl) (by show 0 + 1 ≤ MC; omega) (by show 0 + 2 ≤ MS; omega) dX9_init_5 (fun q3 h4 H hqq3 eσ hM => ?_)
  replace hw := hw q3 hqq3 h4 eσ
  clear eσ
  have hbud : 0 + 1 + mc1 ≤ MC ∧ 0 + 2 + ms2 ≤ MS := ⟨by omega, by omega⟩
  refine lv_dup hx hb dX9_init_8 rfl ?_
  obtain ⟨c5, d6, mc7, ms8, emc7, ems8, hw⟩ := hw
  refine rX_gov C hM (runX_IN C hM hl.1 0 (As := []) (mt_X7_init l D dA ev _ h4 q3  c5 d6 _ hw) q345 q87 q451 q344 rfl rfl rfl (by decide +kernel) ⟨Nat.le_of_ble_eq_true rfl, Nat.le_of_ble_eq_true rfl⟩ rfl (Nat.le_of_ble_eq_true rfl) rfl dX9_init_9 ⟨by show 0 + 1 + c5 ≤ MC; omega, by show 0 + 2 + d6 ≤ MS; omega⟩) (fun h9 H locs hw hM => ?_)
  have hbud : 0 + 1 + c5 + mc7 ≤ MC ∧ 0 + 2 + d6 + ms8 ≤ MS := ⟨by omega, by omega⟩
  have o11 := hw.1
  replace hw := hw.2
  refine rX_putF C hin0 hM 8 0 rfl in_X9 (by decide) (by decide) rfl rfl q452 rfl o11 (x := (some q3)) tyX9 tyX9_ok nmX9 rfl rfl rfl dX9_init_12 (fun h10 H locs eσ hM => ?_)
  replace hw := hw h10 eσ
  clear eσ
  refine lv_aload_n hx hb dX9_init_15 rfl (lv_at hl 0 rfl) ?_
  refine lv_iconst (v := (-1)) hx hb dX9_init_16 (by decide) ?_
  have o13 := hw.1
  replace hw := hw.2
  refine rX_putI C hM 8 1 rfl in_X9 (by decide) (by decide) rfl rfl q454 o13 tyX9 tyX9_ok nmX9 rfl rfl rfl dX9_init_17 (fun h12 H locs eσ hM => ?_)
  replace hw := hw h12 eσ
  clear eσ
  exact rX_vret C hM ⟨by show 0 + 1 + c5 ≤ MC; omega, by show 0 + 2 + d6 ≤ MS; omega⟩ hw dX9_init_20
abbrev rm_X9_isThere : Room := { frames := 0, cells := 0, slots := 0, locals := 0 }
set_option maxHeartbeats 4000000 in
theorem wk_X9_isThere_12 {p : Program} {l : Launch} {e : Env} {s : State} {m : MethodId} {args : Array Value} {below : List Frame} {meth : Method} {c : Code} {D : va_G} {dA : Nat → ClassId} {ev : Nat → Nat} {h0 : Hp} {sz : Nat} (C : CxM p s m meth c args (AX dA h0 sz) "LeastSolutions$Found" cX9_isThere 1 (some .boolean)) {Qr : Int32 → Hp → Prop} : ∀ (a0 : Nat) (u0 : Int32) (h : Hp) (H : Heap) (locs : List Loc) (ls : Array Slot), wp_X9_isThere_12 ev Qr a0 u0 h → wX D dA ev (AX dA h0 sz) s h H locs → lv_has ls 1 [(0, .ref a0)] → W p l e rm_X9_isThere s m args below meth c H locs 0 0 (MQ below (va_Qi Qr (BX D dA (AX dA h0 sz)) (AX dA h0 sz)) args s 0 0 (AX dA h0 sz)) (F0 m 12 ls [.int u0]) := by
  intro a0 u0 h H locs ls hw hM hl
  have hx := C.1
  have hb := C.2.1
  have hown := C.2.2.2.2.2.1
  have hts := C.2.2.2.2.2.2.1
  unfold wp_X9_isThere_12 at hw
  exact rX_zret C hM ⟨Nat.le_refl _, Nat.le_refl _⟩ hw dX9_isThere_12
set_option maxHeartbeats 4000000 in
/-- LeastSolutions$Found.isThere()Z -/
theorem mt_X9_isThere (l : Launch) (D : va_G) (dA : Nat → ClassId) (ev : Nat → Nat) (sz : Nat) (h : Hp) (a0 : Nat) (Qr : Int32 → Hp → Prop) (hw : wp_X9_isThere ev h a0 Qr) : Met l yX9_isThere (ws_ yX9_isThere cX9_isThere 1 (some .boolean)) rm_X9_isThere (PcX D dA ev h sz [.ref a0]) (va_Qi Qr (BX D dA (AX dA h sz)) (AX dA h sz)) 0 0 (AX dA h sz) := by
  refine Met.ofW (cc := cX9_isThere) (maxL := 1) (ret := (some .boolean)) (by decide) rfl ?_
  intro p e s m args below meth c s₁ B hml hv
  obtain ⟨rfl, hsz, hP, hK, hD0, hE⟩ := hv
  subst hsz
  have hts0 := atoms_spec (ws := ws_ yX9_isThere cX9_isThere 1 (some .boolean)) B.pre
  have C : CxM p s m meth c _ (AX dA h s.heap.size) "LeastSolutions$Found" cX9_isThere 1 (some .boolean) := ⟨B.exec, B.bytes, B.returns, B.notSynchronized, hml, findClass_of_methodNamed B.named, fun w h => hts0 w (List.mem_cons_of_mem _ h), fun q h => Or.inr h⟩
  have hM : wX D dA ev (AX dA h s.heap.size) s h s.heap [] := ⟨hK, hP, hD0.self, va_S.rf, hE⟩
  have hx := C.1
  have hb := C.2.1
  have hown := C.2.2.2.2.2.1
  have hts := C.2.2.2.2.2.2.1
  have hl := lv_entry ([.ref a0]) (n := 1) (Nat.le_of_ble_eq_true rfl)
  rw [lg_entry_eq]
  generalize (lg_sl ([.ref a0]) ++ List.replicate (1 - (lg_sl ([.ref a0])).length) Slot.unset).toArray = ls at hl ⊢
  have hl : lv_has ls 1 [(0, .ref a0)] := hl
  unfold wp_X9_isThere at hw
  refine lv_aload_n hx hb dX9_isThere_0 rfl (lv_at hl 0 rfl) ?_
  have o1 := hw.1
  replace hw := hw.2
  refine rX_getI C hM 8 1 rfl in_X9 (by decide) (by decide) rfl q454 o1 dX9_isThere_1 ?_
  refine lv_if_lt (tgt := 11) hx hb dX9_isThere_4 (by decide) (fun hc => ?_) (fun hc => ?_)
  · replace hw := hw.1 hc
    refine lv_iconst (v := 0) hx hb dX9_isThere_11 (by decide) ?_
    exact wk_X9_isThere_12 C  a0 0 h _ _ ls hw hM (lv_sub hl [0] rfl)
  · replace hw := hw.2 hc
    refine lv_iconst (v := 1) hx hb dX9_isThere_7 (by decide) ?_
    refine lv_goto (tgt := 12) hx hb dX9_isThere_8 (by decide) ?_
    exact wk_X9_isThere_12 C  a0 1 h _ _ ls hw hM (lv_sub hl [0] rfl)
abbrev rm_X9_clear (MC MS : Nat) : Room := { frames := 8, cells := MC, slots := MS, locals := 212 }
set_option maxHeartbeats 4000000 in
/-- LeastSolutions$Found.clear()V -/
theorem mt_X9_clear (l : Launch) (D : va_G) (dA : Nat → ClassId) (ev : Nat → Nat) (sz : Nat) (h : Hp) (a0 : Nat) (MC MS : Nat) (Qr : Hp → Prop) (hw : wp_X9_clear ev h a0 MC MS Qr) : Met l yX9_clear (ws_ yX9_clear cX9_clear 1 none) (rm_X9_clear MC MS) (PcX D dA ev h sz [.ref a0]) (va_Qv Qr (BX D dA (AX dA h sz)) (AX dA h sz)) MC MS (AX dA h sz) := by
  refine Met.ofW (cc := cX9_clear) (maxL := 1) (ret := none) (by decide) rfl ?_
  intro p e s m args below meth c s₁ B hml hv
  obtain ⟨rfl, hsz, hP, hK, hD0, hE⟩ := hv
  subst hsz
  have hts0 := atoms_spec (ws := ws_ yX9_clear cX9_clear 1 none) B.pre
  have C : CxM p s m meth c _ (AX dA h s.heap.size) "LeastSolutions$Found" cX9_clear 1 none := ⟨B.exec, B.bytes, B.returns, B.notSynchronized, hml, findClass_of_methodNamed B.named, fun w h => hts0 w (List.mem_cons_of_mem _ h), fun q h => Or.inr h⟩
  have hM : wX D dA ev (AX dA h s.heap.size) s h s.heap [] := ⟨hK, hP, hD0.self, va_S.rf, hE⟩
  have hx := C.1
  have hb := C.2.1
  have hown := C.2.2.2.2.2.1
  have hts := C.2.2.2.2.2.2.1
  have hl := lv_entry ([.ref a0]) (n := 1) (Nat.le_of_ble_eq_true rfl)
  rw [lg_entry_eq]
  generalize (lg_sl ([.ref a0]) ++ List.replicate (1 - (lg_sl ([.ref a0])).length) Slot.unset).toArray = ls at hl ⊢
  have hl : lv_has ls 1 [(0, .ref a0)] := hl
  have hbud : 0 + MC ≤ MC ∧ 0 + MS ≤ MS := ⟨by omega, by omega⟩
  unfold wp_X9_clear at hw
  refine lv_aload_n hx hb dX9_clear_0 rfl (lv_at hl 0 rfl) ?_
  have o1 := hw.1
  replace hw := hw.2
  obtain ⟨b2, ebb2, hw⟩ := hw
  refine rX_getRs C hM 8 0 rfl in_X9 (by decide) (by decide) rfl q452 o1 ebb2 dX9_clear_1 ?_
  obtain ⟨c3, d4, mc5, ms6, emc5, ems6, hw⟩ := hw
  have o8 := hw.1
  replace hw := hw.2
  refine rX_gov C hM (runX_V C hM hl.1 6 0 (As := []) rfl (by decide) o8 (mt_X7_clear l D dA ev _ h b2  c3 d4 _ hw) (lw_V q671 q672 q673 q87 q674) rfl rfl (by decide +kernel) ⟨Nat.le_of_ble_eq_true rfl, Nat.le_of_ble_eq_true rfl⟩ rfl (Nat.le_of_ble_eq_true rfl) rfl dX9_clear_4 ⟨by show 0 + c3 ≤ MC; omega, by show 0 + d4 ≤ MS; omega⟩) (fun h7 H locs hw hM => ?_)
  have hbud : 0 + c3 + mc5 ≤ MC ∧ 0 + d4 + ms6 ≤ MS := ⟨by omega, by omega⟩
  refine lv_aload_n hx hb dX9_clear_7 rfl (lv_at hl 0 rfl) ?_
  refine lv_iconst (v := (-1)) hx hb dX9_clear_8 (by decide) ?_
  have o10 := hw.1
  replace hw := hw.2
  refine rX_putI C hM 8 1 rfl in_X9 (by decide) (by decide) rfl rfl q454 o10 tyX9 tyX9_ok nmX9 rfl rfl rfl dX9_clear_9 (fun h9 H locs eσ hM => ?_)
  replace hw := hw h9 eσ
  clear eσ
  exact rX_vret C hM ⟨by show 0 + c3 ≤ MC; omega, by show 0 + d4 ≤ MS; omega⟩ hw dX9_clear_12
abbrev rm_X2_init (MC MS : Nat) : Room := { frames := 1, cells := MC, slots := MS, locals := 60 }
set_option maxHeartbeats 4000000 in
/-- LeastSolutions$Scanner.<init>()V -/
theorem mt_X2_init (l : Launch) (D : va_G) (dA : Nat → ClassId) (ev : Nat → Nat) (sz : Nat) (h : Hp) (a0 : Nat) (MC MS : Nat) (Qr : Hp → Prop) (hw : wp_X2_init ev h a0 MC MS Qr) : Met l yX2_init (ws_ yX2_init cX2_init 1 none) (rm_X2_init MC MS) (PcX D dA ev h sz [.ref a0]) (va_Qv Qr (BX D dA (AX dA h sz)) (AX dA h sz)) MC MS (AX dA h sz) := by
  refine Met.ofW (cc := cX2_init) (maxL := 1) (ret := none) (by decide) rfl ?_
  intro p e s m args below meth c s₁ B hml hv
  obtain ⟨rfl, hsz, hP, hK, hD0, hE⟩ := hv
  subst hsz
  have hts0 := atoms_spec (ws := ws_ yX2_init cX2_init 1 none) B.pre
  have C : CxM p s m meth c _ (AX dA h s.heap.size) "LeastSolutions$Scanner" cX2_init 1 none := ⟨B.exec, B.bytes, B.returns, B.notSynchronized, hml, findClass_of_methodNamed B.named, fun w h => hts0 w (List.mem_cons_of_mem _ h), fun q h => Or.inr h⟩
  have hin0 : meth.name = "<init>" := (name_of_methodNamed B.named B.method).1
  have hM : wX D dA ev (AX dA h s.heap.size) s h s.heap [] := ⟨hK, hP, hD0.self, va_S.rf, hE⟩
  have hx := C.1
  have hb := C.2.1
  have hown := C.2.2.2.2.2.1
  have hts := C.2.2.2.2.2.2.1
  have hl := lv_entry ([.ref a0]) (n := 1) (Nat.le_of_ble_eq_true rfl)
  rw [lg_entry_eq]
  generalize (lg_sl ([.ref a0]) ++ List.replicate (1 - (lg_sl ([.ref a0])).length) Slot.unset).toArray = ls at hl ⊢
  have hl : lv_has ls 1 [(0, .ref a0)] := hl
  have hbud : 0 + MC ≤ MC ∧ 0 + MS ≤ MS := ⟨by omega, by omega⟩
  unfold wp_X2_init at hw
  refine lv_aload_n hx hb dX2_init_0 rfl (lv_at hl 0 rfl) ?_
  refine W.objInit hx hb hown (hts _ q125) (hts _ q118) (hts _ q119) rfl (by rw [C.2.2.2.2.1]; exact hl.1) rfl dX2_init_1 (Nat.le_of_ble_eq_true rfl) (Nat.le_of_ble_eq_true rfl) ?_
  refine W.eq (g2 := F0 m 4 ls []) rfl ?_
  refine lv_aload_n hx hb dX2_init_4 rfl (lv_at hl 0 rfl) ?_
  refine lv_sipush (v := 300) hx hb dX2_init_5 (by decide) ?_
  obtain ⟨mc2, ms3, emc2, ems3, hw⟩ := hw
  refine rX_newb C hM (N := 300) q152 (by decide) (by decide) (by decide) (by show 0 + 1 ≤ MC; omega) (by show 0 + 300 ≤ MS; omega) dX2_init_8 (fun q4 h5 H hqq4 eσ hM => ?_)
  replace hw := hw q4 hqq4 h5 eσ
  clear eσ
  have hbud : 0 + 1 + mc2 ≤ MC ∧ 0 + 300 + ms3 ≤ MS := ⟨by omega, by omega⟩
  have o7 := hw.1
  replace hw := hw.2
  refine rX_putF C hin0 hM 1 0 rfl in_X2 (by decide) (by decide) rfl rfl q128 rfl o7 (x := (some q4)) tyX2 tyX2_ok nmX2 rfl rfl rfl dX2_init_10 (fun h6 H locs eσ hM => ?_)
  replace hw := hw h6 eσ
  clear eσ
  refine lv_aload_n hx hb dX2_init_13 rfl (lv_at hl 0 rfl) ?_
  refine rX_word C hM 9 (by decide) q126 dX2_init_14 ?_
  have o9 := hw.1
  replace hw := hw.2
  refine rX_putR C hM 1 3 rfl in_X2 (by decide) (by decide) rfl rfl q133 o9 (x := (some (ev 9))) tyX2 tyX2_ok nmX2 rfl rfl rfl dX2_init_17 (fun h8 H locs eσ hM => ?_)
  replace hw := hw h8 eσ
  clear eσ
  exact rX_vret C hM ⟨by show 0 + 1 ≤ MC; omega, by show 0 + 300 ≤ MS; omega⟩ hw dX2_init_20
abbrev rm_X2_at : Room := { frames := 0, cells := 0, slots := 0, locals := 0 }
set_option maxHeartbeats 4000000 in
theorem wk_X2_at_18 {p : Program} {l : Launch} {e : Env} {s : State} {m : MethodId} {args : Array Value} {below : List Frame} {meth : Method} {c : Code} {D : va_G} {dA : Nat → ClassId} {ev : Nat → Nat} {h0 : Hp} {sz : Nat} (C : CxM p s m meth c args (AX dA h0 sz) "LeastSolutions$Scanner" cX2_at 2 (some .int)) {Qr : Int32 → Hp → Prop} : ∀ (a0 : Nat) (u0 : Int32) (h : Hp) (H : Heap) (locs : List Loc) (ls : Array Slot), wp_X2_at_18 ev Qr a0 u0 h → wX D dA ev (AX dA h0 sz) s h H locs → lv_has ls 2 [(0, .ref a0)] → W p l e rm_X2_at s m args below meth c H locs 0 0 (MQ below (va_Qi Qr (BX D dA (AX dA h0 sz)) (AX dA h0 sz)) args s 0 0 (AX dA h0 sz)) (F0 m 18 ls [.int u0]) := by
  intro a0 u0 h H locs ls hw hM hl
  have hx := C.1
  have hb := C.2.1
  have hown := C.2.2.2.2.2.1
  have hts := C.2.2.2.2.2.2.1
  unfold wp_X2_at_18 at hw
  exact rX_iret C hM ⟨Nat.le_refl _, Nat.le_refl _⟩ hw dX2_at_18
set_option maxHeartbeats 4000000 in
/-- LeastSolutions$Scanner.at(I)I -/
theorem mt_X2_at (l : Launch) (D : va_G) (dA : Nat → ClassId) (ev : Nat → Nat) (sz : Nat) (h : Hp) (a0 : Nat) (p1 : Int32) (Qr : Int32 → Hp → Prop) (hw : wp_X2_at ev h a0 p1 Qr) : Met l yX2_at (ws_ yX2_at cX2_at 2 (some .int)) rm_X2_at (PcX D dA ev h sz [.ref a0, .int p1]) (va_Qi Qr (BX D dA (AX dA h sz)) (AX dA h sz)) 0 0 (AX dA h sz) := by
  refine Met.ofW (cc := cX2_at) (maxL := 2) (ret := (some .int)) (by decide) rfl ?_
  intro p e s m args below meth c s₁ B hml hv
  obtain ⟨rfl, hsz, hP, hK, hD0, hE⟩ := hv
  subst hsz
  have hts0 := atoms_spec (ws := ws_ yX2_at cX2_at 2 (some .int)) B.pre
  have C : CxM p s m meth c _ (AX dA h s.heap.size) "LeastSolutions$Scanner" cX2_at 2 (some .int) := ⟨B.exec, B.bytes, B.returns, B.notSynchronized, hml, findClass_of_methodNamed B.named, fun w h => hts0 w (List.mem_cons_of_mem _ h), fun q h => Or.inr h⟩
  have hM : wX D dA ev (AX dA h s.heap.size) s h s.heap [] := ⟨hK, hP, hD0.self, va_S.rf, hE⟩
  have hx := C.1
  have hb := C.2.1
  have hown := C.2.2.2.2.2.1
  have hts := C.2.2.2.2.2.2.1
  have hl := lv_entry ([.ref a0, .int p1]) (n := 2) (Nat.le_of_ble_eq_true rfl)
  rw [lg_entry_eq]
  generalize (lg_sl ([.ref a0, .int p1]) ++ List.replicate (2 - (lg_sl ([.ref a0, .int p1])).length) Slot.unset).toArray = ls at hl ⊢
  have hl : lv_has ls 2 [(0, .ref a0), (1, .int p1)] := hl
  unfold wp_X2_at at hw
  refine lv_iload_n hx hb dX2_at_0 rfl (lv_at hl 1 rfl) ?_
  refine lv_aload_n hx hb dX2_at_1 rfl (lv_at hl 0 rfl) ?_
  have o1 := hw.1
  replace hw := hw.2
  refine rX_getI C hM 1 1 rfl in_X2 (by decide) (by decide) rfl q130 o1 dX2_at_2 ?_
  refine lv_icmp_ge (tgt := 17) hx hb dX2_at_5 (by decide) (fun hc => ?_) (fun hc => ?_)
  · replace hw := hw.1 hc
    refine lv_iconst (v := (-1)) hx hb dX2_at_17 (by decide) ?_
    exact wk_X2_at_18 C  a0 (-1) h _ _ ls hw hM (lv_sub hl [0] rfl)
  · replace hw := hw.2 hc
    refine lv_aload_n hx hb dX2_at_8 rfl (lv_at hl 0 rfl) ?_
    have o2 := hw.1
    replace hw := hw.2
    obtain ⟨b3, ebb3, hw⟩ := hw
    refine rX_getRs C hM 1 0 rfl in_X2 (by decide) (by decide) rfl q128 o2 ebb3 dX2_at_9 ?_
    refine lv_iload_n hx hb dX2_at_12 rfl (lv_at hl 1 rfl) ?_
    have o4 := hw.1
    replace hw := hw.2
    have o5 := hw.1
    replace hw := hw.2
    refine rX_bald C hM o4 o5 dX2_at_13 ?_
    refine lv_goto (tgt := 18) hx hb dX2_at_14 (by decide) ?_
    exact wk_X2_at_18 C  a0 ((hA h b3 p1)) h _ _ ls hw hM (lv_sub hl [0] rfl)
abbrev rm_X2_isDigit : Room := { frames := 1, cells := 0, slots := 0, locals := 21 }
set_option maxHeartbeats 4000000 in
theorem wk_X2_isDigit_25 {p : Program} {l : Launch} {e : Env} {s : State} {m : MethodId} {args : Array Value} {below : List Frame} {meth : Method} {c : Code} {D : va_G} {dA : Nat → ClassId} {ev : Nat → Nat} {h0 : Hp} {sz : Nat} (C : CxM p s m meth c args (AX dA h0 sz) "LeastSolutions$Scanner" cX2_isDigit 2 (some .boolean)) {Qr : Int32 → Hp → Prop} : ∀ (a0 : Nat) (u0 : Int32) (h : Hp) (H : Heap) (locs : List Loc) (ls : Array Slot), wp_X2_isDigit_25 ev Qr a0 u0 h → wX D dA ev (AX dA h0 sz) s h H locs → lv_has ls 2 [(0, .ref a0)] → W p l e rm_X2_isDigit s m args below meth c H locs 0 0 (MQ below (va_Qi Qr (BX D dA (AX dA h0 sz)) (AX dA h0 sz)) args s 0 0 (AX dA h0 sz)) (F0 m 25 ls [.int u0]) := by
  intro a0 u0 h H locs ls hw hM hl
  have hx := C.1
  have hb := C.2.1
  have hown := C.2.2.2.2.2.1
  have hts := C.2.2.2.2.2.2.1
  unfold wp_X2_isDigit_25 at hw
  exact rX_zret C hM ⟨Nat.le_refl _, Nat.le_refl _⟩ hw dX2_isDigit_25
set_option maxHeartbeats 4000000 in
theorem wk_X2_isDigit_24 {p : Program} {l : Launch} {e : Env} {s : State} {m : MethodId} {args : Array Value} {below : List Frame} {meth : Method} {c : Code} {D : va_G} {dA : Nat → ClassId} {ev : Nat → Nat} {h0 : Hp} {sz : Nat} (C : CxM p s m meth c args (AX dA h0 sz) "LeastSolutions$Scanner" cX2_isDigit 2 (some .boolean)) {Qr : Int32 → Hp → Prop} : ∀ (a0 : Nat) (h : Hp) (H : Heap) (locs : List Loc) (ls : Array Slot), wp_X2_isDigit_24 ev Qr a0 h → wX D dA ev (AX dA h0 sz) s h H locs → lv_has ls 2 [(0, .ref a0)] → W p l e rm_X2_isDigit s m args below meth c H locs 0 0 (MQ below (va_Qi Qr (BX D dA (AX dA h0 sz)) (AX dA h0 sz)) args s 0 0 (AX dA h0 sz)) (F0 m 24 ls []) := by
  intro a0 h H locs ls hw hM hl
  have hx := C.1
  have hb := C.2.1
  have hown := C.2.2.2.2.2.1
  have hts := C.2.2.2.2.2.2.1
  unfold wp_X2_isDigit_24 at hw
  refine lv_iconst (v := 0) hx hb dX2_isDigit_24 (by decide) ?_
  exact wk_X2_isDigit_25 C  a0 0 h _ _ ls hw hM (lv_sub hl [0] rfl)
set_option maxHeartbeats 4000000 in
/-- LeastSolutions$Scanner.isDigit(I)Z -/
theorem mt_X2_isDigit (l : Launch) (D : va_G) (dA : Nat → ClassId) (ev : Nat → Nat) (sz : Nat) (h : Hp) (a0 : Nat) (p1 : Int32) (Qr : Int32 → Hp → Prop) (hw : wp_X2_isDigit ev h a0 p1 Qr) : Met l yX2_isDigit (ws_ yX2_isDigit cX2_isDigit 2 (some .boolean)) rm_X2_isDigit (PcX D dA ev h sz [.ref a0, .int p1]) (va_Qi Qr (BX D dA (AX dA h sz)) (AX dA h sz)) 0 0 (AX dA h sz) := by
  refine Met.ofW (cc := cX2_isDigit) (maxL := 2) (ret := (some .boolean)) (by decide) rfl ?_
  intro p e s m args below meth c s₁ B hml hv
  obtain ⟨rfl, hsz, hP, hK, hD0, hE⟩ := hv
  subst hsz
  have hts0 := atoms_spec (ws := ws_ yX2_isDigit cX2_isDigit 2 (some .boolean)) B.pre
  have C : CxM p s m meth c _ (AX dA h s.heap.size) "LeastSolutions$Scanner" cX2_isDigit 2 (some .boolean) := ⟨B.exec, B.bytes, B.returns, B.notSynchronized, hml, findClass_of_methodNamed B.named, fun w h => hts0 w (List.mem_cons_of_mem _ h), fun q h => Or.inr h⟩
  have hM : wX D dA ev (AX dA h s.heap.size) s h s.heap [] := ⟨hK, hP, hD0.self, va_S.rf, hE⟩
  have hx := C.1
  have hb := C.2.1
  have hown := C.2.2.2.2.2.1
  have hts := C.2.2.2.2.2.2.1
  have hl := lv_entry ([.ref a0, .int p1]) (n := 2) (Nat.le_of_ble_eq_true rfl)
  rw [lg_entry_eq]
  generalize (lg_sl ([.ref a0, .int p1]) ++ List.replicate (2 - (lg_sl ([.ref a0, .int p1])).length) Slot.unset).toArray = ls at hl ⊢
  have hl : lv_has ls 2 [(0, .ref a0), (1, .int p1)] := hl
  unfold wp_X2_isDigit at hw
  refine lv_aload_n hx hb dX2_isDigit_0 rfl (lv_at hl 0 rfl) ?_
  refine lv_iload_n hx hb dX2_isDigit_1 rfl (lv_at hl 1 rfl) ?_
  have o3 := hw.1
  replace hw := hw.2
  refine rX_goi C hM (runX_V C hM hl.1 1 1 (As := [.int p1]) rfl (by decide) o3 (mt_X2_at l D dA ev _ h a0 p1  _ hw) (lw_V q543 q545 qs2 q76 q546) rfl rfl (by decide +kernel) ⟨Nat.le_of_ble_eq_true rfl, Nat.le_of_ble_eq_true rfl⟩ rfl (Nat.le_of_ble_eq_true rfl) rfl dX2_isDigit_2 ⟨Nat.le_refl _, Nat.le_refl _⟩) (fun x2 h1 H locs hw hM => ?_)
  refine lv_bipush (v := 48) hx hb dX2_isDigit_5 (by decide) ?_
  refine lv_icmp_lt (tgt := 24) hx hb dX2_isDigit_7 (by decide) (fun hc => ?_) (fun hc => ?_)
  · replace hw := hw.1 hc
    exact wk_X2_isDigit_24 C  a0 h1 _ _ ls hw hM (lv_sub hl [0] rfl)
  · replace hw := hw.2 hc
    refine lv_aload_n hx hb dX2_isDigit_10 rfl (lv_at hl 0 rfl) ?_
    refine lv_iload_n hx hb dX2_isDigit_11 rfl (lv_at hl 1 rfl) ?_
    have o6 := hw.1
    replace hw := hw.2
    refine rX_goi C hM (runX_V C hM hl.1 1 1 (As := [.int p1]) rfl (by decide) o6 (mt_X2_at l D dA ev _ h1 a0 p1  _ hw) (lw_V q543 q545 qs2 q76 q546) rfl rfl (by decide +kernel) ⟨Nat.le_of_ble_eq_true rfl, Nat.le_of_ble_eq_true rfl⟩ rfl (Nat.le_of_ble_eq_true rfl) rfl dX2_isDigit_12 ⟨Nat.le_refl _, Nat.le_refl _⟩) (fun x5 h4 H locs hw hM => ?_)
    refine lv_bipush (v := 57) hx hb dX2_isDigit_15 (by decide) ?_
    refine lv_icmp_gt (tgt := 24) hx hb dX2_isDigit_17 (by decide) (fun hc => ?_) (fun hc => ?_)
    · replace hw := hw.1 hc
      exact wk_X2_isDigit_24 C  a0 h4 _ _ ls hw hM (lv_sub hl [0] rfl)
    · replace hw := hw.2 hc
      refine lv_iconst (v := 1) hx hb dX2_isDigit_20 (by decide) ?_
      refine lv_goto (tgt := 25) hx hb dX2_isDigit_21 (by decide) ?_
      exact wk_X2_isDigit_25 C  a0 1 h4 _ _ ls hw hM (lv_sub hl [0] rfl)
abbrev rm_X2_number : Room := { frames := 2, cells := 0, slots := 0, locals := 42 }
set_option maxHeartbeats 4000000 in
theorem wk_X2_number_74 {p : Program} {l : Launch} {e : Env} {s : State} {m : MethodId} {args : Array Value} {below : List Frame} {meth : Method} {c : Code} {D : va_G} {dA : Nat → ClassId} {ev : Nat → Nat} {h0 : Hp} {sz : Nat} (C : CxM p s m meth c args (AX dA h0 sz) "LeastSolutions$Scanner" cX2_number 1 (some (.object "LeastSolutions$Word"))) {Qr : Option Nat → Hp → Prop} : ∀ (a0 : Nat) (u0 : Nat) (h : Hp) (H : Heap) (locs : List Loc) (ls : Array Slot), wp_X2_number_74 ev Qr a0 u0 h → wX D dA ev (AX dA h0 sz) s h H locs → lv_has ls 1 [(0, .ref a0)] → W p l e rm_X2_number s m args below meth c H locs 0 0 (MQ below (va_Qq Qr (BX D dA (AX dA h0 sz)) (AX dA h0 sz)) args s 0 0 (AX dA h0 sz)) (F0 m 74 ls [.ref u0]) := by
  intro a0 u0 h H locs ls hw hM hl
  have hx := C.1
  have hb := C.2.1
  have hown := C.2.2.2.2.2.1
  have hts := C.2.2.2.2.2.2.1
  unfold wp_X2_number_74 at hw
  exact rX_qret (v := (some u0)) (by first | exact Or.inl ⟨_, rfl⟩ | exact Or.inr ⟨_, rfl⟩) C hM ⟨Nat.le_refl _, Nat.le_refl _⟩ hw dX2_number_74
set_option maxHeartbeats 4000000 in
theorem wk_X2_number_5 {p : Program} {l : Launch} {e : Env} {s : State} {m : MethodId} {args : Array Value} {below : List Frame} {meth : Method} {c : Code} {D : va_G} {dA : Nat → ClassId} {ev : Nat → Nat} {h0 : Hp} {sz : Nat} (C : CxM p s m meth c args (AX dA h0 sz) "LeastSolutions$Scanner" cX2_number 1 (some (.object "LeastSolutions$Word"))) {Qr : Option Nat → Hp → Prop} : ∀ (n : Nat) (a0 : Nat) (h : Hp) (H : Heap) (locs : List Loc) (ls : Array Slot), wp_X2_number_5 ev Qr n a0 h → wX D dA ev (AX dA h0 sz) s h H locs → lv_has ls 1 [(0, .ref a0)] → W p l e rm_X2_number s m args below meth c H locs 0 0 (MQ below (va_Qq Qr (BX D dA (AX dA h0 sz)) (AX dA h0 sz)) args s 0 0 (AX dA h0 sz)) (F0 m 5 ls []) := by
  intro n
  induction n with
  | zero => intro a0 h H locs ls hw; exact hw.elim
  | succ n5 ih =>
    intro a0 h H locs ls hw hM hl
    have hx := C.1
    have hb := C.2.1
    have hown := C.2.2.2.2.2.1
    have hts := C.2.2.2.2.2.2.1
    unfold wp_X2_number_5 at hw
    refine lv_aload_n hx hb dX2_number_5 rfl (lv_at hl 0 rfl) ?_
    refine lv_aload_n hx hb dX2_number_6 rfl (lv_at hl 0 rfl) ?_
    have o1 := hw.1
    replace hw := hw.2
    refine rX_getI C hM 1 2 rfl in_X2 (by decide) (by decide) rfl q132 o1 dX2_number_7 ?_
    have o4 := hw.1
    replace hw := hw.2
    refine rX_goi C hM (runX_V C hM hl.1 1 1 (As := [.int (hI h a0 2)]) rfl (by decide) o4 (mt_X2_isDigit l D dA ev _ h a0 (hI h a0 2)  _ hw) (lw_V q551 q553 qs4 q76 q554) rfl rfl (by decide +kernel) ⟨Nat.le_of_ble_eq_true rfl, Nat.le_of_ble_eq_true rfl⟩ rfl (Nat.le_of_ble_eq_true rfl) rfl dX2_number_10 ⟨Nat.le_refl _, Nat.le_refl _⟩) (fun x3 h2 H locs hw hM => ?_)
    refine lv_if_eq (tgt := 52) hx hb dX2_number_13 (by decide) (fun hc => ?_) (fun hc => ?_)
    · replace hw := hw.1 hc
      refine lv_aload_n hx hb dX2_number_52 rfl (lv_at hl 0 rfl) ?_
      have o5 := hw.1
      replace hw := hw.2
      refine rX_getI C hM 1 2 rfl in_X2 (by decide) (by decide) rfl q132 o5 dX2_number_53 ?_
      refine lv_aload_n hx hb dX2_number_56 rfl (lv_at hl 0 rfl) ?_
      have o6 := hw.1
      replace hw := hw.2
      refine rX_getI C hM 1 4 rfl in_X2 (by decide) (by decide) rfl q136 o6 dX2_number_57 ?_
      refine lv_isub hx hb dX2_number_60 ?_
      refine lv_iconst (v := 4) hx hb dX2_number_61 (by decide) ?_
      refine lv_icmp_le (tgt := 71) hx hb dX2_number_62 (by decide) (fun hc => ?_) (fun hc => ?_)
      · replace hw := hw.1 hc
        refine rX_word C hM 0 (by decide) q561 dX2_number_71 ?_
        exact wk_X2_number_74 C  a0 ((ev 0)) h2 _ _ ls hw hM (lv_sub hl [0] rfl)
      · replace hw := hw.2 hc
        refine rX_word C hM 10 (by decide) q559 dX2_number_65 ?_
        refine lv_goto (tgt := 74) hx hb dX2_number_68 (by decide) ?_
        exact wk_X2_number_74 C  a0 ((ev 10)) h2 _ _ ls hw hM (lv_sub hl [0] rfl)
    · replace hw := hw.2 hc
      refine lv_aload_n hx hb dX2_number_16 rfl (lv_at hl 0 rfl) ?_
      refine lv_bipush (v := 10) hx hb dX2_number_17 (by decide) ?_
      refine lv_aload_n hx hb dX2_number_19 rfl (lv_at hl 0 rfl) ?_
      have o7 := hw.1
      replace hw := hw.2
      refine rX_getI C hM 1 5 rfl in_X2 (by decide) (by decide) rfl q137 o7 dX2_number_20 ?_
      refine lv_imul hx hb dX2_number_23 ?_
      refine lv_aload_n hx hb dX2_number_24 rfl (lv_at hl 0 rfl) ?_
      refine lv_aload_n hx hb dX2_number_25 rfl (lv_at hl 0 rfl) ?_
      have o8 := hw.1
      replace hw := hw.2
      refine rX_getI C hM 1 2 rfl in_X2 (by decide) (by decide) rfl q132 o8 dX2_number_26 ?_
      have o11 := hw.1
      replace hw := hw.2
      refine rX_goi C hM (runX_V C hM hl.1 1 1 (As := [.int (hI h2 a0 2)]) rfl (by decide) o11 (mt_X2_at l D dA ev _ h2 a0 (hI h2 a0 2)  _ hw) (lw_V q543 q545 qs2 q76 q546) rfl rfl (by decide +kernel) ⟨Nat.le_of_ble_eq_true rfl, Nat.le_of_ble_eq_true rfl⟩ rfl (Nat.le_of_ble_eq_true rfl) rfl dX2_number_29 ⟨Nat.le_refl _, Nat.le_refl _⟩) (fun x10 h9 H locs hw hM => ?_)
      refine lv_iadd hx hb dX2_number_32 ?_
      refine lv_bipush (v := 48) hx hb dX2_number_33 (by decide) ?_
      refine lv_isub hx hb dX2_number_35 ?_
      have o13 := hw.1
      replace hw := hw.2
      refine rX_putI C hM 1 5 rfl in_X2 (by decide) (by decide) rfl rfl q137 o13 tyX2 tyX2_ok nmX2 rfl rfl rfl dX2_number_36 (fun h12 H locs eσ hM => ?_)
      replace hw := hw h12 eσ
      clear eσ
      refine lv_aload_n hx hb dX2_number_39 rfl (lv_at hl 0 rfl) ?_
      refine lv_dup hx hb dX2_number_40 rfl ?_
      have o14 := hw.1
      replace hw := hw.2
      refine rX_getI C hM 1 2 rfl in_X2 (by decide) (by decide) rfl q132 o14 dX2_number_41 ?_
      refine lv_iconst (v := 1) hx hb dX2_number_44 (by decide) ?_
      refine lv_iadd hx hb dX2_number_45 ?_
      have o16 := hw.1
      replace hw := hw.2
      refine rX_putI C hM 1 2 rfl in_X2 (by decide) (by decide) rfl rfl q132 o16 tyX2 tyX2_ok nmX2 rfl rfl rfl dX2_number_46 (fun h15 H locs eσ hM => ?_)
      replace hw := hw h15 eσ
      clear eσ
      refine lv_goto (tgt := 5) hx hb dX2_number_49 (by decide) ?_
      exact ih a0 h15 _ _ ls hw hM (lv_sub hl [0] rfl)
set_option maxHeartbeats 4000000 in
/-- LeastSolutions$Scanner.number()LLeastSolutions$Word; -/
theorem mt_X2_number (l : Launch) (D : va_G) (dA : Nat → ClassId) (ev : Nat → Nat) (sz : Nat) (h : Hp) (a0 : Nat) (Qr : Option Nat → Hp → Prop) (hw : wp_X2_number ev h a0 Qr) : Met l yX2_number (ws_ yX2_number cX2_number 1 (some (.object "LeastSolutions$Word"))) rm_X2_number (PcX D dA ev h sz [.ref a0]) (va_Qq Qr (BX D dA (AX dA h sz)) (AX dA h sz)) 0 0 (AX dA h sz) := by
  refine Met.ofW (cc := cX2_number) (maxL := 1) (ret := (some (.object "LeastSolutions$Word"))) (by decide) rfl ?_
  intro p e s m args below meth c s₁ B hml hv
  obtain ⟨rfl, hsz, hP, hK, hD0, hE⟩ := hv
  subst hsz
  have hts0 := atoms_spec (ws := ws_ yX2_number cX2_number 1 (some (.object "LeastSolutions$Word"))) B.pre
  have C : CxM p s m meth c _ (AX dA h s.heap.size) "LeastSolutions$Scanner" cX2_number 1 (some (.object "LeastSolutions$Word")) := ⟨B.exec, B.bytes, B.returns, B.notSynchronized, hml, findClass_of_methodNamed B.named, fun w h => hts0 w (List.mem_cons_of_mem _ h), fun q h => Or.inr h⟩
  have hM : wX D dA ev (AX dA h s.heap.size) s h s.heap [] := ⟨hK, hP, hD0.self, va_S.rf, hE⟩
  have hx := C.1
  have hb := C.2.1
  have hown := C.2.2.2.2.2.1
  have hts := C.2.2.2.2.2.2.1
  have hl := lv_entry ([.ref a0]) (n := 1) (Nat.le_of_ble_eq_true rfl)
  rw [lg_entry_eq]
  generalize (lg_sl ([.ref a0]) ++ List.replicate (1 - (lg_sl ([.ref a0])).length) Slot.unset).toArray = ls at hl ⊢
  have hl : lv_has ls 1 [(0, .ref a0)] := hl
  unfold wp_X2_number at hw
  refine lv_aload_n hx hb dX2_number_0 rfl (lv_at hl 0 rfl) ?_
  refine lv_iconst (v := 0) hx hb dX2_number_1 (by decide) ?_
  have o2 := hw.1
  replace hw := hw.2
  refine rX_putI C hM 1 5 rfl in_X2 (by decide) (by decide) rfl rfl q137 o2 tyX2 tyX2_ok nmX2 rfl rfl rfl dX2_number_2 (fun h1 H locs eσ hM => ?_)
  replace hw := hw h1 eσ
  clear eσ
  obtain ⟨n5, hw⟩ := hw
  exact wk_X2_number_5 C  n5 a0 h1 _ _ ls hw hM (lv_sub hl [0] rfl)
abbrev rm_X2_scan : Room := { frames := 3, cells := 0, slots := 0, locals := 62 }
set_option maxHeartbeats 4000000 in
theorem wk_X2_scan_215 {p : Program} {l : Launch} {e : Env} {s : State} {m : MethodId} {args : Array Value} {below : List Frame} {meth : Method} {c : Code} {D : va_G} {dA : Nat → ClassId} {ev : Nat → Nat} {h0 : Hp} {sz : Nat} (C : CxM p s m meth c args (AX dA h0 sz) "LeastSolutions$Scanner" cX2_scan 3 (some (.object "LeastSolutions$Word"))) {Qr : Option Nat → Hp → Prop} : ∀ (a0 : Nat) (u0 : Nat) (h : Hp) (H : Heap) (locs : List Loc) (ls : Array Slot), wp_X2_scan_215 ev Qr a0 u0 h → wX D dA ev (AX dA h0 sz) s h H locs → lv_has ls 3 [(0, .ref a0)] → W p l e rm_X2_scan s m args below meth c H locs 0 0 (MQ below (va_Qq Qr (BX D dA (AX dA h0 sz)) (AX dA h0 sz)) args s 0 0 (AX dA h0 sz)) (F0 m 215 ls [.ref u0]) := by
  intro a0 u0 h H locs ls hw hM hl
  have hx := C.1
  have hb := C.2.1
  have hown := C.2.2.2.2.2.1
  have hts := C.2.2.2.2.2.2.1
  unfold wp_X2_scan_215 at hw
  exact rX_qret (v := (some u0)) (by first | exact Or.inl ⟨_, rfl⟩ | exact Or.inr ⟨_, rfl⟩) C hM ⟨Nat.le_refl _, Nat.le_refl _⟩ hw dX2_scan_215
set_option maxHeartbeats 4000000 in
theorem wk_X2_scan_186 {p : Program} {l : Launch} {e : Env} {s : State} {m : MethodId} {args : Array Value} {below : List Frame} {meth : Method} {c : Code} {D : va_G} {dA : Nat → ClassId} {ev : Nat → Nat} {h0 : Hp} {sz : Nat} (C : CxM p s m meth c args (AX dA h0 sz) "LeastSolutions$Scanner" cX2_scan 3 (some (.object "LeastSolutions$Word"))) {Qr : Option Nat → Hp → Prop} : ∀ (a0 : Nat) (v1 : Int32) (v2 : Int32) (u0 : Nat) (u1 : Int32) (u2 : Int32) (h : Hp) (H : Heap) (locs : List Loc) (ls : Array Slot), wp_X2_scan_186 ev Qr a0 v1 v2 u0 u1 u2 h → wX D dA ev (AX dA h0 sz) s h H locs → lv_has ls 3 [(0, .ref a0), (1, .int v1), (2, .int v2)] → W p l e rm_X2_scan s m args below meth c H locs 0 0 (MQ below (va_Qq Qr (BX D dA (AX dA h0 sz)) (AX dA h0 sz)) args s 0 0 (AX dA h0 sz)) (F0 m 186 ls [.int u2, .int u1, .ref u0]) := by
  intro a0 v1 v2 u0 u1 u2 h H locs ls hw hM hl
  have hx := C.1
  have hb := C.2.1
  have hown := C.2.2.2.2.2.1
  have hts := C.2.2.2.2.2.2.1
  unfold wp_X2_scan_186 at hw
  refine lv_iadd hx hb dX2_scan_186 ?_
  have o2 := hw.1
  replace hw := hw.2
  refine rX_putI C hM 1 2 rfl in_X2 (by decide) (by decide) rfl rfl q132 o2 tyX2 tyX2_ok nmX2 rfl rfl rfl dX2_scan_187 (fun h1 H locs eσ hM => ?_)
  replace hw := hw h1 eσ
  clear eσ
  refine lv_iload_n hx hb dX2_scan_190 rfl (lv_at hl 2 rfl) ?_
  refine lv_if_ne (tgt := 200) hx hb dX2_scan_191 (by decide) (fun hc => ?_) (fun hc => ?_)
  · replace hw := hw.1 hc
    refine lv_iload_n hx hb dX2_scan_200 rfl (lv_at hl 1 rfl) ?_
    refine lv_bipush (v := 60) hx hb dX2_scan_201 (by decide) ?_
    refine lv_icmp_ne (tgt := 212) hx hb dX2_scan_203 (by decide) (fun hc => ?_) (fun hc => ?_)
    · replace hw := hw.1 hc
      refine rX_word C hM 7 (by decide) q577 dX2_scan_212 ?_
      exact wk_X2_scan_215 C  a0 ((ev 7)) h1 _ _ ls hw hM (lv_sub hl [0] rfl)
    · replace hw := hw.2 hc
      refine rX_word C hM 6 (by decide) q575 dX2_scan_206 ?_
      refine lv_goto (tgt := 215) hx hb dX2_scan_209 (by decide) ?_
      exact wk_X2_scan_215 C  a0 ((ev 6)) h1 _ _ ls hw hM (lv_sub hl [0] rfl)
  · replace hw := hw.2 hc
    refine rX_word C hM 10 (by decide) q559 dX2_scan_194 ?_
    refine lv_goto (tgt := 215) hx hb dX2_scan_197 (by decide) ?_
    exact wk_X2_scan_215 C  a0 ((ev 10)) h1 _ _ ls hw hM (lv_sub hl [0] rfl)
set_option maxHeartbeats 4000000 in
theorem wk_X2_scan_172 {p : Program} {l : Launch} {e : Env} {s : State} {m : MethodId} {args : Array Value} {below : List Frame} {meth : Method} {c : Code} {D : va_G} {dA : Nat → ClassId} {ev : Nat → Nat} {h0 : Hp} {sz : Nat} (C : CxM p s m meth c args (AX dA h0 sz) "LeastSolutions$Scanner" cX2_scan 3 (some (.object "LeastSolutions$Word"))) {Qr : Option Nat → Hp → Prop} : ∀ (a0 : Nat) (v1 : Int32) (v2 : Int32) (h : Hp) (H : Heap) (locs : List Loc) (ls : Array Slot), wp_X2_scan_172 ev Qr a0 v1 v2 h → wX D dA ev (AX dA h0 sz) s h H locs → lv_has ls 3 [(0, .ref a0), (1, .int v1), (2, .int v2)] → W p l e rm_X2_scan s m args below meth c H locs 0 0 (MQ below (va_Qq Qr (BX D dA (AX dA h0 sz)) (AX dA h0 sz)) args s 0 0 (AX dA h0 sz)) (F0 m 172 ls []) := by
  intro a0 v1 v2 h H locs ls hw hM hl
  have hx := C.1
  have hb := C.2.1
  have hown := C.2.2.2.2.2.1
  have hts := C.2.2.2.2.2.2.1
  unfold wp_X2_scan_172 at hw
  refine lv_aload_n hx hb dX2_scan_172 rfl (lv_at hl 0 rfl) ?_
  refine lv_dup hx hb dX2_scan_173 rfl ?_
  have o1 := hw.1
  replace hw := hw.2
  refine rX_getI C hM 1 2 rfl in_X2 (by decide) (by decide) rfl q132 o1 dX2_scan_174 ?_
  refine lv_iload_n hx hb dX2_scan_177 rfl (lv_at hl 2 rfl) ?_
  refine lv_if_eq (tgt := 185) hx hb dX2_scan_178 (by decide) (fun hc => ?_) (fun hc => ?_)
  · replace hw := hw.1 hc
    refine lv_iconst (v := 0) hx hb dX2_scan_185 (by decide) ?_
    exact wk_X2_scan_186 C  a0 v1 v2 a0 ((hI h a0 2)) 0 h _ _ ls hw hM (lv_sub hl [0, 1, 2] rfl)
  · replace hw := hw.2 hc
    refine lv_iconst (v := 1) hx hb dX2_scan_181 (by decide) ?_
    refine lv_goto (tgt := 186) hx hb dX2_scan_182 (by decide) ?_
    exact wk_X2_scan_186 C  a0 v1 v2 a0 ((hI h a0 2)) 1 h _ _ ls hw hM (lv_sub hl [0, 1, 2] rfl)
set_option maxHeartbeats 4000000 in
theorem wk_X2_scan_71 {p : Program} {l : Launch} {e : Env} {s : State} {m : MethodId} {args : Array Value} {below : List Frame} {meth : Method} {c : Code} {D : va_G} {dA : Nat → ClassId} {ev : Nat → Nat} {h0 : Hp} {sz : Nat} (C : CxM p s m meth c args (AX dA h0 sz) "LeastSolutions$Scanner" cX2_scan 3 (some (.object "LeastSolutions$Word"))) {Qr : Option Nat → Hp → Prop} : ∀ (a0 : Nat) (v1 : Int32) (u0 : Int32) (h : Hp) (H : Heap) (locs : List Loc) (ls : Array Slot), wp_X2_scan_71 ev Qr a0 v1 u0 h → wX D dA ev (AX dA h0 sz) s h H locs → lv_has ls 3 [(0, .ref a0), (1, .int v1)] → W p l e rm_X2_scan s m args below meth c H locs 0 0 (MQ below (va_Qq Qr (BX D dA (AX dA h0 sz)) (AX dA h0 sz)) args s 0 0 (AX dA h0 sz)) (F0 m 71 ls [.int u0]) := by
  intro a0 v1 u0 h H locs ls hw hM hl
  have hx := C.1
  have hb := C.2.1
  have hown := C.2.2.2.2.2.1
  have hts := C.2.2.2.2.2.2.1
  unfold wp_X2_scan_71 at hw
  refine lv_istore_n (lv' := [(2, .int u0), (0, .ref a0), (1, .int v1)]) hx hb dX2_scan_71 rfl hl (by decide) rfl (fun ls hl => ?_)
  refine lv_iload_n hx hb dX2_scan_72 rfl (lv_at hl 2 rfl) ?_
  by_cases hc0 : v1 = (-1)
  · replace hw := hw.1 hc0
    refine lv_lookup (tgt := 148) hx hb dX2_scan_73 rfl (by show Op.lookupswitch.offset [(-1, 75), (42, 87), (43, 79), (45, 83), (59, 91), (60, 99), (61, 95), (62, 99)] 143 _ = _; rw [hc0, Op.lookupswitch.offset_cons, if_pos (by decide)]) (by decide) ?_
    refine rX_word C hM 9 (by decide) q126 dX2_scan_148 ?_
    exact rX_qret (v := (some (ev 9))) (by first | exact Or.inl ⟨_, rfl⟩ | exact Or.inr ⟨_, rfl⟩) C hM ⟨Nat.le_refl _, Nat.le_refl _⟩ hw dX2_scan_151
  · replace hw := hw.2 hc0
    by_cases hc1 : v1 = 42
    · replace hw := hw.1 hc1
      refine lv_lookup (tgt := 160) hx hb dX2_scan_73 rfl (by show Op.lookupswitch.offset [(-1, 75), (42, 87), (43, 79), (45, 83), (59, 91), (60, 99), (61, 95), (62, 99)] 143 _ = _; rw [lv_osw hc0 (by decide), hc1, Op.lookupswitch.offset_cons, if_pos (by decide)]) (by decide) ?_
      refine rX_word C hM 4 (by decide) q569 dX2_scan_160 ?_
      exact rX_qret (v := (some (ev 4))) (by first | exact Or.inl ⟨_, rfl⟩ | exact Or.inr ⟨_, rfl⟩) C hM ⟨Nat.le_refl _, Nat.le_refl _⟩ hw dX2_scan_163
    · replace hw := hw.2 hc1
      by_cases hc2 : v1 = 43
      · replace hw := hw.1 hc2
        refine lv_lookup (tgt := 152) hx hb dX2_scan_73 rfl (by show Op.lookupswitch.offset [(-1, 75), (42, 87), (43, 79), (45, 83), (59, 91), (60, 99), (61, 95), (62, 99)] 143 _ = _; rw [lv_osw hc0 (by decide), lv_osw hc1 (by decide), hc2, Op.lookupswitch.offset_cons, if_pos (by decide)]) (by decide) ?_
        refine rX_word C hM 2 (by decide) q565 dX2_scan_152 ?_
        exact rX_qret (v := (some (ev 2))) (by first | exact Or.inl ⟨_, rfl⟩ | exact Or.inr ⟨_, rfl⟩) C hM ⟨Nat.le_refl _, Nat.le_refl _⟩ hw dX2_scan_155
      · replace hw := hw.2 hc2
        by_cases hc3 : v1 = 45
        · replace hw := hw.1 hc3
          refine lv_lookup (tgt := 156) hx hb dX2_scan_73 rfl (by show Op.lookupswitch.offset [(-1, 75), (42, 87), (43, 79), (45, 83), (59, 91), (60, 99), (61, 95), (62, 99)] 143 _ = _; rw [lv_osw hc0 (by decide), lv_osw hc1 (by decide), lv_osw hc2 (by decide), hc3, Op.lookupswitch.offset_cons, if_pos (by decide)]) (by decide) ?_
          refine rX_word C hM 3 (by decide) q567 dX2_scan_156 ?_
          exact rX_qret (v := (some (ev 3))) (by first | exact Or.inl ⟨_, rfl⟩ | exact Or.inr ⟨_, rfl⟩) C hM ⟨Nat.le_refl _, Nat.le_refl _⟩ hw dX2_scan_159
        · replace hw := hw.2 hc3
          by_cases hc4 : v1 = 59
          · replace hw := hw.1 hc4
            refine lv_lookup (tgt := 164) hx hb dX2_scan_73 rfl (by show Op.lookupswitch.offset [(-1, 75), (42, 87), (43, 79), (45, 83), (59, 91), (60, 99), (61, 95), (62, 99)] 143 _ = _; rw [lv_osw hc0 (by decide), lv_osw hc1 (by decide), lv_osw hc2 (by decide), lv_osw hc3 (by decide), hc4, Op.lookupswitch.offset_cons, if_pos (by decide)]) (by decide) ?_
            refine rX_word C hM 8 (by decide) q571 dX2_scan_164 ?_
            exact rX_qret (v := (some (ev 8))) (by first | exact Or.inl ⟨_, rfl⟩ | exact Or.inr ⟨_, rfl⟩) C hM ⟨Nat.le_refl _, Nat.le_refl _⟩ hw dX2_scan_167
          · replace hw := hw.2 hc4
            by_cases hc5 : v1 = 60
            · replace hw := hw.1 hc5
              refine lv_lookup (tgt := 172) hx hb dX2_scan_73 rfl (by show Op.lookupswitch.offset [(-1, 75), (42, 87), (43, 79), (45, 83), (59, 91), (60, 99), (61, 95), (62, 99)] 143 _ = _; rw [lv_osw hc0 (by decide), lv_osw hc1 (by decide), lv_osw hc2 (by decide), lv_osw hc3 (by decide), lv_osw hc4 (by decide), hc5, Op.lookupswitch.offset_cons, if_pos (by decide)]) (by decide) ?_
              exact wk_X2_scan_172 C  a0 v1 u0 h _ _ ls hw hM (lv_sub hl [1, 2, 0] rfl)
            · replace hw := hw.2 hc5
              by_cases hc6 : v1 = 61
              · replace hw := hw.1 hc6
                refine lv_lookup (tgt := 168) hx hb dX2_scan_73 rfl (by show Op.lookupswitch.offset [(-1, 75), (42, 87), (43, 79), (45, 83), (59, 91), (60, 99), (61, 95), (62, 99)] 143 _ = _; rw [lv_osw hc0 (by decide), lv_osw hc1 (by decide), lv_osw hc2 (by decide), lv_osw hc3 (by decide), lv_osw hc4 (by decide), lv_osw hc5 (by decide), hc6, Op.lookupswitch.offset_cons, if_pos (by decide)]) (by decide) ?_
                refine rX_word C hM 5 (by decide) q573 dX2_scan_168 ?_
                exact rX_qret (v := (some (ev 5))) (by first | exact Or.inl ⟨_, rfl⟩ | exact Or.inr ⟨_, rfl⟩) C hM ⟨Nat.le_refl _, Nat.le_refl _⟩ hw dX2_scan_171
              · replace hw := hw.2 hc6
                by_cases hc7 : v1 = 62
                · replace hw := hw.1 hc7
                  refine lv_lookup (tgt := 172) hx hb dX2_scan_73 rfl (by show Op.lookupswitch.offset [(-1, 75), (42, 87), (43, 79), (45, 83), (59, 91), (60, 99), (61, 95), (62, 99)] 143 _ = _; rw [lv_osw hc0 (by decide), lv_osw hc1 (by decide), lv_osw hc2 (by decide), lv_osw hc3 (by decide), lv_osw hc4 (by decide), lv_osw hc5 (by decide), lv_osw hc6 (by decide), hc7, Op.lookupswitch.offset_cons, if_pos (by decide)]) (by decide) ?_
                  exact wk_X2_scan_172 C  a0 v1 u0 h _ _ ls hw hM (lv_sub hl [1, 2, 0] rfl)
                · replace hw := hw.2 hc7
                  refine lv_lookup (off := 143) (tgt := 216) hx hb dX2_scan_73 rfl (by show Op.lookupswitch.offset [(-1, 75), (42, 87), (43, 79), (45, 83), (59, 91), (60, 99), (61, 95), (62, 99)] 143 _ = _; rw [lv_osw hc0 (by decide), lv_osw hc1 (by decide), lv_osw hc2 (by decide), lv_osw hc3 (by decide), lv_osw hc4 (by decide), lv_osw hc5 (by decide), lv_osw hc6 (by decide), lv_osw hc7 (by decide)]; rfl) (by decide) ?_
                  refine rX_word C hM 10 (by decide) q559 dX2_scan_216 ?_
                  exact rX_qret (v := (some (ev 10))) (by first | exact Or.inl ⟨_, rfl⟩ | exact Or.inr ⟨_, rfl⟩) C hM ⟨Nat.le_refl _, Nat.le_refl _⟩ hw dX2_scan_219
set_option maxHeartbeats 4000000 in
theorem wk_X2_scan_53 {p : Program} {l : Launch} {e : Env} {s : State} {m : MethodId} {args : Array Value} {below : List Frame} {meth : Method} {c : Code} {D : va_G} {dA : Nat → ClassId} {ev : Nat → Nat} {h0 : Hp} {sz : Nat} (C : CxM p s m meth c args (AX dA h0 sz) "LeastSolutions$Scanner" cX2_scan 3 (some (.object "LeastSolutions$Word"))) {Qr : Option Nat → Hp → Prop} : ∀ (a0 : Nat) (v1 : Int32) (h : Hp) (H : Heap) (locs : List Loc) (ls : Array Slot), wp_X2_scan_53 ev Qr a0 v1 h → wX D dA ev (AX dA h0 sz) s h H locs → lv_has ls 3 [(0, .ref a0), (1, .int v1)] → W p l e rm_X2_scan s m args below meth c H locs 0 0 (MQ below (va_Qq Qr (BX D dA (AX dA h0 sz)) (AX dA h0 sz)) args s 0 0 (AX dA h0 sz)) (F0 m 53 ls []) := by
  intro a0 v1 h H locs ls hw hM hl
  have hx := C.1
  have hb := C.2.1
  have hown := C.2.2.2.2.2.1
  have hts := C.2.2.2.2.2.2.1
  unfold wp_X2_scan_53 at hw
  refine lv_aload_n hx hb dX2_scan_53 rfl (lv_at hl 0 rfl) ?_
  refine lv_aload_n hx hb dX2_scan_54 rfl (lv_at hl 0 rfl) ?_
  have o1 := hw.1
  replace hw := hw.2
  refine rX_getI C hM 1 2 rfl in_X2 (by decide) (by decide) rfl q132 o1 dX2_scan_55 ?_
  have o4 := hw.1
  replace hw := hw.2
  refine rX_goi C hM (runX_V C hM hl.1 1 1 (As := [.int (hI h a0 2)]) rfl (by decide) o4 (mt_X2_at l D dA ev _ h a0 (hI h a0 2)  _ hw) (lw_V q543 q545 qs2 q76 q546) rfl rfl (by decide +kernel) ⟨Nat.le_of_ble_eq_true rfl, Nat.le_of_ble_eq_true rfl⟩ rfl (Nat.le_of_ble_eq_true rfl) rfl dX2_scan_58 ⟨Nat.le_refl _, Nat.le_refl _⟩) (fun x3 h2 H locs hw hM => ?_)
  refine lv_bipush (v := 61) hx hb dX2_scan_61 (by decide) ?_
  refine lv_icmp_ne (tgt := 70) hx hb dX2_scan_63 (by decide) (fun hc => ?_) (fun hc => ?_)
  · replace hw := hw.1 hc
    refine lv_iconst (v := 0) hx hb dX2_scan_70 (by decide) ?_
    exact wk_X2_scan_71 C  a0 v1 0 h2 _ _ ls hw hM (lv_sub hl [0, 1] rfl)
  · replace hw := hw.2 hc
    refine lv_iconst (v := 1) hx hb dX2_scan_66 (by decide) ?_
    refine lv_goto (tgt := 71) hx hb dX2_scan_67 (by decide) ?_
    exact wk_X2_scan_71 C  a0 v1 1 h2 _ _ ls hw hM (lv_sub hl [0, 1] rfl)
set_option maxHeartbeats 4000000 in
/-- LeastSolutions$Scanner.scan()LLeastSolutions$Word; -/
theorem mt_X2_scan (l : Launch) (D : va_G) (dA : Nat → ClassId) (ev : Nat → Nat) (sz : Nat) (h : Hp) (a0 : Nat) (Qr : Option Nat → Hp → Prop) (hw : wp_X2_scan ev h a0 Qr) : Met l yX2_scan (ws_ yX2_scan cX2_scan 3 (some (.object "LeastSolutions$Word"))) rm_X2_scan (PcX D dA ev h sz [.ref a0]) (va_Qq Qr (BX D dA (AX dA h sz)) (AX dA h sz)) 0 0 (AX dA h sz) := by
  refine Met.ofW (cc := cX2_scan) (maxL := 3) (ret := (some (.object "LeastSolutions$Word"))) (by decide) rfl ?_
  intro p e s m args below meth c s₁ B hml hv
  obtain ⟨rfl, hsz, hP, hK, hD0, hE⟩ := hv
  subst hsz
  have hts0 := atoms_spec (ws := ws_ yX2_scan cX2_scan 3 (some (.object "LeastSolutions$Word"))) B.pre
  have C : CxM p s m meth c _ (AX dA h s.heap.size) "LeastSolutions$Scanner" cX2_scan 3 (some (.object "LeastSolutions$Word")) := ⟨B.exec, B.bytes, B.returns, B.notSynchronized, hml, findClass_of_methodNamed B.named, fun w h => hts0 w (List.mem_cons_of_mem _ h), fun q h => Or.inr h⟩
  have hM : wX D dA ev (AX dA h s.heap.size) s h s.heap [] := ⟨hK, hP, hD0.self, va_S.rf, hE⟩
  have hx := C.1
  have hb := C.2.1
  have hown := C.2.2.2.2.2.1
  have hts := C.2.2.2.2.2.2.1
  have hl := lv_entry ([.ref a0]) (n := 3) (Nat.le_of_ble_eq_true rfl)
  rw [lg_entry_eq]
  generalize (lg_sl ([.ref a0]) ++ List.replicate (3 - (lg_sl ([.ref a0])).length) Slot.unset).toArray = ls at hl ⊢
  have hl : lv_has ls 3 [(0, .ref a0)] := hl
  unfold wp_X2_scan at hw
  refine lv_aload_n hx hb dX2_scan_0 rfl (lv_at hl 0 rfl) ?_
  refine lv_aload_n hx hb dX2_scan_1 rfl (lv_at hl 0 rfl) ?_
  have o1 := hw.1
  replace hw := hw.2
  refine rX_getI C hM 1 2 rfl in_X2 (by decide) (by decide) rfl q132 o1 dX2_scan_2 ?_
  have o4 := hw.1
  replace hw := hw.2
  refine rX_goi C hM (runX_V C hM hl.1 1 1 (As := [.int (hI h a0 2)]) rfl (by decide) o4 (mt_X2_isDigit l D dA ev _ h a0 (hI h a0 2)  _ hw) (lw_V q551 q553 qs4 q76 q554) rfl rfl (by decide +kernel) ⟨Nat.le_of_ble_eq_true rfl, Nat.le_of_ble_eq_true rfl⟩ rfl (Nat.le_of_ble_eq_true rfl) rfl dX2_scan_5 ⟨Nat.le_refl _, Nat.le_refl _⟩) (fun x3 h2 H locs hw hM => ?_)
  refine lv_if_eq (tgt := 16) hx hb dX2_scan_8 (by decide) (fun hc => ?_) (fun hc => ?_)
  · replace hw := hw.1 hc
    refine lv_aload_n hx hb dX2_scan_16 rfl (lv_at hl 0 rfl) ?_
    refine lv_aload_n hx hb dX2_scan_17 rfl (lv_at hl 0 rfl) ?_
    refine lv_dup hx hb dX2_scan_18 rfl ?_
    have o5 := hw.1
    replace hw := hw.2
    refine rX_getI C hM 1 2 rfl in_X2 (by decide) (by decide) rfl q132 o5 dX2_scan_19 ?_
    refine lv_topi (fun x6 ex6 => ?_)
    replace hw := hw x6 ex6
    refine lv_dup_x1 hx hb dX2_scan_22 rfl rfl ?_
    refine lv_iconst (v := 1) hx hb dX2_scan_23 (by decide) ?_
    refine lv_iadd hx hb dX2_scan_24 ?_
    have o8 := hw.1
    replace hw := hw.2
    refine rX_putI C hM 1 2 rfl in_X2 (by decide) (by decide) rfl rfl q132 o8 tyX2 tyX2_ok nmX2 rfl rfl rfl dX2_scan_25 (fun h7 H locs eσ hM => ?_)
    replace hw := hw h7 eσ
    clear eσ
    have o11 := hw.1
    replace hw := hw.2
    refine rX_goi C hM (runX_V C hM hl.1 1 1 (As := [.int x6]) rfl (by decide) o11 (mt_X2_at l D dA ev _ h7 a0 x6  _ hw) (lw_V q543 q545 qs2 q76 q546) rfl rfl (by decide +kernel) ⟨Nat.le_of_ble_eq_true rfl, Nat.le_of_ble_eq_true rfl⟩ rfl (Nat.le_of_ble_eq_true rfl) rfl dX2_scan_28 ⟨Nat.le_refl _, Nat.le_refl _⟩) (fun x10 h9 H locs hw hM => ?_)
    refine lv_istore_n (lv' := [(1, .int x10), (0, .ref a0)]) hx hb dX2_scan_31 rfl hl (by decide) rfl (fun ls hl => ?_)
    refine lv_aload_n hx hb dX2_scan_32 rfl (lv_at hl 1 rfl) ?_
    refine lv_iload_n hx hb dX2_scan_33 rfl (lv_at hl 0 rfl) ?_
    have o13 := hw.1
    replace hw := hw.2
    refine rX_putI C hM 1 5 rfl in_X2 (by decide) (by decide) rfl rfl q137 o13 tyX2 tyX2_ok nmX2 rfl rfl rfl dX2_scan_34 (fun h12 H locs eσ hM => ?_)
    replace hw := hw h12 eσ
    clear eσ
    refine lv_iload_n hx hb dX2_scan_37 rfl (lv_at hl 0 rfl) ?_
    refine lv_bipush (v := 97) hx hb dX2_scan_38 (by decide) ?_
    refine lv_icmp_lt (tgt := 53) hx hb dX2_scan_40 (by decide) (fun hc => ?_) (fun hc => ?_)
    · replace hw := hw.1 hc
      exact wk_X2_scan_53 C  a0 x10 h12 _ _ ls hw hM (lv_sub hl [1, 0] rfl)
    · replace hw := hw.2 hc
      refine lv_iload_n hx hb dX2_scan_43 rfl (lv_at hl 0 rfl) ?_
      refine lv_bipush (v := 122) hx hb dX2_scan_44 (by decide) ?_
      refine lv_icmp_gt (tgt := 53) hx hb dX2_scan_46 (by decide) (fun hc => ?_) (fun hc => ?_)
      · replace hw := hw.1 hc
        exact wk_X2_scan_53 C  a0 x10 h12 _ _ ls hw hM (lv_sub hl [1, 0] rfl)
      · replace hw := hw.2 hc
        refine rX_word C hM 1 (by decide) q563 dX2_scan_49 ?_
        exact rX_qret (v := (some (ev 1))) (by first | exact Or.inl ⟨_, rfl⟩ | exact Or.inr ⟨_, rfl⟩) C hM ⟨Nat.le_refl _, Nat.le_refl _⟩ hw dX2_scan_52
  · replace hw := hw.2 hc
    refine lv_aload_n hx hb dX2_scan_11 rfl (lv_at hl 0 rfl) ?_
    have o16 := hw.1
    replace hw := hw.2
    refine rX_goq C hM (runX_V C hM hl.1 1 0 (As := []) rfl (by decide) o16 (mt_X2_number l D dA ev _ h2 a0  _ hw) (lw_V q555 q557 qs5 q76 q558) rfl rfl (by decide +kernel) ⟨Nat.le_of_ble_eq_true rfl, Nat.le_of_ble_eq_true rfl⟩ rfl (Nat.le_of_ble_eq_true rfl) rfl dX2_scan_12 ⟨Nat.le_refl _, Nat.le_refl _⟩) (fun r15 h14 H locs hw hM => ?_)
    obtain ⟨b17, eb, hw⟩ := hw
    subst eb
    exact rX_qret (v := (some b17)) (by first | exact Or.inl ⟨_, rfl⟩ | exact Or.inr ⟨_, rfl⟩) C hM ⟨Nat.le_refl _, Nat.le_refl _⟩ hw dX2_scan_15
abbrev rm_X2_advance : Room := { frames := 4, cells := 0, slots := 0, locals := 84 }
set_option maxHeartbeats 4000000 in
theorem wk_X2_advance_0 {p : Program} {l : Launch} {e : Env} {s : State} {m : MethodId} {args : Array Value} {below : List Frame} {meth : Method} {c : Code} {D : va_G} {dA : Nat → ClassId} {ev : Nat → Nat} {h0 : Hp} {sz : Nat} (C : CxM p s m meth c args (AX dA h0 sz) "LeastSolutions$Scanner" cX2_advance 1 none) {Qr : Hp → Prop} : ∀ (n : Nat) (a0 : Nat) (h : Hp) (H : Heap) (locs : List Loc) (ls : Array Slot), wp_X2_advance_0 ev Qr n a0 h → wX D dA ev (AX dA h0 sz) s h H locs → lv_has ls 1 [(0, .ref a0)] → W p l e rm_X2_advance s m args below meth c H locs 0 0 (MQ below (va_Qv Qr (BX D dA (AX dA h0 sz)) (AX dA h0 sz)) args s 0 0 (AX dA h0 sz)) (F0 m 0 ls []) := by
  intro n
  induction n with
  | zero => intro a0 h H locs ls hw; exact hw.elim
  | succ n0 ih =>
    intro a0 h H locs ls hw hM hl
    have hx := C.1
    have hb := C.2.1
    have hown := C.2.2.2.2.2.1
    have hts := C.2.2.2.2.2.2.1
    unfold wp_X2_advance_0 at hw
    refine lv_aload_n hx hb dX2_advance_0 rfl (lv_at hl 0 rfl) ?_
    refine lv_aload_n hx hb dX2_advance_1 rfl (lv_at hl 0 rfl) ?_
    have o1 := hw.1
    replace hw := hw.2
    refine rX_getI C hM 1 2 rfl in_X2 (by decide) (by decide) rfl q132 o1 dX2_advance_2 ?_
    have o4 := hw.1
    replace hw := hw.2
    refine rX_goi C hM (runX_V C hM hl.1 1 1 (As := [.int (hI h a0 2)]) rfl (by decide) o4 (mt_X2_at l D dA ev _ h a0 (hI h a0 2)  _ hw) (lw_V q543 q545 qs2 q76 q546) rfl rfl (by decide +kernel) ⟨Nat.le_of_ble_eq_true rfl, Nat.le_of_ble_eq_true rfl⟩ rfl (Nat.le_of_ble_eq_true rfl) rfl dX2_advance_5 ⟨Nat.le_refl _, Nat.le_refl _⟩) (fun x3 h2 H locs hw hM => ?_)
    refine lv_bipush (v := 32) hx hb dX2_advance_8 (by decide) ?_
    refine lv_icmp_ne (tgt := 26) hx hb dX2_advance_10 (by decide) (fun hc => ?_) (fun hc => ?_)
    · replace hw := hw.1 hc
      refine lv_aload_n hx hb dX2_advance_26 rfl (lv_at hl 0 rfl) ?_
      refine lv_aload_n hx hb dX2_advance_27 rfl (lv_at hl 0 rfl) ?_
      have o5 := hw.1
      replace hw := hw.2
      refine rX_getI C hM 1 2 rfl in_X2 (by decide) (by decide) rfl q132 o5 dX2_advance_28 ?_
      have o7 := hw.1
      replace hw := hw.2
      refine rX_putI C hM 1 4 rfl in_X2 (by decide) (by decide) rfl rfl q136 o7 tyX2 tyX2_ok nmX2 rfl rfl rfl dX2_advance_31 (fun h6 H locs eσ hM => ?_)
      replace hw := hw h6 eσ
      clear eσ
      refine lv_aload_n hx hb dX2_advance_34 rfl (lv_at hl 0 rfl) ?_
      refine lv_aload_n hx hb dX2_advance_35 rfl (lv_at hl 0 rfl) ?_
      have o10 := hw.1
      replace hw := hw.2
      refine rX_goq C hM (runX_V C hM hl.1 1 0 (As := []) rfl (by decide) o10 (mt_X2_scan l D dA ev _ h6 a0  _ hw) (lw_V q547 q549 qs3 q76 q550) rfl rfl (by decide +kernel) ⟨Nat.le_of_ble_eq_true rfl, Nat.le_of_ble_eq_true rfl⟩ rfl (Nat.le_of_ble_eq_true rfl) rfl dX2_advance_36 ⟨Nat.le_refl _, Nat.le_refl _⟩) (fun r9 h8 H locs hw hM => ?_)
      obtain ⟨b11, eb, hw⟩ := hw
      subst eb
      have o13 := hw.1
      replace hw := hw.2
      refine rX_putR C hM 1 3 rfl in_X2 (by decide) (by decide) rfl rfl q133 o13 (x := (some b11)) tyX2 tyX2_ok nmX2 rfl rfl rfl dX2_advance_39 (fun h12 H locs eσ hM => ?_)
      replace hw := hw h12 eσ
      clear eσ
      exact rX_vret C hM ⟨Nat.le_refl _, Nat.le_refl _⟩ hw dX2_advance_42
    · replace hw := hw.2 hc
      refine lv_aload_n hx hb dX2_advance_13 rfl (lv_at hl 0 rfl) ?_
      refine lv_dup hx hb dX2_advance_14 rfl ?_
      have o14 := hw.1
      replace hw := hw.2
      refine rX_getI C hM 1 2 rfl in_X2 (by decide) (by decide) rfl q132 o14 dX2_advance_15 ?_
      refine lv_iconst (v := 1) hx hb dX2_advance_18 (by decide) ?_
      refine lv_iadd hx hb dX2_advance_19 ?_
      have o16 := hw.1
      replace hw := hw.2
      refine rX_putI C hM 1 2 rfl in_X2 (by decide) (by decide) rfl rfl q132 o16 tyX2 tyX2_ok nmX2 rfl rfl rfl dX2_advance_20 (fun h15 H locs eσ hM => ?_)
      replace hw := hw h15 eσ
      clear eσ
      refine lv_goto (tgt := 0) hx hb dX2_advance_23 (by decide) ?_
      exact ih a0 h15 _ _ ls hw hM (lv_sub hl [0] rfl)
set_option maxHeartbeats 4000000 in
/-- LeastSolutions$Scanner.advance()V -/
theorem mt_X2_advance (l : Launch) (D : va_G) (dA : Nat → ClassId) (ev : Nat → Nat) (sz : Nat) (h : Hp) (a0 : Nat) (Qr : Hp → Prop) (hw : wp_X2_advance ev h a0 Qr) : Met l yX2_advance (ws_ yX2_advance cX2_advance 1 none) rm_X2_advance (PcX D dA ev h sz [.ref a0]) (va_Qv Qr (BX D dA (AX dA h sz)) (AX dA h sz)) 0 0 (AX dA h sz) := by
  refine Met.ofW (cc := cX2_advance) (maxL := 1) (ret := none) (by decide) rfl ?_
  intro p e s m args below meth c s₁ B hml hv
  obtain ⟨rfl, hsz, hP, hK, hD0, hE⟩ := hv
  subst hsz
  have hts0 := atoms_spec (ws := ws_ yX2_advance cX2_advance 1 none) B.pre
  have C : CxM p s m meth c _ (AX dA h s.heap.size) "LeastSolutions$Scanner" cX2_advance 1 none := ⟨B.exec, B.bytes, B.returns, B.notSynchronized, hml, findClass_of_methodNamed B.named, fun w h => hts0 w (List.mem_cons_of_mem _ h), fun q h => Or.inr h⟩
  have hM : wX D dA ev (AX dA h s.heap.size) s h s.heap [] := ⟨hK, hP, hD0.self, va_S.rf, hE⟩
  have hx := C.1
  have hb := C.2.1
  have hown := C.2.2.2.2.2.1
  have hts := C.2.2.2.2.2.2.1
  have hl := lv_entry ([.ref a0]) (n := 1) (Nat.le_of_ble_eq_true rfl)
  rw [lg_entry_eq]
  generalize (lg_sl ([.ref a0]) ++ List.replicate (1 - (lg_sl ([.ref a0])).length) Slot.unset).toArray = ls at hl ⊢
  have hl : lv_has ls 1 [(0, .ref a0)] := hl
  unfold wp_X2_advance at hw
  obtain ⟨n0, hw⟩ := hw
  exact wk_X2_advance_0 C  n0 a0 h _ _ ls hw hM (lv_sub hl [0] rfl)
abbrev rm_X2_begin : Room := { frames := 5, cells := 0, slots := 0, locals := 104 }
set_option maxHeartbeats 4000000 in
/-- LeastSolutions$Scanner.begin()V -/
theorem mt_X2_begin (l : Launch) (D : va_G) (dA : Nat → ClassId) (ev : Nat → Nat) (sz : Nat) (h : Hp) (a0 : Nat) (Qr : Hp → Prop) (hw : wp_X2_begin ev h a0 Qr) : Met l yX2_begin (ws_ yX2_begin cX2_begin 1 none) rm_X2_begin (PcX D dA ev h sz [.ref a0]) (va_Qv Qr (BX D dA (AX dA h sz)) (AX dA h sz)) 0 0 (AX dA h sz) := by
  refine Met.ofW (cc := cX2_begin) (maxL := 1) (ret := none) (by decide) rfl ?_
  intro p e s m args below meth c s₁ B hml hv
  obtain ⟨rfl, hsz, hP, hK, hD0, hE⟩ := hv
  subst hsz
  have hts0 := atoms_spec (ws := ws_ yX2_begin cX2_begin 1 none) B.pre
  have C : CxM p s m meth c _ (AX dA h s.heap.size) "LeastSolutions$Scanner" cX2_begin 1 none := ⟨B.exec, B.bytes, B.returns, B.notSynchronized, hml, findClass_of_methodNamed B.named, fun w h => hts0 w (List.mem_cons_of_mem _ h), fun q h => Or.inr h⟩
  have hM : wX D dA ev (AX dA h s.heap.size) s h s.heap [] := ⟨hK, hP, hD0.self, va_S.rf, hE⟩
  have hx := C.1
  have hb := C.2.1
  have hown := C.2.2.2.2.2.1
  have hts := C.2.2.2.2.2.2.1
  have hl := lv_entry ([.ref a0]) (n := 1) (Nat.le_of_ble_eq_true rfl)
  rw [lg_entry_eq]
  generalize (lg_sl ([.ref a0]) ++ List.replicate (1 - (lg_sl ([.ref a0])).length) Slot.unset).toArray = ls at hl ⊢
  have hl : lv_has ls 1 [(0, .ref a0)] := hl
  unfold wp_X2_begin at hw
  refine lv_aload_n hx hb dX2_begin_0 rfl (lv_at hl 0 rfl) ?_
  refine lv_iconst (v := 0) hx hb dX2_begin_1 (by decide) ?_
  have o2 := hw.1
  replace hw := hw.2
  refine rX_putI C hM 1 2 rfl in_X2 (by decide) (by decide) rfl rfl q132 o2 tyX2 tyX2_ok nmX2 rfl rfl rfl dX2_begin_2 (fun h1 H locs eσ hM => ?_)
  replace hw := hw h1 eσ
  clear eσ
  refine lv_aload_n hx hb dX2_begin_5 rfl (lv_at hl 0 rfl) ?_
  have o4 := hw.1
  replace hw := hw.2
  refine rX_gov C hM (runX_V C hM hl.1 1 0 (As := []) rfl (by decide) o4 (mt_X2_advance l D dA ev _ h1 a0  _ hw) (lw_V q539 q540 q541 q76 q542) rfl rfl (by decide +kernel) ⟨Nat.le_of_ble_eq_true rfl, Nat.le_of_ble_eq_true rfl⟩ rfl (Nat.le_of_ble_eq_true rfl) rfl dX2_begin_6 ⟨Nat.le_refl _, Nat.le_refl _⟩) (fun h3 H locs hw hM => ?_)
  exact rX_vret C hM ⟨Nat.le_refl _, Nat.le_refl _⟩ hw dX2_begin_9
abbrev rm_X4_clear : Room := { frames := 0, cells := 0, slots := 0, locals := 0 }
set_option maxHeartbeats 4000000 in
theorem wk_X4_clear_31 {p : Program} {l : Launch} {e : Env} {s : State} {m : MethodId} {args : Array Value} {below : List Frame} {meth : Method} {c : Code} {D : va_G} {dA : Nat → ClassId} {ev : Nat → Nat} {h0 : Hp} {sz : Nat} (C : CxM p s m meth c args (AX dA h0 sz) "LeastSolutions$Model" cX4_clear 3 none) {Qr : Hp → Prop} {K17 : Nat → Int32 → Hp → Prop} (hK17 : ∀ (a0 : Nat) (v1 : Int32) (h : Hp) (H : Heap) (locs : List Loc) (ls : Array Slot), K17 a0 v1 h → wX D dA ev (AX dA h0 sz) s h H locs → lv_has ls 3 [(0, .ref a0), (1, .int v1)] → W p l e rm_X4_clear s m args below meth c H locs 0 0 (MQ below (va_Qv Qr (BX D dA (AX dA h0 sz)) (AX dA h0 sz)) args s 0 0 (AX dA h0 sz)) (F0 m 17 ls [])) : ∀ (n : Nat) (a0 : Nat) (v1 : Int32) (v2 : Int32) (h : Hp) (H : Heap) (locs : List Loc) (ls : Array Slot), wp_X4_clear_31 ev Qr K17 n a0 v1 v2 h → wX D dA ev (AX dA h0 sz) s h H locs → lv_has ls 3 [(0, .ref a0), (1, .int v1), (2, .int v2)] → W p l e rm_X4_clear s m args below meth c H locs 0 0 (MQ below (va_Qv Qr (BX D dA (AX dA h0 sz)) (AX dA h0 sz)) args s 0 0 (AX dA h0 sz)) (F0 m 31 ls []) := by
  intro n
  induction n with
  | zero => intro a0 v1 v2 h H locs ls hw; exact hw.elim
  | succ n31 ih =>
    intro a0 v1 v2 h H locs ls hw hM hl
    have hx := C.1
    have hb := C.2.1
    have hown := C.2.2.2.2.2.1
    have hts := C.2.2.2.2.2.2.1
    unfold wp_X4_clear_31 at hw
    refine lv_iload_n hx hb dX4_clear_31 rfl (lv_at hl 2 rfl) ?_
    refine lv_bipush (v := 6) hx hb dX4_clear_32 (by decide) ?_
    refine lv_icmp_ge (tgt := 52) hx hb dX4_clear_34 (by decide) (fun hc => ?_) (fun hc => ?_)
    · replace hw := hw.1 hc
      obtain ⟨x1, ex1⟩ : ∃ y : Int32, y = v1 + 1 := ⟨_, rfl⟩
      replace hw := hw x1 ex1
      refine lv_iinc (v := x1) (lv' := [(1, .int x1), (0, .ref a0), (2, .int v2)]) hx hb dX4_clear_52 hl (k := 1) rfl (by rw [ex1]; rfl) (by decide) rfl (fun ls hl => ?_)
      refine lv_goto (tgt := 17) hx hb dX4_clear_55 (by decide) ?_
      exact hK17 a0 x1 h _ _ ls hw hM (lv_sub hl [1, 0] rfl)
    · replace hw := hw.2 hc
      refine lv_aload_n hx hb dX4_clear_37 rfl (lv_at hl 0 rfl) ?_
      have o2 := hw.1
      replace hw := hw.2
      obtain ⟨b3, ebb3, hw⟩ := hw
      refine rX_getRs C hM 3 4 rfl in_X4 (by decide) (by decide) rfl q284 o2 ebb3 dX4_clear_38 ?_
      refine lv_iload_n hx hb dX4_clear_41 rfl (lv_at hl 1 rfl) ?_
      have o4 := hw.1
      replace hw := hw.2
      have o5 := hw.1
      replace hw := hw.2
      obtain ⟨b6, ebb6, hw⟩ := hw
      refine rX_aalds C hM 4 (by decide) (by decide) o4 o5 ebb6 dX4_clear_42 ?_
      refine lv_iload_n hx hb dX4_clear_43 rfl (lv_at hl 2 rfl) ?_
      refine lv_iconst (v := 0) hx hb dX4_clear_44 (by decide) ?_
      have o8 := hw.1
      replace hw := hw.2
      have o9 := hw.1
      replace hw := hw.2
      refine rX_iast C hM o8 o9 dX4_clear_45 (fun h7 H locs eσ hM => ?_)
      replace hw := hw h7 eσ
      clear eσ
      obtain ⟨x10, ex10⟩ : ∃ y : Int32, y = v2 + 1 := ⟨_, rfl⟩
      replace hw := hw x10 ex10
      refine lv_iinc (v := x10) (lv' := [(2, .int x10), (0, .ref a0), (1, .int v1)]) hx hb dX4_clear_46 hl (k := 2) rfl (by rw [ex10]; rfl) (by decide) rfl (fun ls hl => ?_)
      refine lv_goto (tgt := 31) hx hb dX4_clear_49 (by decide) ?_
      exact ih a0 v1 x10 h7 _ _ ls hw hM (lv_sub hl [1, 2, 0] rfl)
set_option maxHeartbeats 4000000 in
theorem wk_X4_clear_17 {p : Program} {l : Launch} {e : Env} {s : State} {m : MethodId} {args : Array Value} {below : List Frame} {meth : Method} {c : Code} {D : va_G} {dA : Nat → ClassId} {ev : Nat → Nat} {h0 : Hp} {sz : Nat} (C : CxM p s m meth c args (AX dA h0 sz) "LeastSolutions$Model" cX4_clear 3 none) {Qr : Hp → Prop} : ∀ (n : Nat) (a0 : Nat) (v1 : Int32) (h : Hp) (H : Heap) (locs : List Loc) (ls : Array Slot), wp_X4_clear_17 ev Qr n a0 v1 h → wX D dA ev (AX dA h0 sz) s h H locs → lv_has ls 3 [(0, .ref a0), (1, .int v1)] → W p l e rm_X4_clear s m args below meth c H locs 0 0 (MQ below (va_Qv Qr (BX D dA (AX dA h0 sz)) (AX dA h0 sz)) args s 0 0 (AX dA h0 sz)) (F0 m 17 ls []) := by
  intro n
  induction n with
  | zero => intro a0 v1 h H locs ls hw; exact hw.elim
  | succ n17 ih =>
    intro a0 v1 h H locs ls hw hM hl
    have hx := C.1
    have hb := C.2.1
    have hown := C.2.2.2.2.2.1
    have hts := C.2.2.2.2.2.2.1
    unfold wp_X4_clear_17 at hw
    refine lv_iload_n hx hb dX4_clear_17 rfl (lv_at hl 1 rfl) ?_
    refine lv_iconst (v := 4) hx hb dX4_clear_18 (by decide) ?_
    refine lv_icmp_ge (tgt := 58) hx hb dX4_clear_19 (by decide) (fun hc => ?_) (fun hc => ?_)
    · replace hw := hw.1 hc
      exact rX_vret C hM ⟨Nat.le_refl _, Nat.le_refl _⟩ hw dX4_clear_58
    · replace hw := hw.2 hc
      refine lv_aload_n hx hb dX4_clear_22 rfl (lv_at hl 0 rfl) ?_
      have o1 := hw.1
      replace hw := hw.2
      obtain ⟨b2, ebb2, hw⟩ := hw
      refine rX_getRs C hM 3 5 rfl in_X4 (by decide) (by decide) rfl q290 o1 ebb2 dX4_clear_23 ?_
      refine lv_iload_n hx hb dX4_clear_26 rfl (lv_at hl 1 rfl) ?_
      refine lv_iconst (v := 0) hx hb dX4_clear_27 (by decide) ?_
      have o4 := hw.1
      replace hw := hw.2
      have o5 := hw.1
      replace hw := hw.2
      refine rX_iast C hM o4 o5 dX4_clear_28 (fun h3 H locs eσ hM => ?_)
      replace hw := hw h3 eσ
      clear eσ
      refine lv_iconst (v := 0) hx hb dX4_clear_29 (by decide) ?_
      refine lv_istore_n (lv' := [(2, .int 0), (0, .ref a0), (1, .int v1)]) hx hb dX4_clear_30 rfl hl (by decide) rfl (fun ls hl => ?_)
      obtain ⟨n31, hw⟩ := hw
      exact wk_X4_clear_31 C ih n31 a0 v1 0 h3 _ _ ls hw hM (lv_sub hl [1, 2, 0] rfl)
set_option maxHeartbeats 4000000 in
/-- LeastSolutions$Model.clear()V -/
theorem mt_X4_clear (l : Launch) (D : va_G) (dA : Nat → ClassId) (ev : Nat → Nat) (sz : Nat) (h : Hp) (a0 : Nat) (Qr : Hp → Prop) (hw : wp_X4_clear ev h a0 Qr) : Met l yX4_clear (ws_ yX4_clear cX4_clear 3 none) rm_X4_clear (PcX D dA ev h sz [.ref a0]) (va_Qv Qr (BX D dA (AX dA h sz)) (AX dA h sz)) 0 0 (AX dA h sz) := by
  refine Met.ofW (cc := cX4_clear) (maxL := 3) (ret := none) (by decide) rfl ?_
  intro p e s m args below meth c s₁ B hml hv
  obtain ⟨rfl, hsz, hP, hK, hD0, hE⟩ := hv
  subst hsz
  have hts0 := atoms_spec (ws := ws_ yX4_clear cX4_clear 3 none) B.pre
  have C : CxM p s m meth c _ (AX dA h s.heap.size) "LeastSolutions$Model" cX4_clear 3 none := ⟨B.exec, B.bytes, B.returns, B.notSynchronized, hml, findClass_of_methodNamed B.named, fun w h => hts0 w (List.mem_cons_of_mem _ h), fun q h => Or.inr h⟩
  have hM : wX D dA ev (AX dA h s.heap.size) s h s.heap [] := ⟨hK, hP, hD0.self, va_S.rf, hE⟩
  have hx := C.1
  have hb := C.2.1
  have hown := C.2.2.2.2.2.1
  have hts := C.2.2.2.2.2.2.1
  have hl := lv_entry ([.ref a0]) (n := 3) (Nat.le_of_ble_eq_true rfl)
  rw [lg_entry_eq]
  generalize (lg_sl ([.ref a0]) ++ List.replicate (3 - (lg_sl ([.ref a0])).length) Slot.unset).toArray = ls at hl ⊢
  have hl : lv_has ls 3 [(0, .ref a0)] := hl
  unfold wp_X4_clear at hw
  refine lv_aload_n hx hb dX4_clear_0 rfl (lv_at hl 0 rfl) ?_
  refine lv_iconst (v := 0) hx hb dX4_clear_1 (by decide) ?_
  have o2 := hw.1
  replace hw := hw.2
  refine rX_putI C hM 3 0 rfl in_X4 (by decide) (by decide) rfl rfl q266 o2 tyX4 tyX4_ok nmX4 rfl rfl rfl dX4_clear_2 (fun h1 H locs eσ hM => ?_)
  replace hw := hw h1 eσ
  clear eσ
  refine lv_aload_n hx hb dX4_clear_5 rfl (lv_at hl 0 rfl) ?_
  refine lv_iconst (v := 0) hx hb dX4_clear_6 (by decide) ?_
  have o4 := hw.1
  replace hw := hw.2
  refine rX_putI C hM 3 1 rfl in_X4 (by decide) (by decide) rfl rfl q273 o4 tyX4 tyX4_ok nmX4 rfl rfl rfl dX4_clear_7 (fun h3 H locs eσ hM => ?_)
  replace hw := hw h3 eσ
  clear eσ
  refine lv_aload_n hx hb dX4_clear_10 rfl (lv_at hl 0 rfl) ?_
  refine lv_iconst (v := 0) hx hb dX4_clear_11 (by decide) ?_
  have o6 := hw.1
  replace hw := hw.2
  refine rX_putI C hM 3 2 rfl in_X4 (by decide) (by decide) rfl rfl q278 o6 tyX4 tyX4_ok nmX4 rfl rfl rfl dX4_clear_12 (fun h5 H locs eσ hM => ?_)
  replace hw := hw h5 eσ
  clear eσ
  refine lv_iconst (v := 0) hx hb dX4_clear_15 (by decide) ?_
  refine lv_istore_n (lv' := [(1, .int 0), (0, .ref a0)]) hx hb dX4_clear_16 rfl hl (by decide) rfl (fun ls hl => ?_)
  obtain ⟨n17, hw⟩ := hw
  exact wk_X4_clear_17 C  n17 a0 0 h5 _ _ ls hw hM (lv_sub hl [1, 0] rfl)
abbrev rm_X5_least : Room := { frames := 1, cells := 0, slots := 0, locals := 21 }
set_option maxHeartbeats 4000000 in
theorem wk_X5_least_77 {p : Program} {l : Launch} {e : Env} {s : State} {m : MethodId} {args : Array Value} {below : List Frame} {meth : Method} {c : Code} {D : va_G} {dA : Nat → ClassId} {ev : Nat → Nat} {h0 : Hp} {sz : Nat} (C : CxM p s m meth c args (AX dA h0 sz) "LeastSolutions$Lattice" cX5_least 6 (some .int)) {Qr : Int32 → Hp → Prop} {K5 : Nat → Int32 → Int32 → Int32 → Hp → Prop} (hK5 : ∀ (a0 : Nat) (v2 : Int32) (v3 : Int32) (v4 : Int32) (h : Hp) (H : Heap) (locs : List Loc) (ls : Array Slot), K5 a0 v2 v3 v4 h → wX D dA ev (AX dA h0 sz) s h H locs → lv_has ls 6 [(0, .ref a0), (2, .int v2), (3, .int v3), (4, .int v4)] → W p l e rm_X5_least s m args below meth c H locs 0 0 (MQ below (va_Qi Qr (BX D dA (AX dA h0 sz)) (AX dA h0 sz)) args s 0 0 (AX dA h0 sz)) (F0 m 5 ls [])) : ∀ (a0 : Nat) (v2 : Int32) (v4 : Int32) (u0 : Int32) (h : Hp) (H : Heap) (locs : List Loc) (ls : Array Slot), wp_X5_least_77 ev Qr K5 a0 v2 v4 u0 h → wX D dA ev (AX dA h0 sz) s h H locs → lv_has ls 6 [(0, .ref a0), (2, .int v2), (4, .int v4)] → W p l e rm_X5_least s m args below meth c H locs 0 0 (MQ below (va_Qi Qr (BX D dA (AX dA h0 sz)) (AX dA h0 sz)) args s 0 0 (AX dA h0 sz)) (F0 m 77 ls [.int u0]) := by
  intro a0 v2 v4 u0 h H locs ls hw hM hl
  have hx := C.1
  have hb := C.2.1
  have hown := C.2.2.2.2.2.1
  have hts := C.2.2.2.2.2.2.1
  unfold wp_X5_least_77 at hw
  refine lv_istore_n (lv' := [(3, .int u0), (0, .ref a0), (2, .int v2), (4, .int v4)]) hx hb dX5_least_77 rfl hl (by decide) rfl (fun ls hl => ?_)
  obtain ⟨x1, ex1⟩ : ∃ y : Int32, y = v4 + 1 := ⟨_, rfl⟩
  replace hw := hw x1 ex1
  refine lv_iinc (v := x1) (lv' := [(4, .int x1), (3, .int u0), (0, .ref a0), (2, .int v2)]) hx hb dX5_least_78 hl (k := 3) rfl (by rw [ex1]; rfl) (by decide) rfl (fun ls hl => ?_)
  refine lv_goto (tgt := 5) hx hb dX5_least_81 (by decide) ?_
  exact hK5 a0 v2 u0 x1 h _ _ ls hw hM (lv_sub hl [2, 3, 1, 0] rfl)
set_option maxHeartbeats 4000000 in
theorem wk_X5_least_76 {p : Program} {l : Launch} {e : Env} {s : State} {m : MethodId} {args : Array Value} {below : List Frame} {meth : Method} {c : Code} {D : va_G} {dA : Nat → ClassId} {ev : Nat → Nat} {h0 : Hp} {sz : Nat} (C : CxM p s m meth c args (AX dA h0 sz) "LeastSolutions$Lattice" cX5_least 6 (some .int)) {Qr : Int32 → Hp → Prop} {K5 : Nat → Int32 → Int32 → Int32 → Hp → Prop} (hK5 : ∀ (a0 : Nat) (v2 : Int32) (v3 : Int32) (v4 : Int32) (h : Hp) (H : Heap) (locs : List Loc) (ls : Array Slot), K5 a0 v2 v3 v4 h → wX D dA ev (AX dA h0 sz) s h H locs → lv_has ls 6 [(0, .ref a0), (2, .int v2), (3, .int v3), (4, .int v4)] → W p l e rm_X5_least s m args below meth c H locs 0 0 (MQ below (va_Qi Qr (BX D dA (AX dA h0 sz)) (AX dA h0 sz)) args s 0 0 (AX dA h0 sz)) (F0 m 5 ls [])) : ∀ (a0 : Nat) (v2 : Int32) (v3 : Int32) (v4 : Int32) (h : Hp) (H : Heap) (locs : List Loc) (ls : Array Slot), wp_X5_least_76 ev Qr K5 a0 v2 v3 v4 h → wX D dA ev (AX dA h0 sz) s h H locs → lv_has ls 6 [(0, .ref a0), (2, .int v2), (3, .int v3), (4, .int v4)] → W p l e rm_X5_least s m args below meth c H locs 0 0 (MQ below (va_Qi Qr (BX D dA (AX dA h0 sz)) (AX dA h0 sz)) args s 0 0 (AX dA h0 sz)) (F0 m 76 ls []) := by
  intro a0 v2 v3 v4 h H locs ls hw hM hl
  have hx := C.1
  have hb := C.2.1
  have hown := C.2.2.2.2.2.1
  have hts := C.2.2.2.2.2.2.1
  unfold wp_X5_least_76 at hw
  refine lv_iload_n hx hb dX5_least_76 rfl (lv_at hl 2 rfl) ?_
  exact wk_X5_least_77 C hK5 a0 v2 v4 v3 h _ _ ls hw hM (lv_sub hl [0, 1, 3] rfl)
set_option maxHeartbeats 4000000 in
theorem wk_X5_least_50 {p : Program} {l : Launch} {e : Env} {s : State} {m : MethodId} {args : Array Value} {below : List Frame} {meth : Method} {c : Code} {D : va_G} {dA : Nat → ClassId} {ev : Nat → Nat} {h0 : Hp} {sz : Nat} (C : CxM p s m meth c args (AX dA h0 sz) "LeastSolutions$Lattice" cX5_least 6 (some .int)) {Qr : Int32 → Hp → Prop} {K5 : Nat → Int32 → Int32 → Int32 → Hp → Prop} (hK5 : ∀ (a0 : Nat) (v2 : Int32) (v3 : Int32) (v4 : Int32) (h : Hp) (H : Heap) (locs : List Loc) (ls : Array Slot), K5 a0 v2 v3 v4 h → wX D dA ev (AX dA h0 sz) s h H locs → lv_has ls 6 [(0, .ref a0), (2, .int v2), (3, .int v3), (4, .int v4)] → W p l e rm_X5_least s m args below meth c H locs 0 0 (MQ below (va_Qi Qr (BX D dA (AX dA h0 sz)) (AX dA h0 sz)) args s 0 0 (AX dA h0 sz)) (F0 m 5 ls [])) : ∀ (a0 : Nat) (v2 : Int32) (v3 : Int32) (v4 : Int32) (u0 : Int32) (h : Hp) (H : Heap) (locs : List Loc) (ls : Array Slot), wp_X5_least_50 ev Qr K5 a0 v2 v3 v4 u0 h → wX D dA ev (AX dA h0 sz) s h H locs → lv_has ls 6 [(0, .ref a0), (2, .int v2), (3, .int v3), (4, .int v4)] → W p l e rm_X5_least s m args below meth c H locs 0 0 (MQ below (va_Qi Qr (BX D dA (AX dA h0 sz)) (AX dA h0 sz)) args s 0 0 (AX dA h0 sz)) (F0 m 50 ls [.int u0]) := by
  intro a0 v2 v3 v4 u0 h H locs ls hw hM hl
  have hx := C.1
  have hb := C.2.1
  have hown := C.2.2.2.2.2.1
  have hts := C.2.2.2.2.2.2.1
  unfold wp_X5_least_50 at hw
  refine lv_istore (lv' := [(5, .int u0), (0, .ref a0), (2, .int v2), (3, .int v3), (4, .int v4)]) hx hb dX5_least_50 hl (by decide) rfl (fun ls hl => ?_)
  refine lv_aload_n hx hb dX5_least_52 rfl (lv_at hl 1 rfl) ?_
  have o1 := hw.1
  replace hw := hw.2
  obtain ⟨b2, ebb2, hw⟩ := hw
  refine rX_getRs C hM 4 0 rfl in_X5 (by decide) (by decide) rfl q317 o1 ebb2 dX5_least_53 ?_
  refine lv_iload hx hb dX5_least_56 (lv_at hl 4 rfl) ?_
  have o3 := hw.1
  replace hw := hw.2
  have o4 := hw.1
  replace hw := hw.2
  obtain ⟨b5, ebb5, hw⟩ := hw
  refine rX_aalds C hM 5 (by decide) (by decide) o3 o4 ebb5 dX5_least_58 ?_
  refine lv_iload_n hx hb dX5_least_59 rfl (lv_at hl 2 rfl) ?_
  have o6 := hw.1
  replace hw := hw.2
  have o7 := hw.1
  replace hw := hw.2
  refine rX_lald C hM o6 o7 dX5_least_60 ?_
  refine lv_lconst (v := 0) hx hb dX5_least_61 (by decide) ?_
  refine W.lcmp hx hb dX5_least_62 ?_
  refine lv_if_eq (tgt := 76) hx hb dX5_least_63 (by decide) (fun hc => ?_) (fun hc => ?_)
  · replace hw := hw.1 hc
    exact wk_X5_least_76 C hK5 a0 v2 v3 v4 h _ _ ls hw hM (lv_sub hl [1, 2, 3, 4] rfl)
  · replace hw := hw.2 hc
    refine lv_iload hx hb dX5_least_66 (lv_at hl 0 rfl) ?_
    refine lv_if_eq (tgt := 76) hx hb dX5_least_68 (by decide) (fun hc => ?_) (fun hc => ?_)
    · replace hw := hw.1 hc
      exact wk_X5_least_76 C hK5 a0 v2 v3 v4 h _ _ ls hw hM (lv_sub hl [1, 2, 3, 4] rfl)
    · replace hw := hw.2 hc
      refine lv_iload hx hb dX5_least_71 (lv_at hl 4 rfl) ?_
      refine lv_goto (tgt := 77) hx hb dX5_least_73 (by decide) ?_
      exact wk_X5_least_77 C hK5 a0 v2 v4 v4 h _ _ ls hw hM (lv_sub hl [1, 2, 4] rfl)
set_option maxHeartbeats 4000000 in
theorem wk_X5_least_45 {p : Program} {l : Launch} {e : Env} {s : State} {m : MethodId} {args : Array Value} {below : List Frame} {meth : Method} {c : Code} {D : va_G} {dA : Nat → ClassId} {ev : Nat → Nat} {h0 : Hp} {sz : Nat} (C : CxM p s m meth c args (AX dA h0 sz) "LeastSolutions$Lattice" cX5_least 6 (some .int)) {Qr : Int32 → Hp → Prop} {K5 : Nat → Int32 → Int32 → Int32 → Hp → Prop} (hK5 : ∀ (a0 : Nat) (v2 : Int32) (v3 : Int32) (v4 : Int32) (h : Hp) (H : Heap) (locs : List Loc) (ls : Array Slot), K5 a0 v2 v3 v4 h → wX D dA ev (AX dA h0 sz) s h H locs → lv_has ls 6 [(0, .ref a0), (2, .int v2), (3, .int v3), (4, .int v4)] → W p l e rm_X5_least s m args below meth c H locs 0 0 (MQ below (va_Qi Qr (BX D dA (AX dA h0 sz)) (AX dA h0 sz)) args s 0 0 (AX dA h0 sz)) (F0 m 5 ls [])) : ∀ (a0 : Nat) (v2 : Int32) (v3 : Int32) (v4 : Int32) (h : Hp) (H : Heap) (locs : List Loc) (ls : Array Slot), wp_X5_least_45 ev Qr K5 a0 v2 v3 v4 h → wX D dA ev (AX dA h0 sz) s h H locs → lv_has ls 6 [(0, .ref a0), (2, .int v2), (3, .int v3), (4, .int v4)] → W p l e rm_X5_least s m args below meth c H locs 0 0 (MQ below (va_Qi Qr (BX D dA (AX dA h0 sz)) (AX dA h0 sz)) args s 0 0 (AX dA h0 sz)) (F0 m 45 ls []) := by
  intro a0 v2 v3 v4 h H locs ls hw hM hl
  have hx := C.1
  have hb := C.2.1
  have hown := C.2.2.2.2.2.1
  have hts := C.2.2.2.2.2.2.1
  unfold wp_X5_least_45 at hw
  refine lv_iconst (v := 1) hx hb dX5_least_45 (by decide) ?_
  refine lv_goto (tgt := 50) hx hb dX5_least_46 (by decide) ?_
  exact wk_X5_least_50 C hK5 a0 v2 v3 v4 1 h _ _ ls hw hM (lv_sub hl [0, 1, 2, 3] rfl)
set_option maxHeartbeats 4000000 in
theorem wk_X5_least_5 {p : Program} {l : Launch} {e : Env} {s : State} {m : MethodId} {args : Array Value} {below : List Frame} {meth : Method} {c : Code} {D : va_G} {dA : Nat → ClassId} {ev : Nat → Nat} {h0 : Hp} {sz : Nat} (C : CxM p s m meth c args (AX dA h0 sz) "LeastSolutions$Lattice" cX5_least 6 (some .int)) {Qr : Int32 → Hp → Prop} : ∀ (n : Nat) (a0 : Nat) (v2 : Int32) (v3 : Int32) (v4 : Int32) (h : Hp) (H : Heap) (locs : List Loc) (ls : Array Slot), wp_X5_least_5 ev Qr n a0 v2 v3 v4 h → wX D dA ev (AX dA h0 sz) s h H locs → lv_has ls 6 [(0, .ref a0), (2, .int v2), (3, .int v3), (4, .int v4)] → W p l e rm_X5_least s m args below meth c H locs 0 0 (MQ below (va_Qi Qr (BX D dA (AX dA h0 sz)) (AX dA h0 sz)) args s 0 0 (AX dA h0 sz)) (F0 m 5 ls []) := by
  intro n
  induction n with
  | zero => intro a0 v2 v3 v4 h H locs ls hw; exact hw.elim
  | succ n5 ih =>
    intro a0 v2 v3 v4 h H locs ls hw hM hl
    have hx := C.1
    have hb := C.2.1
    have hown := C.2.2.2.2.2.1
    have hts := C.2.2.2.2.2.2.1
    unfold wp_X5_least_5 at hw
    refine lv_iload hx hb dX5_least_5 (lv_at hl 3 rfl) ?_
    refine lv_aload_n hx hb dX5_least_7 rfl (lv_at hl 0 rfl) ?_
    have o1 := hw.1
    replace hw := hw.2
    refine rX_getI C hM 4 2 rfl in_X5 (by decide) (by decide) rfl q319 o1 dX5_least_8 ?_
    refine lv_icmp_ge (tgt := 84) hx hb dX5_least_11 (by decide) (fun hc => ?_) (fun hc => ?_)
    · replace hw := hw.1 hc
      refine lv_iload_n hx hb dX5_least_84 rfl (lv_at hl 2 rfl) ?_
      exact rX_iret C hM ⟨Nat.le_refl _, Nat.le_refl _⟩ hw dX5_least_85
    · replace hw := hw.2 hc
      refine lv_iload_n hx hb dX5_least_14 rfl (lv_at hl 2 rfl) ?_
      refine lv_if_lt (tgt := 45) hx hb dX5_least_15 (by decide) (fun hc => ?_) (fun hc => ?_)
      · replace hw := hw.1 hc
        exact wk_X5_least_45 C ih a0 v2 v3 v4 h _ _ ls hw hM (lv_sub hl [0, 1, 2, 3] rfl)
      · replace hw := hw.2 hc
        refine lv_aload_n hx hb dX5_least_18 rfl (lv_at hl 0 rfl) ?_
        have o2 := hw.1
        replace hw := hw.2
        obtain ⟨b3, ebb3, hw⟩ := hw
        refine rX_getRs C hM 4 0 rfl in_X5 (by decide) (by decide) rfl q317 o2 ebb3 dX5_least_19 ?_
        refine lv_iload hx hb dX5_least_22 (lv_at hl 3 rfl) ?_
        have o4 := hw.1
        replace hw := hw.2
        have o5 := hw.1
        replace hw := hw.2
        obtain ⟨b6, ebb6, hw⟩ := hw
        refine rX_aalds C hM 5 (by decide) (by decide) o4 o5 ebb6 dX5_least_24 ?_
        refine lv_iload_n hx hb dX5_least_25 rfl (lv_at hl 1 rfl) ?_
        have o7 := hw.1
        replace hw := hw.2
        have o8 := hw.1
        replace hw := hw.2
        refine rX_lald C hM o7 o8 dX5_least_26 ?_
        refine rX_gol C hM (runX_S C hM hl.1 1 (As := [.long (hJ h b6 v2)]) (mt_J7_abs_2 l D dA ev _ h (hJ h b6 v2)  _ hw) (lw_S q641 q642 q94 q643) rfl rfl (by decide +kernel) ⟨Nat.le_of_ble_eq_true rfl, Nat.le_of_ble_eq_true rfl⟩ rfl (Nat.le_of_ble_eq_true rfl) rfl dX5_least_27 ⟨Nat.le_refl _, Nat.le_refl _⟩) (fun y10 h9 H locs hw hM => ?_)
        refine lv_aload_n hx hb dX5_least_30 rfl (lv_at hl 0 rfl) ?_
        have o11 := hw.1
        replace hw := hw.2
        obtain ⟨b12, ebb12, hw⟩ := hw
        refine rX_getRs C hM 4 0 rfl in_X5 (by decide) (by decide) rfl q317 o11 ebb12 dX5_least_31 ?_
        refine lv_iload_n hx hb dX5_least_34 rfl (lv_at hl 2 rfl) ?_
        have o13 := hw.1
        replace hw := hw.2
        have o14 := hw.1
        replace hw := hw.2
        obtain ⟨b15, ebb15, hw⟩ := hw
        refine rX_aalds C hM 5 (by decide) (by decide) o13 o14 ebb15 dX5_least_35 ?_
        refine lv_iload_n hx hb dX5_least_36 rfl (lv_at hl 1 rfl) ?_
        have o16 := hw.1
        replace hw := hw.2
        have o17 := hw.1
        replace hw := hw.2
        refine rX_lald C hM o16 o17 dX5_least_37 ?_
        refine rX_gol C hM (runX_S C hM hl.1 1 (As := [.long (hJ h9 b15 v2)]) (mt_J7_abs_2 l D dA ev _ h9 (hJ h9 b15 v2)  _ hw) (lw_S q641 q642 q94 q643) rfl rfl (by decide +kernel) ⟨Nat.le_of_ble_eq_true rfl, Nat.le_of_ble_eq_true rfl⟩ rfl (Nat.le_of_ble_eq_true rfl) rfl dX5_least_38 ⟨Nat.le_refl _, Nat.le_refl _⟩) (fun y19 h18 H locs hw hM => ?_)
        refine W.lcmp hx hb dX5_least_41 ?_
        refine lv_if_ge (tgt := 49) hx hb dX5_least_42 (by decide) (fun hc => ?_) (fun hc => ?_)
        · replace hw := hw.1 hc
          refine lv_iconst (v := 0) hx hb dX5_least_49 (by decide) ?_
          exact wk_X5_least_50 C ih a0 v2 v3 v4 0 h18 _ _ ls hw hM (lv_sub hl [0, 1, 2, 3] rfl)
        · replace hw := hw.2 hc
          exact wk_X5_least_45 C ih a0 v2 v3 v4 h18 _ _ ls hw hM (lv_sub hl [0, 1, 2, 3] rfl)
set_option maxHeartbeats 4000000 in
/-- LeastSolutions$Lattice.least(II)I -/
theorem mt_X5_least (l : Launch) (D : va_G) (dA : Nat → ClassId) (ev : Nat → Nat) (sz : Nat) (h : Hp) (a0 : Nat) (p1 : Int32) (p2 : Int32) (Qr : Int32 → Hp → Prop) (hw : wp_X5_least ev h a0 p1 p2 Qr) : Met l yX5_least (ws_ yX5_least cX5_least 6 (some .int)) rm_X5_least (PcX D dA ev h sz [.ref a0, .int p1, .int p2]) (va_Qi Qr (BX D dA (AX dA h sz)) (AX dA h sz)) 0 0 (AX dA h sz) := by
  refine Met.ofW (cc := cX5_least) (maxL := 6) (ret := (some .int)) (by decide) rfl ?_
  intro p e s m args below meth c s₁ B hml hv
  obtain ⟨rfl, hsz, hP, hK, hD0, hE⟩ := hv
  subst hsz
  have hts0 := atoms_spec (ws := ws_ yX5_least cX5_least 6 (some .int)) B.pre
  have C : CxM p s m meth c _ (AX dA h s.heap.size) "LeastSolutions$Lattice" cX5_least 6 (some .int) := ⟨B.exec, B.bytes, B.returns, B.notSynchronized, hml, findClass_of_methodNamed B.named, fun w h => hts0 w (List.mem_cons_of_mem _ h), fun q h => Or.inr h⟩
  have hM : wX D dA ev (AX dA h s.heap.size) s h s.heap [] := ⟨hK, hP, hD0.self, va_S.rf, hE⟩
  have hx := C.1
  have hb := C.2.1
  have hown := C.2.2.2.2.2.1
  have hts := C.2.2.2.2.2.2.1
  have hl := lv_entry ([.ref a0, .int p1, .int p2]) (n := 6) (Nat.le_of_ble_eq_true rfl)
  rw [lg_entry_eq]
  generalize (lg_sl ([.ref a0, .int p1, .int p2]) ++ List.replicate (6 - (lg_sl ([.ref a0, .int p1, .int p2])).length) Slot.unset).toArray = ls at hl ⊢
  have hl : lv_has ls 6 [(0, .ref a0), (1, .int p1), (2, .int p2)] := hl
  unfold wp_X5_least at hw
  refine lv_iconst (v := (-1)) hx hb dX5_least_0 (by decide) ?_
  refine lv_istore_n (lv' := [(3, .int (-1)), (0, .ref a0), (1, .int p1), (2, .int p2)]) hx hb dX5_least_1 rfl hl (by decide) rfl (fun ls hl => ?_)
  refine lv_iload_n hx hb dX5_least_2 rfl (lv_at hl 2 rfl) ?_
  refine lv_istore (lv' := [(4, .int p1), (3, .int (-1)), (0, .ref a0), (1, .int p1), (2, .int p2)]) hx hb dX5_least_3 hl (by decide) rfl (fun ls hl => ?_)
  obtain ⟨n5, hw⟩ := hw
  exact wk_X5_least_5 C  n5 a0 p2 (-1) p1 h _ _ ls hw hM (lv_sub hl [2, 4, 1, 0] rfl)
abbrev rm_X5_exchange : Room := { frames := 0, cells := 0, slots := 0, locals := 0 }
set_option maxHeartbeats 4000000 in
/-- LeastSolutions$Lattice.exchange(II)V -/
theorem mt_X5_exchange (l : Launch) (D : va_G) (dA : Nat → ClassId) (ev : Nat → Nat) (sz : Nat) (h : Hp) (a0 : Nat) (p1 : Int32) (p2 : Int32) (Qr : Hp → Prop) (hw : wp_X5_exchange ev h a0 p1 p2 Qr) : Met l yX5_exchange (ws_ yX5_exchange cX5_exchange 4 none) rm_X5_exchange (PcX D dA ev h sz [.ref a0, .int p1, .int p2]) (va_Qv Qr (BX D dA (AX dA h sz)) (AX dA h sz)) 0 0 (AX dA h sz) := by
  refine Met.ofW (cc := cX5_exchange) (maxL := 4) (ret := none) (by decide) rfl ?_
  intro p e s m args below meth c s₁ B hml hv
  obtain ⟨rfl, hsz, hP, hK, hD0, hE⟩ := hv
  subst hsz
  have hts0 := atoms_spec (ws := ws_ yX5_exchange cX5_exchange 4 none) B.pre
  have C : CxM p s m meth c _ (AX dA h s.heap.size) "LeastSolutions$Lattice" cX5_exchange 4 none := ⟨B.exec, B.bytes, B.returns, B.notSynchronized, hml, findClass_of_methodNamed B.named, fun w h => hts0 w (List.mem_cons_of_mem _ h), fun q h => Or.inr h⟩
  have hM : wX D dA ev (AX dA h s.heap.size) s h s.heap [] := ⟨hK, hP, hD0.self, va_S.rf, hE⟩
  have hx := C.1
  have hb := C.2.1
  have hown := C.2.2.2.2.2.1
  have hts := C.2.2.2.2.2.2.1
  have hl := lv_entry ([.ref a0, .int p1, .int p2]) (n := 4) (Nat.le_of_ble_eq_true rfl)
  rw [lg_entry_eq]
  generalize (lg_sl ([.ref a0, .int p1, .int p2]) ++ List.replicate (4 - (lg_sl ([.ref a0, .int p1, .int p2])).length) Slot.unset).toArray = ls at hl ⊢
  have hl : lv_has ls 4 [(0, .ref a0), (1, .int p1), (2, .int p2)] := hl
  unfold wp_X5_exchange at hw
  refine lv_aload_n hx hb dX5_exchange_0 rfl (lv_at hl 0 rfl) ?_
  have o1 := hw.1
  replace hw := hw.2
  obtain ⟨b2, ebb2, hw⟩ := hw
  refine rX_getRs C hM 4 0 rfl in_X5 (by decide) (by decide) rfl q317 o1 ebb2 dX5_exchange_1 ?_
  refine lv_iload_n hx hb dX5_exchange_4 rfl (lv_at hl 1 rfl) ?_
  have o3 := hw.1
  replace hw := hw.2
  have o4 := hw.1
  replace hw := hw.2
  obtain ⟨b5, ebb5, hw⟩ := hw
  refine rX_aalds C hM 5 (by decide) (by decide) o3 o4 ebb5 dX5_exchange_5 ?_
  refine lv_astore_n (lv' := [(3, .ref b5), (0, .ref a0), (1, .int p1), (2, .int p2)]) hx hb dX5_exchange_6 rfl hl (by decide) rfl (fun ls hl => ?_)
  refine lv_aload_n hx hb dX5_exchange_7 rfl (lv_at hl 1 rfl) ?_
  have o6 := hw.1
  replace hw := hw.2
  obtain ⟨b7, ebb7, hw⟩ := hw
  refine rX_getRs C hM 4 0 rfl in_X5 (by decide) (by decide) rfl q317 o6 ebb7 dX5_exchange_8 ?_
  refine lv_iload_n hx hb dX5_exchange_11 rfl (lv_at hl 2 rfl) ?_
  refine lv_aload_n hx hb dX5_exchange_12 rfl (lv_at hl 1 rfl) ?_
  have o8 := hw.1
  replace hw := hw.2
  obtain ⟨b9, ebb9, hw⟩ := hw
  refine rX_getRs C hM 4 0 rfl in_X5 (by decide) (by decide) rfl q317 o8 ebb9 dX5_exchange_13 ?_
  refine lv_iload_n hx hb dX5_exchange_16 rfl (lv_at hl 3 rfl) ?_
  have o10 := hw.1
  replace hw := hw.2
  have o11 := hw.1
  replace hw := hw.2
  obtain ⟨b12, ebb12, hw⟩ := hw
  refine rX_aalds C hM 5 (by decide) (by decide) o10 o11 ebb12 dX5_exchange_17 ?_
  have o14 := hw.1
  replace hw := hw.2
  have o15 := hw.1
  replace hw := hw.2
  have o16 := hw.1
  replace hw := hw.2
  refine rX_aastJ C hM o14 o15 o16 dX5_exchange_18 (fun h13 H locs eσ hM => ?_)
  replace hw := hw h13 eσ
  clear eσ
  refine lv_aload_n hx hb dX5_exchange_19 rfl (lv_at hl 1 rfl) ?_
  have o17 := hw.1
  replace hw := hw.2
  obtain ⟨b18, ebb18, hw⟩ := hw
  refine rX_getRs C hM 4 0 rfl in_X5 (by decide) (by decide) rfl q317 o17 ebb18 dX5_exchange_20 ?_
  refine lv_iload_n hx hb dX5_exchange_23 rfl (lv_at hl 3 rfl) ?_
  refine lv_aload_n hx hb dX5_exchange_24 rfl (lv_at hl 0 rfl) ?_
  have o20 := hw.1
  replace hw := hw.2
  have o21 := hw.1
  replace hw := hw.2
  have o22 := hw.1
  replace hw := hw.2
  refine rX_aastJ C hM o20 o21 o22 dX5_exchange_25 (fun h19 H locs eσ hM => ?_)
  replace hw := hw h19 eσ
  clear eσ
  exact rX_vret C hM ⟨Nat.le_refl _, Nat.le_refl _⟩ hw dX5_exchange_26
abbrev rm_X5_turn : Room := { frames := 0, cells := 0, slots := 0, locals := 0 }
set_option maxHeartbeats 4000000 in
theorem wk_X5_turn_2 {p : Program} {l : Launch} {e : Env} {s : State} {m : MethodId} {args : Array Value} {below : List Frame} {meth : Method} {c : Code} {D : va_G} {dA : Nat → ClassId} {ev : Nat → Nat} {h0 : Hp} {sz : Nat} (C : CxM p s m meth c args (AX dA h0 sz) "LeastSolutions$Lattice" cX5_turn 3 none) {Qr : Hp → Prop} : ∀ (n : Nat) (a0 : Nat) (v1 : Int32) (v2 : Int32) (h : Hp) (H : Heap) (locs : List Loc) (ls : Array Slot), wp_X5_turn_2 ev Qr n a0 v1 v2 h → wX D dA ev (AX dA h0 sz) s h H locs → lv_has ls 3 [(0, .ref a0), (1, .int v1), (2, .int v2)] → W p l e rm_X5_turn s m args below meth c H locs 0 0 (MQ below (va_Qv Qr (BX D dA (AX dA h0 sz)) (AX dA h0 sz)) args s 0 0 (AX dA h0 sz)) (F0 m 2 ls []) := by
  intro n
  induction n with
  | zero => intro a0 v1 v2 h H locs ls hw; exact hw.elim
  | succ n2 ih =>
    intro a0 v1 v2 h H locs ls hw hM hl
    have hx := C.1
    have hb := C.2.1
    have hown := C.2.2.2.2.2.1
    have hts := C.2.2.2.2.2.2.1
    unfold wp_X5_turn_2 at hw
    refine lv_iload_n hx hb dX5_turn_2 rfl (lv_at hl 2 rfl) ?_
    refine lv_bipush (v := 10) hx hb dX5_turn_3 (by decide) ?_
    refine lv_icmp_ge (tgt := 31) hx hb dX5_turn_5 (by decide) (fun hc => ?_) (fun hc => ?_)
    · replace hw := hw.1 hc
      exact rX_vret C hM ⟨Nat.le_refl _, Nat.le_refl _⟩ hw dX5_turn_31
    · replace hw := hw.2 hc
      refine lv_aload_n hx hb dX5_turn_8 rfl (lv_at hl 0 rfl) ?_
      have o1 := hw.1
      replace hw := hw.2
      obtain ⟨b2, ebb2, hw⟩ := hw
      refine rX_getRs C hM 4 0 rfl in_X5 (by decide) (by decide) rfl q317 o1 ebb2 dX5_turn_9 ?_
      refine lv_iload_n hx hb dX5_turn_12 rfl (lv_at hl 1 rfl) ?_
      have o3 := hw.1
      replace hw := hw.2
      have o4 := hw.1
      replace hw := hw.2
      obtain ⟨b5, ebb5, hw⟩ := hw
      refine rX_aalds C hM 5 (by decide) (by decide) o3 o4 ebb5 dX5_turn_13 ?_
      refine lv_iload_n hx hb dX5_turn_14 rfl (lv_at hl 2 rfl) ?_
      refine lv_aload_n hx hb dX5_turn_15 rfl (lv_at hl 0 rfl) ?_
      have o6 := hw.1
      replace hw := hw.2
      obtain ⟨b7, ebb7, hw⟩ := hw
      refine rX_getRs C hM 4 0 rfl in_X5 (by decide) (by decide) rfl q317 o6 ebb7 dX5_turn_16 ?_
      refine lv_iload_n hx hb dX5_turn_19 rfl (lv_at hl 1 rfl) ?_
      have o8 := hw.1
      replace hw := hw.2
      have o9 := hw.1
      replace hw := hw.2
      obtain ⟨b10, ebb10, hw⟩ := hw
      refine rX_aalds C hM 5 (by decide) (by decide) o8 o9 ebb10 dX5_turn_20 ?_
      refine lv_iload_n hx hb dX5_turn_21 rfl (lv_at hl 2 rfl) ?_
      have o11 := hw.1
      replace hw := hw.2
      have o12 := hw.1
      replace hw := hw.2
      refine rX_lald C hM o11 o12 dX5_turn_22 ?_
      refine lv_lneg hx hb dX5_turn_23 ?_
      have o14 := hw.1
      replace hw := hw.2
      have o15 := hw.1
      replace hw := hw.2
      refine rX_last C hM o14 o15 dX5_turn_24 (fun h13 H locs eσ hM => ?_)
      replace hw := hw h13 eσ
      clear eσ
      obtain ⟨x16, ex16⟩ : ∃ y : Int32, y = v2 + 1 := ⟨_, rfl⟩
      replace hw := hw x16 ex16
      refine lv_iinc (v := x16) (lv' := [(2, .int x16), (0, .ref a0), (1, .int v1)]) hx hb dX5_turn_25 hl (k := 2) rfl (by rw [ex16]; rfl) (by decide) rfl (fun ls hl => ?_)
      refine lv_goto (tgt := 2) hx hb dX5_turn_28 (by decide) ?_
      exact ih a0 v1 x16 h13 _ _ ls hw hM (lv_sub hl [1, 2, 0] rfl)
set_option maxHeartbeats 4000000 in
/-- LeastSolutions$Lattice.turn(I)V -/
theorem mt_X5_turn (l : Launch) (D : va_G) (dA : Nat → ClassId) (ev : Nat → Nat) (sz : Nat) (h : Hp) (a0 : Nat) (p1 : Int32) (Qr : Hp → Prop) (hw : wp_X5_turn ev h a0 p1 Qr) : Met l yX5_turn (ws_ yX5_turn cX5_turn 3 none) rm_X5_turn (PcX D dA ev h sz [.ref a0, .int p1]) (va_Qv Qr (BX D dA (AX dA h sz)) (AX dA h sz)) 0 0 (AX dA h sz) := by
  refine Met.ofW (cc := cX5_turn) (maxL := 3) (ret := none) (by decide) rfl ?_
  intro p e s m args below meth c s₁ B hml hv
  obtain ⟨rfl, hsz, hP, hK, hD0, hE⟩ := hv
  subst hsz
  have hts0 := atoms_spec (ws := ws_ yX5_turn cX5_turn 3 none) B.pre
  have C : CxM p s m meth c _ (AX dA h s.heap.size) "LeastSolutions$Lattice" cX5_turn 3 none := ⟨B.exec, B.bytes, B.returns, B.notSynchronized, hml, findClass_of_methodNamed B.named, fun w h => hts0 w (List.mem_cons_of_mem _ h), fun q h => Or.inr h⟩
  have hM : wX D dA ev (AX dA h s.heap.size) s h s.heap [] := ⟨hK, hP, hD0.self, va_S.rf, hE⟩
  have hx := C.1
  have hb := C.2.1
  have hown := C.2.2.2.2.2.1
  have hts := C.2.2.2.2.2.2.1
  have hl := lv_entry ([.ref a0, .int p1]) (n := 3) (Nat.le_of_ble_eq_true rfl)
  rw [lg_entry_eq]
  generalize (lg_sl ([.ref a0, .int p1]) ++ List.replicate (3 - (lg_sl ([.ref a0, .int p1])).length) Slot.unset).toArray = ls at hl ⊢
  have hl : lv_has ls 3 [(0, .ref a0), (1, .int p1)] := hl
  unfold wp_X5_turn at hw
  refine lv_iconst (v := 0) hx hb dX5_turn_0 (by decide) ?_
  refine lv_istore_n (lv' := [(2, .int 0), (0, .ref a0), (1, .int p1)]) hx hb dX5_turn_1 rfl hl (by decide) rfl (fun ls hl => ?_)
  obtain ⟨n2, hw⟩ := hw
  exact wk_X5_turn_2 C  n2 a0 p1 0 h _ _ ls hw hM (lv_sub hl [1, 2, 0] rfl)
abbrev rm_X5_add : Room := { frames := 0, cells := 0, slots := 0, locals := 0 }
set_option maxHeartbeats 4000000 in
theorem wk_X5_add_3 {p : Program} {l : Launch} {e : Env} {s : State} {m : MethodId} {args : Array Value} {below : List Frame} {meth : Method} {c : Code} {D : va_G} {dA : Nat → ClassId} {ev : Nat → Nat} {h0 : Hp} {sz : Nat} (C : CxM p s m meth c args (AX dA h0 sz) "LeastSolutions$Lattice" cX5_add 6 none) {Qr : Hp → Prop} : ∀ (n : Nat) (a0 : Nat) (v1 : Int32) (v2 : Int32) (v3 : Int64) (v5 : Int32) (h : Hp) (H : Heap) (locs : List Loc) (ls : Array Slot), wp_X5_add_3 ev Qr n a0 v1 v2 v3 v5 h → wX D dA ev (AX dA h0 sz) s h H locs → lv_has ls 6 [(0, .ref a0), (1, .int v1), (2, .int v2), (3, .long v3), (5, .int v5)] → W p l e rm_X5_add s m args below meth c H locs 0 0 (MQ below (va_Qv Qr (BX D dA (AX dA h0 sz)) (AX dA h0 sz)) args s 0 0 (AX dA h0 sz)) (F0 m 3 ls []) := by
  intro n
  induction n with
  | zero => intro a0 v1 v2 v3 v5 h H locs ls hw; exact hw.elim
  | succ n3 ih =>
    intro a0 v1 v2 v3 v5 h H locs ls hw hM hl
    have hx := C.1
    have hb := C.2.1
    have hown := C.2.2.2.2.2.1
    have hts := C.2.2.2.2.2.2.1
    unfold wp_X5_add_3 at hw
    refine lv_iload hx hb dX5_add_3 (lv_at hl 4 rfl) ?_
    refine lv_bipush (v := 10) hx hb dX5_add_5 (by decide) ?_
    refine lv_icmp_ge (tgt := 39) hx hb dX5_add_7 (by decide) (fun hc => ?_) (fun hc => ?_)
    · replace hw := hw.1 hc
      exact rX_vret C hM ⟨Nat.le_refl _, Nat.le_refl _⟩ hw dX5_add_39
    · replace hw := hw.2 hc
      refine lv_aload_n hx hb dX5_add_10 rfl (lv_at hl 0 rfl) ?_
      have o1 := hw.1
      replace hw := hw.2
      obtain ⟨b2, ebb2, hw⟩ := hw
      refine rX_getRs C hM 4 0 rfl in_X5 (by decide) (by decide) rfl q317 o1 ebb2 dX5_add_11 ?_
      refine lv_iload_n hx hb dX5_add_14 rfl (lv_at hl 1 rfl) ?_
      have o3 := hw.1
      replace hw := hw.2
      have o4 := hw.1
      replace hw := hw.2
      obtain ⟨b5, ebb5, hw⟩ := hw
      refine rX_aalds C hM 5 (by decide) (by decide) o3 o4 ebb5 dX5_add_15 ?_
      refine lv_iload hx hb dX5_add_16 (lv_at hl 4 rfl) ?_
      refine lv_dup2_11 hx hb dX5_add_18 rfl rfl ?_
      have o6 := hw.1
      replace hw := hw.2
      have o7 := hw.1
      replace hw := hw.2
      refine rX_lald C hM o6 o7 dX5_add_19 ?_
      refine lv_lload_n hx hb dX5_add_20 rfl (lv_at hl 3 rfl) ?_
      refine lv_aload_n hx hb dX5_add_21 rfl (lv_at hl 0 rfl) ?_
      have o8 := hw.1
      replace hw := hw.2
      obtain ⟨b9, ebb9, hw⟩ := hw
      refine rX_getRs C hM 4 0 rfl in_X5 (by decide) (by decide) rfl q317 o8 ebb9 dX5_add_22 ?_
      refine lv_iload_n hx hb dX5_add_25 rfl (lv_at hl 2 rfl) ?_
      have o10 := hw.1
      replace hw := hw.2
      have o11 := hw.1
      replace hw := hw.2
      obtain ⟨b12, ebb12, hw⟩ := hw
      refine rX_aalds C hM 5 (by decide) (by decide) o10 o11 ebb12 dX5_add_26 ?_
      refine lv_iload hx hb dX5_add_27 (lv_at hl 4 rfl) ?_
      have o13 := hw.1
      replace hw := hw.2
      have o14 := hw.1
      replace hw := hw.2
      refine rX_lald C hM o13 o14 dX5_add_29 ?_
      refine lv_lmul hx hb dX5_add_30 ?_
      refine lv_ladd hx hb dX5_add_31 ?_
      have o16 := hw.1
      replace hw := hw.2
      have o17 := hw.1
      replace hw := hw.2
      refine rX_last C hM o16 o17 dX5_add_32 (fun h15 H locs eσ hM => ?_)
      replace hw := hw h15 eσ
      clear eσ
      obtain ⟨x18, ex18⟩ : ∃ y : Int32, y = v5 + 1 := ⟨_, rfl⟩
      replace hw := hw x18 ex18
      refine lv_iinc (v := x18) (lv' := [(5, .int x18), (0, .ref a0), (1, .int v1), (2, .int v2), (3, .long v3)]) hx hb dX5_add_33 hl (k := 4) rfl (by rw [ex18]; rfl) (by decide) rfl (fun ls hl => ?_)
      refine lv_goto (tgt := 3) hx hb dX5_add_36 (by decide) ?_
      exact ih a0 v1 v2 v3 x18 h15 _ _ ls hw hM (lv_sub hl [1, 2, 3, 4, 0] rfl)
set_option maxHeartbeats 4000000 in
/-- LeastSolutions$Lattice.add(IIJ)V -/
theorem mt_X5_add (l : Launch) (D : va_G) (dA : Nat → ClassId) (ev : Nat → Nat) (sz : Nat) (h : Hp) (a0 : Nat) (p1 : Int32) (p2 : Int32) (p3 : Int64) (Qr : Hp → Prop) (hw : wp_X5_add ev h a0 p1 p2 p3 Qr) : Met l yX5_add (ws_ yX5_add cX5_add 6 none) rm_X5_add (PcX D dA ev h sz [.ref a0, .int p1, .int p2, .long p3]) (va_Qv Qr (BX D dA (AX dA h sz)) (AX dA h sz)) 0 0 (AX dA h sz) := by
  refine Met.ofW (cc := cX5_add) (maxL := 6) (ret := none) (by decide) rfl ?_
  intro p e s m args below meth c s₁ B hml hv
  obtain ⟨rfl, hsz, hP, hK, hD0, hE⟩ := hv
  subst hsz
  have hts0 := atoms_spec (ws := ws_ yX5_add cX5_add 6 none) B.pre
  have C : CxM p s m meth c _ (AX dA h s.heap.size) "LeastSolutions$Lattice" cX5_add 6 none := ⟨B.exec, B.bytes, B.returns, B.notSynchronized, hml, findClass_of_methodNamed B.named, fun w h => hts0 w (List.mem_cons_of_mem _ h), fun q h => Or.inr h⟩
  have hM : wX D dA ev (AX dA h s.heap.size) s h s.heap [] := ⟨hK, hP, hD0.self, va_S.rf, hE⟩
  have hx := C.1
  have hb := C.2.1
  have hown := C.2.2.2.2.2.1
  have hts := C.2.2.2.2.2.2.1
  have hl := lv_entry ([.ref a0, .int p1, .int p2, .long p3]) (n := 6) (Nat.le_of_ble_eq_true rfl)
  rw [lg_entry_eq]
  generalize (lg_sl ([.ref a0, .int p1, .int p2, .long p3]) ++ List.replicate (6 - (lg_sl ([.ref a0, .int p1, .int p2, .long p3])).length) Slot.unset).toArray = ls at hl ⊢
  have hl : lv_has ls 6 [(0, .ref a0), (1, .int p1), (2, .int p2), (3, .long p3)] := hl
  unfold wp_X5_add at hw
  refine lv_iconst (v := 0) hx hb dX5_add_0 (by decide) ?_
  refine lv_istore (lv' := [(5, .int 0), (0, .ref a0), (1, .int p1), (2, .int p2), (3, .long p3)]) hx hb dX5_add_1 hl (by decide) rfl (fun ls hl => ?_)
  obtain ⟨n3, hw⟩ := hw
  exact wk_X5_add_3 C  n3 a0 p1 p2 p3 0 h _ _ ls hw hM (lv_sub hl [1, 2, 3, 4, 0] rfl)
abbrev rm_X5_gather : Room := { frames := 2, cells := 0, slots := 0, locals := 46 }
set_option maxHeartbeats 4000000 in
theorem wk_X5_gather_122 {p : Program} {l : Launch} {e : Env} {s : State} {m : MethodId} {args : Array Value} {below : List Frame} {meth : Method} {c : Code} {D : va_G} {dA : Nat → ClassId} {ev : Nat → Nat} {h0 : Hp} {sz : Nat} (C : CxM p s m meth c args (AX dA h0 sz) "LeastSolutions$Lattice" cX5_gather 5 (some .boolean)) {Qr : Int32 → Hp → Prop} : ∀ (a0 : Nat) (u0 : Int32) (h : Hp) (H : Heap) (locs : List Loc) (ls : Array Slot), wp_X5_gather_122 ev Qr a0 u0 h → wX D dA ev (AX dA h0 sz) s h H locs → lv_has ls 5 [(0, .ref a0)] → W p l e rm_X5_gather s m args below meth c H locs 0 0 (MQ below (va_Qi Qr (BX D dA (AX dA h0 sz)) (AX dA h0 sz)) args s 0 0 (AX dA h0 sz)) (F0 m 122 ls [.int u0]) := by
  intro a0 u0 h H locs ls hw hM hl
  have hx := C.1
  have hb := C.2.1
  have hown := C.2.2.2.2.2.1
  have hts := C.2.2.2.2.2.2.1
  unfold wp_X5_gather_122 at hw
  exact rX_zret C hM ⟨Nat.le_refl _, Nat.le_refl _⟩ hw dX5_gather_122
set_option maxHeartbeats 4000000 in
theorem wk_X5_gather_107 {p : Program} {l : Launch} {e : Env} {s : State} {m : MethodId} {args : Array Value} {below : List Frame} {meth : Method} {c : Code} {D : va_G} {dA : Nat → ClassId} {ev : Nat → Nat} {h0 : Hp} {sz : Nat} (C : CxM p s m meth c args (AX dA h0 sz) "LeastSolutions$Lattice" cX5_gather 5 (some .boolean)) {Qr : Int32 → Hp → Prop} {K7 : Nat → Int32 → Int32 → Int32 → Hp → Prop} (hK7 : ∀ (a0 : Nat) (v1 : Int32) (v2 : Int32) (v3 : Int32) (h : Hp) (H : Heap) (locs : List Loc) (ls : Array Slot), K7 a0 v1 v2 v3 h → wX D dA ev (AX dA h0 sz) s h H locs → lv_has ls 5 [(0, .ref a0), (1, .int v1), (2, .int v2), (3, .int v3)] → W p l e rm_X5_gather s m args below meth c H locs 0 0 (MQ below (va_Qi Qr (BX D dA (AX dA h0 sz)) (AX dA h0 sz)) args s 0 0 (AX dA h0 sz)) (F0 m 7 ls [])) : ∀ (a0 : Nat) (v1 : Int32) (v2 : Int32) (u0 : Int32) (h : Hp) (H : Heap) (locs : List Loc) (ls : Array Slot), wp_X5_gather_107 ev Qr K7 a0 v1 v2 u0 h → wX D dA ev (AX dA h0 sz) s h H locs → lv_has ls 5 [(0, .ref a0), (1, .int v1), (2, .int v2)] → W p l e rm_X5_gather s m args below meth c H locs 0 0 (MQ below (va_Qi Qr (BX D dA (AX dA h0 sz)) (AX dA h0 sz)) args s 0 0 (AX dA h0 sz)) (F0 m 107 ls [.int u0]) := by
  intro a0 v1 v2 u0 h H locs ls hw hM hl
  have hx := C.1
  have hb := C.2.1
  have hown := C.2.2.2.2.2.1
  have hts := C.2.2.2.2.2.2.1
  unfold wp_X5_gather_107 at hw
  refine lv_istore_n (lv' := [(3, .int u0), (0, .ref a0), (1, .int v1), (2, .int v2)]) hx hb dX5_gather_107 rfl hl (by decide) rfl (fun ls hl => ?_)
  refine lv_goto (tgt := 7) hx hb dX5_gather_108 (by decide) ?_
  exact hK7 a0 v1 v2 u0 h _ _ ls hw hM (lv_sub hl [1, 2, 3, 0] rfl)
set_option maxHeartbeats 4000000 in
theorem wk_X5_gather_40 {p : Program} {l : Launch} {e : Env} {s : State} {m : MethodId} {args : Array Value} {below : List Frame} {meth : Method} {c : Code} {D : va_G} {dA : Nat → ClassId} {ev : Nat → Nat} {h0 : Hp} {sz : Nat} (C : CxM p s m meth c args (AX dA h0 sz) "LeastSolutions$Lattice" cX5_gather 5 (some .boolean)) {Qr : Int32 → Hp → Prop} {K7 : Nat → Int32 → Int32 → Int32 → Hp → Prop} (hK7 : ∀ (a0 : Nat) (v1 : Int32) (v2 : Int32) (v3 : Int32) (h : Hp) (H : Heap) (locs : List Loc) (ls : Array Slot), K7 a0 v1 v2 v3 h → wX D dA ev (AX dA h0 sz) s h H locs → lv_has ls 5 [(0, .ref a0), (1, .int v1), (2, .int v2), (3, .int v3)] → W p l e rm_X5_gather s m args below meth c H locs 0 0 (MQ below (va_Qi Qr (BX D dA (AX dA h0 sz)) (AX dA h0 sz)) args s 0 0 (AX dA h0 sz)) (F0 m 7 ls [])) : ∀ (n : Nat) (a0 : Nat) (v1 : Int32) (v2 : Int32) (v4 : Int32) (h : Hp) (H : Heap) (locs : List Loc) (ls : Array Slot), wp_X5_gather_40 ev Qr K7 n a0 v1 v2 v4 h → wX D dA ev (AX dA h0 sz) s h H locs → lv_has ls 5 [(0, .ref a0), (1, .int v1), (2, .int v2), (4, .int v4)] → W p l e rm_X5_gather s m args below meth c H locs 0 0 (MQ below (va_Qi Qr (BX D dA (AX dA h0 sz)) (AX dA h0 sz)) args s 0 0 (AX dA h0 sz)) (F0 m 40 ls []) := by
  intro n
  induction n with
  | zero => intro a0 v1 v2 v4 h H locs ls hw; exact hw.elim
  | succ n40 ih =>
    intro a0 v1 v2 v4 h H locs ls hw hM hl
    have hx := C.1
    have hb := C.2.1
    have hown := C.2.2.2.2.2.1
    have hts := C.2.2.2.2.2.2.1
    unfold wp_X5_gather_40 at hw
    refine lv_iload hx hb dX5_gather_40 (lv_at hl 3 rfl) ?_
    refine lv_aload_n hx hb dX5_gather_42 rfl (lv_at hl 0 rfl) ?_
    have o1 := hw.1
    replace hw := hw.2
    refine rX_getI C hM 4 2 rfl in_X5 (by decide) (by decide) rfl q319 o1 dX5_gather_43 ?_
    refine lv_icmp_ge (tgt := 83) hx hb dX5_gather_46 (by decide) (fun hc => ?_) (fun hc => ?_)
    · replace hw := hw.1 hc
      refine lv_aload_n hx hb dX5_gather_83 rfl (lv_at hl 0 rfl) ?_
      refine lv_iload_n hx hb dX5_gather_84 rfl (lv_at hl 1 rfl) ?_
      refine lv_iconst (v := 1) hx hb dX5_gather_85 (by decide) ?_
      refine lv_iadd hx hb dX5_gather_86 ?_
      refine lv_iload_n hx hb dX5_gather_87 rfl (lv_at hl 2 rfl) ?_
      have o4 := hw.1
      replace hw := hw.2
      refine rX_goi C hM (runX_V C hM hl.1 4 2 (As := [.int (v1 + 1), .int v2]) rfl (by decide) o4 (mt_X5_least l D dA ev _ h a0 (v1 + 1) v2  _ hw) (lw_V q637 q639 qs16 q85 q640) rfl rfl (by decide +kernel) ⟨Nat.le_of_ble_eq_true rfl, Nat.le_of_ble_eq_true rfl⟩ rfl (Nat.le_of_ble_eq_true rfl) rfl dX5_gather_88 ⟨Nat.le_refl _, Nat.le_refl _⟩) (fun x3 h2 H locs hw hM => ?_)
      refine lv_if_ge (tgt := 99) hx hb dX5_gather_91 (by decide) (fun hc => ?_) (fun hc => ?_)
      · replace hw := hw.1 hc
        refine lv_aload_n hx hb dX5_gather_99 rfl (lv_at hl 0 rfl) ?_
        refine lv_iload_n hx hb dX5_gather_100 rfl (lv_at hl 1 rfl) ?_
        refine lv_iconst (v := 1) hx hb dX5_gather_101 (by decide) ?_
        refine lv_iadd hx hb dX5_gather_102 ?_
        refine lv_iload_n hx hb dX5_gather_103 rfl (lv_at hl 2 rfl) ?_
        have o7 := hw.1
        replace hw := hw.2
        refine rX_goi C hM (runX_V C hM hl.1 4 2 (As := [.int (v1 + 1), .int v2]) rfl (by decide) o7 (mt_X5_least l D dA ev _ h2 a0 (v1 + 1) v2  _ hw) (lw_V q637 q639 qs16 q85 q640) rfl rfl (by decide +kernel) ⟨Nat.le_of_ble_eq_true rfl, Nat.le_of_ble_eq_true rfl⟩ rfl (Nat.le_of_ble_eq_true rfl) rfl dX5_gather_104 ⟨Nat.le_refl _, Nat.le_refl _⟩) (fun x6 h5 H locs hw hM => ?_)
        exact wk_X5_gather_107 C hK7 a0 v1 v2 x6 h5 _ _ ls hw hM (lv_sub hl [0, 1, 2] rfl)
      · replace hw := hw.2 hc
        refine lv_bipush (v := (-2)) hx hb dX5_gather_94 (by decide) ?_
        refine lv_goto (tgt := 107) hx hb dX5_gather_96 (by decide) ?_
        exact wk_X5_gather_107 C hK7 a0 v1 v2 (-2) h2 _ _ ls hw hM (lv_sub hl [0, 1, 2] rfl)
    · replace hw := hw.2 hc
      refine lv_aload_n hx hb dX5_gather_49 rfl (lv_at hl 0 rfl) ?_
      refine lv_iload hx hb dX5_gather_50 (lv_at hl 3 rfl) ?_
      refine lv_iload_n hx hb dX5_gather_52 rfl (lv_at hl 1 rfl) ?_
      refine lv_aload_n hx hb dX5_gather_53 rfl (lv_at hl 0 rfl) ?_
      have o8 := hw.1
      replace hw := hw.2
      obtain ⟨b9, ebb9, hw⟩ := hw
      refine rX_getRs C hM 4 0 rfl in_X5 (by decide) (by decide) rfl q317 o8 ebb9 dX5_gather_54 ?_
      refine lv_iload hx hb dX5_gather_57 (lv_at hl 3 rfl) ?_
      have o10 := hw.1
      replace hw := hw.2
      have o11 := hw.1
      replace hw := hw.2
      obtain ⟨b12, ebb12, hw⟩ := hw
      refine rX_aalds C hM 5 (by decide) (by decide) o10 o11 ebb12 dX5_gather_59 ?_
      refine lv_iload_n hx hb dX5_gather_60 rfl (lv_at hl 2 rfl) ?_
      have o13 := hw.1
      replace hw := hw.2
      have o14 := hw.1
      replace hw := hw.2
      refine rX_lald C hM o13 o14 dX5_gather_61 ?_
      refine lv_aload_n hx hb dX5_gather_62 rfl (lv_at hl 0 rfl) ?_
      have o15 := hw.1
      replace hw := hw.2
      obtain ⟨b16, ebb16, hw⟩ := hw
      refine rX_getRs C hM 4 0 rfl in_X5 (by decide) (by decide) rfl q317 o15 ebb16 dX5_gather_63 ?_
      refine lv_iload_n hx hb dX5_gather_66 rfl (lv_at hl 1 rfl) ?_
      have o17 := hw.1
      replace hw := hw.2
      have o18 := hw.1
      replace hw := hw.2
      obtain ⟨b19, ebb19, hw⟩ := hw
      refine rX_aalds C hM 5 (by decide) (by decide) o17 o18 ebb19 dX5_gather_67 ?_
      refine lv_iload_n hx hb dX5_gather_68 rfl (lv_at hl 2 rfl) ?_
      have o20 := hw.1
      replace hw := hw.2
      have o21 := hw.1
      replace hw := hw.2
      refine rX_lald C hM o20 o21 dX5_gather_69 ?_
      refine rX_gol C hM (runX_S C hM hl.1 2 (As := [.long (hJ h b12 v2), .long (hJ h b19 v2)]) (mt_J7_floorDiv l D dA ev _ h (hJ h b12 v2) (hJ h b19 v2)  _ hw) (lw_S q652 q653 q94 q654) rfl rfl (by decide +kernel) ⟨Nat.le_of_ble_eq_true rfl, Nat.le_of_ble_eq_true rfl⟩ rfl (Nat.le_of_ble_eq_true rfl) rfl dX5_gather_70 ⟨Nat.le_refl _, Nat.le_refl _⟩) (fun y23 h22 H locs hw hM => ?_)
      refine lv_lneg hx hb dX5_gather_73 ?_
      have o25 := hw.1
      replace hw := hw.2
      refine rX_gov C hM (runX_V C hM hl.1 4 3 (As := [.int v4, .int v1, .long (-y23)]) rfl (by decide) o25 (mt_X5_add l D dA ev _ h22 a0 v4 v1 (-y23)  _ hw) (lw_V q655 q657 qs19 q85 q658) rfl rfl (by decide +kernel) ⟨Nat.le_of_ble_eq_true rfl, Nat.le_of_ble_eq_true rfl⟩ rfl (Nat.le_of_ble_eq_true rfl) rfl dX5_gather_74 ⟨Nat.le_refl _, Nat.le_refl _⟩) (fun h24 H locs hw hM => ?_)
      obtain ⟨x26, ex26⟩ : ∃ y : Int32, y = v4 + 1 := ⟨_, rfl⟩
      replace hw := hw x26 ex26
      refine lv_iinc (v := x26) (lv' := [(4, .int x26), (0, .ref a0), (1, .int v1), (2, .int v2)]) hx hb dX5_gather_77 hl (k := 3) rfl (by rw [ex26]; rfl) (by decide) rfl (fun ls hl => ?_)
      refine lv_goto (tgt := 40) hx hb dX5_gather_80 (by decide) ?_
      exact ih a0 v1 v2 x26 h24 _ _ ls hw hM (lv_sub hl [1, 2, 3, 0] rfl)
set_option maxHeartbeats 4000000 in
theorem wk_X5_gather_35 {p : Program} {l : Launch} {e : Env} {s : State} {m : MethodId} {args : Array Value} {below : List Frame} {meth : Method} {c : Code} {D : va_G} {dA : Nat → ClassId} {ev : Nat → Nat} {h0 : Hp} {sz : Nat} (C : CxM p s m meth c args (AX dA h0 sz) "LeastSolutions$Lattice" cX5_gather 5 (some .boolean)) {Qr : Int32 → Hp → Prop} {K7 : Nat → Int32 → Int32 → Int32 → Hp → Prop} (hK7 : ∀ (a0 : Nat) (v1 : Int32) (v2 : Int32) (v3 : Int32) (h : Hp) (H : Heap) (locs : List Loc) (ls : Array Slot), K7 a0 v1 v2 v3 h → wX D dA ev (AX dA h0 sz) s h H locs → lv_has ls 5 [(0, .ref a0), (1, .int v1), (2, .int v2), (3, .int v3)] → W p l e rm_X5_gather s m args below meth c H locs 0 0 (MQ below (va_Qi Qr (BX D dA (AX dA h0 sz)) (AX dA h0 sz)) args s 0 0 (AX dA h0 sz)) (F0 m 7 ls [])) : ∀ (a0 : Nat) (v1 : Int32) (v2 : Int32) (h : Hp) (H : Heap) (locs : List Loc) (ls : Array Slot), wp_X5_gather_35 ev Qr K7 a0 v1 v2 h → wX D dA ev (AX dA h0 sz) s h H locs → lv_has ls 5 [(0, .ref a0), (1, .int v1), (2, .int v2)] → W p l e rm_X5_gather s m args below meth c H locs 0 0 (MQ below (va_Qi Qr (BX D dA (AX dA h0 sz)) (AX dA h0 sz)) args s 0 0 (AX dA h0 sz)) (F0 m 35 ls []) := by
  intro a0 v1 v2 h H locs ls hw hM hl
  have hx := C.1
  have hb := C.2.1
  have hown := C.2.2.2.2.2.1
  have hts := C.2.2.2.2.2.2.1
  unfold wp_X5_gather_35 at hw
  refine lv_iload_n hx hb dX5_gather_35 rfl (lv_at hl 1 rfl) ?_
  refine lv_iconst (v := 1) hx hb dX5_gather_36 (by decide) ?_
  refine lv_iadd hx hb dX5_gather_37 ?_
  refine lv_topi (fun x1 ex1 => ?_)
  replace hw := hw x1 ex1
  refine lv_istore (lv' := [(4, .int x1), (0, .ref a0), (1, .int v1), (2, .int v2)]) hx hb dX5_gather_38 hl (by decide) rfl (fun ls hl => ?_)
  obtain ⟨n40, hw⟩ := hw
  exact wk_X5_gather_40 C hK7 n40 a0 v1 v2 x1 h _ _ ls hw hM (lv_sub hl [1, 2, 3, 0] rfl)
set_option maxHeartbeats 4000000 in
theorem wk_X5_gather_7 {p : Program} {l : Launch} {e : Env} {s : State} {m : MethodId} {args : Array Value} {below : List Frame} {meth : Method} {c : Code} {D : va_G} {dA : Nat → ClassId} {ev : Nat → Nat} {h0 : Hp} {sz : Nat} (C : CxM p s m meth c args (AX dA h0 sz) "LeastSolutions$Lattice" cX5_gather 5 (some .boolean)) {Qr : Int32 → Hp → Prop} : ∀ (n : Nat) (a0 : Nat) (v1 : Int32) (v2 : Int32) (v3 : Int32) (h : Hp) (H : Heap) (locs : List Loc) (ls : Array Slot), wp_X5_gather_7 ev Qr n a0 v1 v2 v3 h → wX D dA ev (AX dA h0 sz) s h H locs → lv_has ls 5 [(0, .ref a0), (1, .int v1), (2, .int v2), (3, .int v3)] → W p l e rm_X5_gather s m args below meth c H locs 0 0 (MQ below (va_Qi Qr (BX D dA (AX dA h0 sz)) (AX dA h0 sz)) args s 0 0 (AX dA h0 sz)) (F0 m 7 ls []) := by
  intro n
  induction n with
  | zero => intro a0 v1 v2 v3 h H locs ls hw; exact hw.elim
  | succ n7 ih =>
    intro a0 v1 v2 v3 h H locs ls hw hM hl
    have hx := C.1
    have hb := C.2.1
    have hown := C.2.2.2.2.2.1
    have hts := C.2.2.2.2.2.2.1
    unfold wp_X5_gather_7 at hw
    refine lv_iload_n hx hb dX5_gather_7 rfl (lv_at hl 3 rfl) ?_
    refine lv_if_lt (tgt := 111) hx hb dX5_gather_8 (by decide) (fun hc => ?_) (fun hc => ?_)
    · replace hw := hw.1 hc
      refine lv_iload_n hx hb dX5_gather_111 rfl (lv_at hl 3 rfl) ?_
      refine lv_bipush (v := (-2)) hx hb dX5_gather_112 (by decide) ?_
      refine lv_icmp_ne (tgt := 121) hx hb dX5_gather_114 (by decide) (fun hc => ?_) (fun hc => ?_)
      · replace hw := hw.1 hc
        refine lv_iconst (v := 0) hx hb dX5_gather_121 (by decide) ?_
        exact wk_X5_gather_122 C  a0 0 h _ _ ls hw hM (lv_sub hl [0] rfl)
      · replace hw := hw.2 hc
        refine lv_iconst (v := 1) hx hb dX5_gather_117 (by decide) ?_
        refine lv_goto (tgt := 122) hx hb dX5_gather_118 (by decide) ?_
        exact wk_X5_gather_122 C  a0 1 h _ _ ls hw hM (lv_sub hl [0] rfl)
    · replace hw := hw.2 hc
      refine lv_aload_n hx hb dX5_gather_11 rfl (lv_at hl 0 rfl) ?_
      refine lv_iload_n hx hb dX5_gather_12 rfl (lv_at hl 1 rfl) ?_
      refine lv_iload_n hx hb dX5_gather_13 rfl (lv_at hl 3 rfl) ?_
      have o2 := hw.1
      replace hw := hw.2
      refine rX_gov C hM (runX_V C hM hl.1 4 2 (As := [.int v1, .int v3]) rfl (by decide) o2 (mt_X5_exchange l D dA ev _ h a0 v1 v3  _ hw) (lw_V q644 q646 qs17 q85 q647) rfl rfl (by decide +kernel) ⟨Nat.le_of_ble_eq_true rfl, Nat.le_of_ble_eq_true rfl⟩ rfl (Nat.le_of_ble_eq_true rfl) rfl dX5_gather_14 ⟨Nat.le_refl _, Nat.le_refl _⟩) (fun h1 H locs hw hM => ?_)
      refine lv_aload_n hx hb dX5_gather_17 rfl (lv_at hl 0 rfl) ?_
      have o3 := hw.1
      replace hw := hw.2
      obtain ⟨b4, ebb4, hw⟩ := hw
      refine rX_getRs C hM 4 0 rfl in_X5 (by decide) (by decide) rfl q317 o3 ebb4 dX5_gather_18 ?_
      refine lv_iload_n hx hb dX5_gather_21 rfl (lv_at hl 1 rfl) ?_
      have o5 := hw.1
      replace hw := hw.2
      have o6 := hw.1
      replace hw := hw.2
      obtain ⟨b7, ebb7, hw⟩ := hw
      refine rX_aalds C hM 5 (by decide) (by decide) o5 o6 ebb7 dX5_gather_22 ?_
      refine lv_iload_n hx hb dX5_gather_23 rfl (lv_at hl 2 rfl) ?_
      have o8 := hw.1
      replace hw := hw.2
      have o9 := hw.1
      replace hw := hw.2
      refine rX_lald C hM o8 o9 dX5_gather_24 ?_
      refine lv_lconst (v := 0) hx hb dX5_gather_25 (by decide) ?_
      refine W.lcmp hx hb dX5_gather_26 ?_
      refine lv_if_ge (tgt := 35) hx hb dX5_gather_27 (by decide) (fun hc => ?_) (fun hc => ?_)
      · replace hw := hw.1 hc
        exact wk_X5_gather_35 C ih a0 v1 v2 h1 _ _ ls hw hM (lv_sub hl [0, 1, 2] rfl)
      · replace hw := hw.2 hc
        refine lv_aload_n hx hb dX5_gather_30 rfl (lv_at hl 0 rfl) ?_
        refine lv_iload_n hx hb dX5_gather_31 rfl (lv_at hl 1 rfl) ?_
        have o11 := hw.1
        replace hw := hw.2
        refine rX_gov C hM (runX_V C hM hl.1 4 1 (As := [.int v1]) rfl (by decide) o11 (mt_X5_turn l D dA ev _ h1 a0 v1  _ hw) (lw_V q648 q650 qs18 q85 q651) rfl rfl (by decide +kernel) ⟨Nat.le_of_ble_eq_true rfl, Nat.le_of_ble_eq_true rfl⟩ rfl (Nat.le_of_ble_eq_true rfl) rfl dX5_gather_32 ⟨Nat.le_refl _, Nat.le_refl _⟩) (fun h10 H locs hw hM => ?_)
        exact wk_X5_gather_35 C ih a0 v1 v2 h10 _ _ ls hw hM (lv_sub hl [0, 1, 2] rfl)
set_option maxHeartbeats 4000000 in
/-- LeastSolutions$Lattice.gather(II)Z -/
theorem mt_X5_gather (l : Launch) (D : va_G) (dA : Nat → ClassId) (ev : Nat → Nat) (sz : Nat) (h : Hp) (a0 : Nat) (p1 : Int32) (p2 : Int32) (Qr : Int32 → Hp → Prop) (hw : wp_X5_gather ev h a0 p1 p2 Qr) : Met l yX5_gather (ws_ yX5_gather cX5_gather 5 (some .boolean)) rm_X5_gather (PcX D dA ev h sz [.ref a0, .int p1, .int p2]) (va_Qi Qr (BX D dA (AX dA h sz)) (AX dA h sz)) 0 0 (AX dA h sz) := by
  refine Met.ofW (cc := cX5_gather) (maxL := 5) (ret := (some .boolean)) (by decide) rfl ?_
  intro p e s m args below meth c s₁ B hml hv
  obtain ⟨rfl, hsz, hP, hK, hD0, hE⟩ := hv
  subst hsz
  have hts0 := atoms_spec (ws := ws_ yX5_gather cX5_gather 5 (some .boolean)) B.pre
  have C : CxM p s m meth c _ (AX dA h s.heap.size) "LeastSolutions$Lattice" cX5_gather 5 (some .boolean) := ⟨B.exec, B.bytes, B.returns, B.notSynchronized, hml, findClass_of_methodNamed B.named, fun w h => hts0 w (List.mem_cons_of_mem _ h), fun q h => Or.inr h⟩
  have hM : wX D dA ev (AX dA h s.heap.size) s h s.heap [] := ⟨hK, hP, hD0.self, va_S.rf, hE⟩
  have hx := C.1
  have hb := C.2.1
  have hown := C.2.2.2.2.2.1
  have hts := C.2.2.2.2.2.2.1
  have hl := lv_entry ([.ref a0, .int p1, .int p2]) (n := 5) (Nat.le_of_ble_eq_true rfl)
  rw [lg_entry_eq]
  generalize (lg_sl ([.ref a0, .int p1, .int p2]) ++ List.replicate (5 - (lg_sl ([.ref a0, .int p1, .int p2])).length) Slot.unset).toArray = ls at hl ⊢
  have hl : lv_has ls 5 [(0, .ref a0), (1, .int p1), (2, .int p2)] := hl
  unfold wp_X5_gather at hw
  refine lv_aload_n hx hb dX5_gather_0 rfl (lv_at hl 0 rfl) ?_
  refine lv_iload_n hx hb dX5_gather_1 rfl (lv_at hl 1 rfl) ?_
  refine lv_iload_n hx hb dX5_gather_2 rfl (lv_at hl 2 rfl) ?_
  have o3 := hw.1
  replace hw := hw.2
  refine rX_goi C hM (runX_V C hM hl.1 4 2 (As := [.int p1, .int p2]) rfl (by decide) o3 (mt_X5_least l D dA ev _ h a0 p1 p2  _ hw) (lw_V q637 q639 qs16 q85 q640) rfl rfl (by decide +kernel) ⟨Nat.le_of_ble_eq_true rfl, Nat.le_of_ble_eq_true rfl⟩ rfl (Nat.le_of_ble_eq_true rfl) rfl dX5_gather_3 ⟨Nat.le_refl _, Nat.le_refl _⟩) (fun x2 h1 H locs hw hM => ?_)
  refine lv_istore_n (lv' := [(3, .int x2), (0, .ref a0), (1, .int p1), (2, .int p2)]) hx hb dX5_gather_6 rfl hl (by decide) rfl (fun ls hl => ?_)
  obtain ⟨n7, hw⟩ := hw
  exact wk_X5_gather_7 C  n7 a0 p1 p2 x2 h1 _ _ ls hw hM (lv_sub hl [1, 2, 3, 0] rfl)
abbrev rm_X5_settle : Room := { frames := 3, cells := 0, slots := 0, locals := 70 }
set_option maxHeartbeats 4000000 in
theorem wk_X5_settle_139 {p : Program} {l : Launch} {e : Env} {s : State} {m : MethodId} {args : Array Value} {below : List Frame} {meth : Method} {c : Code} {D : va_G} {dA : Nat → ClassId} {ev : Nat → Nat} {h0 : Hp} {sz : Nat} (C : CxM p s m meth c args (AX dA h0 sz) "LeastSolutions$Lattice" cX5_settle 7 none) {Qr : Hp → Prop} : ∀ (a0 : Nat) (h : Hp) (H : Heap) (locs : List Loc) (ls : Array Slot), wp_X5_settle_139 ev Qr a0 h → wX D dA ev (AX dA h0 sz) s h H locs → lv_has ls 7 [(0, .ref a0)] → W p l e rm_X5_settle s m args below meth c H locs 0 0 (MQ below (va_Qv Qr (BX D dA (AX dA h0 sz)) (AX dA h0 sz)) args s 0 0 (AX dA h0 sz)) (F0 m 139 ls []) := by
  intro a0 h H locs ls hw hM hl
  have hx := C.1
  have hb := C.2.1
  have hown := C.2.2.2.2.2.1
  have hts := C.2.2.2.2.2.2.1
  unfold wp_X5_settle_139 at hw
  exact rX_vret C hM ⟨Nat.le_refl _, Nat.le_refl _⟩ hw dX5_settle_139
set_option maxHeartbeats 4000000 in
theorem wk_X5_settle_135 {p : Program} {l : Launch} {e : Env} {s : State} {m : MethodId} {args : Array Value} {below : List Frame} {meth : Method} {c : Code} {D : va_G} {dA : Nat → ClassId} {ev : Nat → Nat} {h0 : Hp} {sz : Nat} (C : CxM p s m meth c args (AX dA h0 sz) "LeastSolutions$Lattice" cX5_settle 7 none) {Qr : Hp → Prop} : ∀ (a0 : Nat) (u0 : Nat) (u1 : Int32) (u2 : Int32) (h : Hp) (H : Heap) (locs : List Loc) (ls : Array Slot), wp_X5_settle_135 ev Qr a0 u0 u1 u2 h → wX D dA ev (AX dA h0 sz) s h H locs → lv_has ls 7 [(0, .ref a0)] → W p l e rm_X5_settle s m args below meth c H locs 0 0 (MQ below (va_Qv Qr (BX D dA (AX dA h0 sz)) (AX dA h0 sz)) args s 0 0 (AX dA h0 sz)) (F0 m 135 ls [.int u2, .int u1, .ref u0]) := by
  intro a0 u0 u1 u2 h H locs ls hw hM hl
  have hx := C.1
  have hb := C.2.1
  have hown := C.2.2.2.2.2.1
  have hts := C.2.2.2.2.2.2.1
  unfold wp_X5_settle_135 at hw
  refine lv_iand hx hb dX5_settle_135 ?_
  have o2 := hw.1
  replace hw := hw.2
  have o3 := hw.1
  replace hw := hw.2
  refine rX_putI C hM 4 4 rfl in_X5 (by decide) (by decide) rfl rfl q321 o2 tyX5 tyX5_ok nmX5 rfl (isB_n o3) (isB_f o3) dX5_settle_136 (fun h1 H locs eσ hM => ?_)
  replace hw := hw h1 eσ
  clear eσ
  exact wk_X5_settle_139 C  a0 h1 _ _ ls hw hM (lv_sub hl [0] rfl)
set_option maxHeartbeats 4000000 in
theorem wk_X5_settle_64 {p : Program} {l : Launch} {e : Env} {s : State} {m : MethodId} {args : Array Value} {below : List Frame} {meth : Method} {c : Code} {D : va_G} {dA : Nat → ClassId} {ev : Nat → Nat} {h0 : Hp} {sz : Nat} (C : CxM p s m meth c args (AX dA h0 sz) "LeastSolutions$Lattice" cX5_settle 7 none) {Qr : Hp → Prop} : ∀ (n : Nat) (a0 : Nat) (v4 : Int64) (v6 : Int32) (h : Hp) (H : Heap) (locs : List Loc) (ls : Array Slot), wp_X5_settle_64 ev Qr n a0 v4 v6 h → wX D dA ev (AX dA h0 sz) s h H locs → lv_has ls 7 [(0, .ref a0), (4, .long v4), (6, .int v6)] → W p l e rm_X5_settle s m args below meth c H locs 0 0 (MQ below (va_Qv Qr (BX D dA (AX dA h0 sz)) (AX dA h0 sz)) args s 0 0 (AX dA h0 sz)) (F0 m 64 ls []) := by
  intro n
  induction n with
  | zero => intro a0 v4 v6 h H locs ls hw; exact hw.elim
  | succ n64 ih =>
    intro a0 v4 v6 h H locs ls hw hM hl
    have hx := C.1
    have hb := C.2.1
    have hown := C.2.2.2.2.2.1
    have hts := C.2.2.2.2.2.2.1
    unfold wp_X5_settle_64 at hw
    refine lv_iload hx hb dX5_settle_64 (lv_at hl 2 rfl) ?_
    refine lv_iconst (v := 4) hx hb dX5_settle_66 (by decide) ?_
    refine lv_icmp_ge (tgt := 101) hx hb dX5_settle_67 (by decide) (fun hc => ?_) (fun hc => ?_)
    · replace hw := hw.1 hc
      refine lv_aload_n hx hb dX5_settle_101 rfl (lv_at hl 0 rfl) ?_
      refine lv_dup hx hb dX5_settle_102 rfl ?_
      have o1 := hw.1
      replace hw := hw.2
      refine rX_getI C hM 4 3 rfl in_X5 (by decide) (by decide) rfl q320 o1 dX5_settle_103 ?_
      refine lv_iconst (v := 1) hx hb dX5_settle_106 (by decide) ?_
      refine lv_iadd hx hb dX5_settle_107 ?_
      have o3 := hw.1
      replace hw := hw.2
      refine rX_putI C hM 4 3 rfl in_X5 (by decide) (by decide) rfl rfl q320 o3 tyX5 tyX5_ok nmX5 rfl rfl rfl dX5_settle_108 (fun h2 H locs eσ hM => ?_)
      replace hw := hw h2 eσ
      clear eσ
      refine lv_goto (tgt := 139) hx hb dX5_settle_111 (by decide) ?_
      exact wk_X5_settle_139 C  a0 h2 _ _ ls hw hM (lv_sub hl [0] rfl)
    · replace hw := hw.2 hc
      refine lv_aload_n hx hb dX5_settle_70 rfl (lv_at hl 0 rfl) ?_
      have o4 := hw.1
      replace hw := hw.2
      obtain ⟨b5, ebb5, hw⟩ := hw
      refine rX_getRs C hM 4 1 rfl in_X5 (by decide) (by decide) rfl q318 o4 ebb5 dX5_settle_71 ?_
      refine lv_iload hx hb dX5_settle_74 (lv_at hl 2 rfl) ?_
      refine lv_dup2_11 hx hb dX5_settle_76 rfl rfl ?_
      have o6 := hw.1
      replace hw := hw.2
      have o7 := hw.1
      replace hw := hw.2
      refine rX_lald C hM o6 o7 dX5_settle_77 ?_
      refine lv_lload hx hb dX5_settle_78 (lv_at hl 1 rfl) ?_
      refine lv_aload_n hx hb dX5_settle_80 rfl (lv_at hl 0 rfl) ?_
      have o8 := hw.1
      replace hw := hw.2
      obtain ⟨b9, ebb9, hw⟩ := hw
      refine rX_getRs C hM 4 0 rfl in_X5 (by decide) (by decide) rfl q317 o8 ebb9 dX5_settle_81 ?_
      refine lv_aload_n hx hb dX5_settle_84 rfl (lv_at hl 0 rfl) ?_
      have o10 := hw.1
      replace hw := hw.2
      refine rX_getI C hM 4 3 rfl in_X5 (by decide) (by decide) rfl q320 o10 dX5_settle_85 ?_
      have o11 := hw.1
      replace hw := hw.2
      have o12 := hw.1
      replace hw := hw.2
      obtain ⟨b13, ebb13, hw⟩ := hw
      refine rX_aalds C hM 5 (by decide) (by decide) o11 o12 ebb13 dX5_settle_88 ?_
      refine lv_iload hx hb dX5_settle_89 (lv_at hl 2 rfl) ?_
      have o14 := hw.1
      replace hw := hw.2
      have o15 := hw.1
      replace hw := hw.2
      refine rX_lald C hM o14 o15 dX5_settle_91 ?_
      refine lv_lmul hx hb dX5_settle_92 ?_
      refine lv_lsub hx hb dX5_settle_93 ?_
      have o17 := hw.1
      replace hw := hw.2
      have o18 := hw.1
      replace hw := hw.2
      refine rX_last C hM o17 o18 dX5_settle_94 (fun h16 H locs eσ hM => ?_)
      replace hw := hw h16 eσ
      clear eσ
      obtain ⟨x19, ex19⟩ : ∃ y : Int32, y = v6 + 1 := ⟨_, rfl⟩
      replace hw := hw x19 ex19
      refine lv_iinc (v := x19) (lv' := [(6, .int x19), (0, .ref a0), (4, .long v4)]) hx hb dX5_settle_95 hl (k := 2) rfl (by rw [ex19]; rfl) (by decide) rfl (fun ls hl => ?_)
      refine lv_goto (tgt := 64) hx hb dX5_settle_98 (by decide) ?_
      exact ih a0 v4 x19 h16 _ _ ls hw hM (lv_sub hl [1, 2, 0] rfl)
set_option maxHeartbeats 4000000 in
theorem wk_X5_settle_47 {p : Program} {l : Launch} {e : Env} {s : State} {m : MethodId} {args : Array Value} {below : List Frame} {meth : Method} {c : Code} {D : va_G} {dA : Nat → ClassId} {ev : Nat → Nat} {h0 : Hp} {sz : Nat} (C : CxM p s m meth c args (AX dA h0 sz) "LeastSolutions$Lattice" cX5_settle 7 none) {Qr : Hp → Prop} : ∀ (a0 : Nat) (v1 : Int32) (v2 : Int64) (u0 : Nat) (u1 : Int32) (u2 : Int32) (h : Hp) (H : Heap) (locs : List Loc) (ls : Array Slot), wp_X5_settle_47 ev Qr a0 v1 v2 u0 u1 u2 h → wX D dA ev (AX dA h0 sz) s h H locs → lv_has ls 7 [(0, .ref a0), (1, .int v1), (2, .long v2)] → W p l e rm_X5_settle s m args below meth c H locs 0 0 (MQ below (va_Qv Qr (BX D dA (AX dA h0 sz)) (AX dA h0 sz)) args s 0 0 (AX dA h0 sz)) (F0 m 47 ls [.int u2, .int u1, .ref u0]) := by
  intro a0 v1 v2 u0 u1 u2 h H locs ls hw hM hl
  have hx := C.1
  have hb := C.2.1
  have hown := C.2.2.2.2.2.1
  have hts := C.2.2.2.2.2.2.1
  unfold wp_X5_settle_47 at hw
  refine lv_iand hx hb dX5_settle_47 ?_
  have o2 := hw.1
  replace hw := hw.2
  have o3 := hw.1
  replace hw := hw.2
  refine rX_putI C hM 4 4 rfl in_X5 (by decide) (by decide) rfl rfl q321 o2 tyX5 tyX5_ok nmX5 rfl (isB_n o3) (isB_f o3) dX5_settle_48 (fun h1 H locs eσ hM => ?_)
  replace hw := hw h1 eσ
  clear eσ
  refine lv_aload_n hx hb dX5_settle_51 rfl (lv_at hl 0 rfl) ?_
  have o4 := hw.1
  replace hw := hw.2
  obtain ⟨b5, ebb5, hw⟩ := hw
  refine rX_getRs C hM 4 1 rfl in_X5 (by decide) (by decide) rfl q318 o4 ebb5 dX5_settle_52 ?_
  refine lv_iload_n hx hb dX5_settle_55 rfl (lv_at hl 1 rfl) ?_
  have o6 := hw.1
  replace hw := hw.2
  have o7 := hw.1
  replace hw := hw.2
  refine rX_lald C hM o6 o7 dX5_settle_56 ?_
  refine lv_lload_n hx hb dX5_settle_57 rfl (lv_at hl 2 rfl) ?_
  have o8 := hw.1
  replace hw := hw.2
  refine lv_ldiv hx hb dX5_settle_58 o8 ?_
  refine lv_topl (fun y9 ey9 => ?_)
  replace hw := hw y9 ey9
  refine lv_lstore (lv' := [(4, .long y9), (0, .ref a0), (1, .int v1), (2, .long v2)]) hx hb dX5_settle_59 hl (by decide) rfl (fun ls hl => ?_)
  refine lv_iconst (v := 0) hx hb dX5_settle_61 (by decide) ?_
  refine lv_istore (lv' := [(6, .int 0), (4, .long y9), (0, .ref a0), (1, .int v1), (2, .long v2)]) hx hb dX5_settle_62 hl (by decide) rfl (fun ls hl => ?_)
  obtain ⟨n64, hw⟩ := hw
  exact wk_X5_settle_64 C  n64 a0 y9 0 h1 _ _ ls hw hM (lv_sub hl [2, 1, 0] rfl)
set_option maxHeartbeats 4000000 in
/-- LeastSolutions$Lattice.settle(I)V -/
theorem mt_X5_settle (l : Launch) (D : va_G) (dA : Nat → ClassId) (ev : Nat → Nat) (sz : Nat) (h : Hp) (a0 : Nat) (p1 : Int32) (Qr : Hp → Prop) (hw : wp_X5_settle ev h a0 p1 Qr) : Met l yX5_settle (ws_ yX5_settle cX5_settle 7 none) rm_X5_settle (PcX D dA ev h sz [.ref a0, .int p1]) (va_Qv Qr (BX D dA (AX dA h sz)) (AX dA h sz)) 0 0 (AX dA h sz) := by
  refine Met.ofW (cc := cX5_settle) (maxL := 7) (ret := none) (by decide) rfl ?_
  intro p e s m args below meth c s₁ B hml hv
  obtain ⟨rfl, hsz, hP, hK, hD0, hE⟩ := hv
  subst hsz
  have hts0 := atoms_spec (ws := ws_ yX5_settle cX5_settle 7 none) B.pre
  have C : CxM p s m meth c _ (AX dA h s.heap.size) "LeastSolutions$Lattice" cX5_settle 7 none := ⟨B.exec, B.bytes, B.returns, B.notSynchronized, hml, findClass_of_methodNamed B.named, fun w h => hts0 w (List.mem_cons_of_mem _ h), fun q h => Or.inr h⟩
  have hM : wX D dA ev (AX dA h s.heap.size) s h s.heap [] := ⟨hK, hP, hD0.self, va_S.rf, hE⟩
  have hx := C.1
  have hb := C.2.1
  have hown := C.2.2.2.2.2.1
  have hts := C.2.2.2.2.2.2.1
  have hl := lv_entry ([.ref a0, .int p1]) (n := 7) (Nat.le_of_ble_eq_true rfl)
  rw [lg_entry_eq]
  generalize (lg_sl ([.ref a0, .int p1]) ++ List.replicate (7 - (lg_sl ([.ref a0, .int p1])).length) Slot.unset).toArray = ls at hl ⊢
  have hl : lv_has ls 7 [(0, .ref a0), (1, .int p1)] := hl
  unfold wp_X5_settle at hw
  refine lv_aload_n hx hb dX5_settle_0 rfl (lv_at hl 0 rfl) ?_
  refine lv_aload_n hx hb dX5_settle_1 rfl (lv_at hl 0 rfl) ?_
  have o1 := hw.1
  replace hw := hw.2
  refine rX_getI C hM 4 3 rfl in_X5 (by decide) (by decide) rfl q320 o1 dX5_settle_2 ?_
  refine lv_iload_n hx hb dX5_settle_5 rfl (lv_at hl 1 rfl) ?_
  have o4 := hw.1
  replace hw := hw.2
  refine rX_goi C hM (runX_V C hM hl.1 4 2 (As := [.int (hI h a0 3), .int p1]) rfl (by decide) o4 (mt_X5_gather l D dA ev _ h a0 (hI h a0 3) p1  _ hw) (lw_V q633 q635 qs15 q85 q636) rfl rfl (by decide +kernel) ⟨Nat.le_of_ble_eq_true rfl, Nat.le_of_ble_eq_true rfl⟩ rfl (Nat.le_of_ble_eq_true rfl) rfl dX5_settle_6 ⟨Nat.le_refl _, Nat.le_refl _⟩) (fun x3 h2 H locs hw hM => ?_)
  refine lv_if_eq (tgt := 114) hx hb dX5_settle_9 (by decide) (fun hc => ?_) (fun hc => ?_)
  · replace hw := hw.1 hc
    refine lv_aload_n hx hb dX5_settle_114 rfl (lv_at hl 0 rfl) ?_
    refine lv_dup hx hb dX5_settle_115 rfl ?_
    have o5 := hw.1
    replace hw := hw.2
    refine rX_getI C hM 4 4 rfl in_X5 (by decide) (by decide) rfl q321 o5 dX5_settle_116 ?_
    refine lv_aload_n hx hb dX5_settle_119 rfl (lv_at hl 0 rfl) ?_
    have o6 := hw.1
    replace hw := hw.2
    obtain ⟨b7, ebb7, hw⟩ := hw
    refine rX_getRs C hM 4 1 rfl in_X5 (by decide) (by decide) rfl q318 o6 ebb7 dX5_settle_120 ?_
    refine lv_iload_n hx hb dX5_settle_123 rfl (lv_at hl 1 rfl) ?_
    have o8 := hw.1
    replace hw := hw.2
    have o9 := hw.1
    replace hw := hw.2
    refine rX_lald C hM o8 o9 dX5_settle_124 ?_
    refine lv_lconst (v := 0) hx hb dX5_settle_125 (by decide) ?_
    refine W.lcmp hx hb dX5_settle_126 ?_
    refine lv_if_ne (tgt := 134) hx hb dX5_settle_127 (by decide) (fun hc => ?_) (fun hc => ?_)
    · replace hw := hw.1 hc
      refine lv_iconst (v := 0) hx hb dX5_settle_134 (by decide) ?_
      exact wk_X5_settle_135 C  a0 a0 ((hI h2 a0 4)) 0 h2 _ _ ls hw hM (lv_sub hl [0] rfl)
    · replace hw := hw.2 hc
      refine lv_iconst (v := 1) hx hb dX5_settle_130 (by decide) ?_
      refine lv_goto (tgt := 135) hx hb dX5_settle_131 (by decide) ?_
      exact wk_X5_settle_135 C  a0 a0 ((hI h2 a0 4)) 1 h2 _ _ ls hw hM (lv_sub hl [0] rfl)
  · replace hw := hw.2 hc
    refine lv_aload_n hx hb dX5_settle_12 rfl (lv_at hl 0 rfl) ?_
    have o10 := hw.1
    replace hw := hw.2
    obtain ⟨b11, ebb11, hw⟩ := hw
    refine rX_getRs C hM 4 0 rfl in_X5 (by decide) (by decide) rfl q317 o10 ebb11 dX5_settle_13 ?_
    refine lv_aload_n hx hb dX5_settle_16 rfl (lv_at hl 0 rfl) ?_
    have o12 := hw.1
    replace hw := hw.2
    refine rX_getI C hM 4 3 rfl in_X5 (by decide) (by decide) rfl q320 o12 dX5_settle_17 ?_
    have o13 := hw.1
    replace hw := hw.2
    have o14 := hw.1
    replace hw := hw.2
    obtain ⟨b15, ebb15, hw⟩ := hw
    refine rX_aalds C hM 5 (by decide) (by decide) o13 o14 ebb15 dX5_settle_20 ?_
    refine lv_iload_n hx hb dX5_settle_21 rfl (lv_at hl 1 rfl) ?_
    have o16 := hw.1
    replace hw := hw.2
    have o17 := hw.1
    replace hw := hw.2
    refine rX_lald C hM o16 o17 dX5_settle_22 ?_
    refine lv_topl (fun y18 ey18 => ?_)
    replace hw := hw y18 ey18
    refine lv_lstore_n (lv' := [(2, .long y18), (0, .ref a0), (1, .int p1)]) hx hb dX5_settle_23 rfl hl (by decide) rfl (fun ls hl => ?_)
    refine lv_aload_n hx hb dX5_settle_24 rfl (lv_at hl 1 rfl) ?_
    refine lv_dup hx hb dX5_settle_25 rfl ?_
    have o19 := hw.1
    replace hw := hw.2
    refine rX_getI C hM 4 4 rfl in_X5 (by decide) (by decide) rfl q321 o19 dX5_settle_26 ?_
    refine lv_aload_n hx hb dX5_settle_29 rfl (lv_at hl 1 rfl) ?_
    have o20 := hw.1
    replace hw := hw.2
    obtain ⟨b21, ebb21, hw⟩ := hw
    refine rX_getRs C hM 4 1 rfl in_X5 (by decide) (by decide) rfl q318 o20 ebb21 dX5_settle_30 ?_
    refine lv_iload_n hx hb dX5_settle_33 rfl (lv_at hl 2 rfl) ?_
    have o22 := hw.1
    replace hw := hw.2
    have o23 := hw.1
    replace hw := hw.2
    refine rX_lald C hM o22 o23 dX5_settle_34 ?_
    refine lv_lload_n hx hb dX5_settle_35 rfl (lv_at hl 0 rfl) ?_
    have o24 := hw.1
    replace hw := hw.2
    refine lv_lrem hx hb dX5_settle_36 o24 ?_
    refine lv_lconst (v := 0) hx hb dX5_settle_37 (by decide) ?_
    refine W.lcmp hx hb dX5_settle_38 ?_
    refine lv_if_ne (tgt := 46) hx hb dX5_settle_39 (by decide) (fun hc => ?_) (fun hc => ?_)
    · replace hw := hw.1 hc
      refine lv_iconst (v := 0) hx hb dX5_settle_46 (by decide) ?_
      exact wk_X5_settle_47 C  a0 p1 y18 a0 ((hI h2 a0 4)) 0 h2 _ _ ls hw hM (lv_sub hl [1, 2, 0] rfl)
    · replace hw := hw.2 hc
      refine lv_iconst (v := 1) hx hb dX5_settle_42 (by decide) ?_
      refine lv_goto (tgt := 47) hx hb dX5_settle_43 (by decide) ?_
      exact wk_X5_settle_47 C  a0 p1 y18 a0 ((hI h2 a0 4)) 1 h2 _ _ ls hw hM (lv_sub hl [1, 2, 0] rfl)
abbrev rm_X5_first : Room := { frames := 0, cells := 0, slots := 0, locals := 0 }
set_option maxHeartbeats 4000000 in
theorem wk_X5_first_29 {p : Program} {l : Launch} {e : Env} {s : State} {m : MethodId} {args : Array Value} {below : List Frame} {meth : Method} {c : Code} {D : va_G} {dA : Nat → ClassId} {ev : Nat → Nat} {h0 : Hp} {sz : Nat} (C : CxM p s m meth c args (AX dA h0 sz) "LeastSolutions$Lattice" cX5_first 3 (some .int)) {Qr : Int32 → Hp → Prop} : ∀ (a0 : Nat) (v2 : Int32) (h : Hp) (H : Heap) (locs : List Loc) (ls : Array Slot), wp_X5_first_29 ev Qr a0 v2 h → wX D dA ev (AX dA h0 sz) s h H locs → lv_has ls 3 [(0, .ref a0), (2, .int v2)] → W p l e rm_X5_first s m args below meth c H locs 0 0 (MQ below (va_Qi Qr (BX D dA (AX dA h0 sz)) (AX dA h0 sz)) args s 0 0 (AX dA h0 sz)) (F0 m 29 ls []) := by
  intro a0 v2 h H locs ls hw hM hl
  have hx := C.1
  have hb := C.2.1
  have hown := C.2.2.2.2.2.1
  have hts := C.2.2.2.2.2.2.1
  unfold wp_X5_first_29 at hw
  refine lv_iload_n hx hb dX5_first_29 rfl (lv_at hl 1 rfl) ?_
  exact rX_iret C hM ⟨Nat.le_refl _, Nat.le_refl _⟩ hw dX5_first_30
set_option maxHeartbeats 4000000 in
theorem wk_X5_first_2 {p : Program} {l : Launch} {e : Env} {s : State} {m : MethodId} {args : Array Value} {below : List Frame} {meth : Method} {c : Code} {D : va_G} {dA : Nat → ClassId} {ev : Nat → Nat} {h0 : Hp} {sz : Nat} (C : CxM p s m meth c args (AX dA h0 sz) "LeastSolutions$Lattice" cX5_first 3 (some .int)) {Qr : Int32 → Hp → Prop} : ∀ (n : Nat) (a0 : Nat) (v1 : Int32) (v2 : Int32) (h : Hp) (H : Heap) (locs : List Loc) (ls : Array Slot), wp_X5_first_2 ev Qr n a0 v1 v2 h → wX D dA ev (AX dA h0 sz) s h H locs → lv_has ls 3 [(0, .ref a0), (1, .int v1), (2, .int v2)] → W p l e rm_X5_first s m args below meth c H locs 0 0 (MQ below (va_Qi Qr (BX D dA (AX dA h0 sz)) (AX dA h0 sz)) args s 0 0 (AX dA h0 sz)) (F0 m 2 ls []) := by
  intro n
  induction n with
  | zero => intro a0 v1 v2 h H locs ls hw; exact hw.elim
  | succ n2 ih =>
    intro a0 v1 v2 h H locs ls hw hM hl
    have hx := C.1
    have hb := C.2.1
    have hown := C.2.2.2.2.2.1
    have hts := C.2.2.2.2.2.2.1
    unfold wp_X5_first_2 at hw
    refine lv_iload_n hx hb dX5_first_2 rfl (lv_at hl 2 rfl) ?_
    refine lv_bipush (v := 6) hx hb dX5_first_3 (by decide) ?_
    refine lv_icmp_ge (tgt := 29) hx hb dX5_first_5 (by decide) (fun hc => ?_) (fun hc => ?_)
    · replace hw := hw.1 hc
      exact wk_X5_first_29 C  a0 v2 h _ _ ls hw hM (lv_sub hl [0, 2] rfl)
    · replace hw := hw.2 hc
      refine lv_aload_n hx hb dX5_first_8 rfl (lv_at hl 0 rfl) ?_
      have o1 := hw.1
      replace hw := hw.2
      obtain ⟨b2, ebb2, hw⟩ := hw
      refine rX_getRs C hM 4 0 rfl in_X5 (by decide) (by decide) rfl q317 o1 ebb2 dX5_first_9 ?_
      refine lv_iload_n hx hb dX5_first_12 rfl (lv_at hl 1 rfl) ?_
      have o3 := hw.1
      replace hw := hw.2
      have o4 := hw.1
      replace hw := hw.2
      obtain ⟨b5, ebb5, hw⟩ := hw
      refine rX_aalds C hM 5 (by decide) (by decide) o3 o4 ebb5 dX5_first_13 ?_
      refine lv_iconst (v := 4) hx hb dX5_first_14 (by decide) ?_
      refine lv_iload_n hx hb dX5_first_15 rfl (lv_at hl 2 rfl) ?_
      refine lv_iadd hx hb dX5_first_16 ?_
      have o6 := hw.1
      replace hw := hw.2
      have o7 := hw.1
      replace hw := hw.2
      refine rX_lald C hM o6 o7 dX5_first_17 ?_
      refine lv_lconst (v := 0) hx hb dX5_first_18 (by decide) ?_
      refine W.lcmp hx hb dX5_first_19 ?_
      refine lv_if_ne (tgt := 29) hx hb dX5_first_20 (by decide) (fun hc => ?_) (fun hc => ?_)
      · replace hw := hw.1 hc
        exact wk_X5_first_29 C  a0 v2 h _ _ ls hw hM (lv_sub hl [0, 2] rfl)
      · replace hw := hw.2 hc
        obtain ⟨x8, ex8⟩ : ∃ y : Int32, y = v2 + 1 := ⟨_, rfl⟩
        replace hw := hw x8 ex8
        refine lv_iinc (v := x8) (lv' := [(2, .int x8), (0, .ref a0), (1, .int v1)]) hx hb dX5_first_23 hl (k := 2) rfl (by rw [ex8]; rfl) (by decide) rfl (fun ls hl => ?_)
        refine lv_goto (tgt := 2) hx hb dX5_first_26 (by decide) ?_
        exact ih a0 v1 x8 h _ _ ls hw hM (lv_sub hl [1, 2, 0] rfl)
set_option maxHeartbeats 4000000 in
/-- LeastSolutions$Lattice.first(I)I -/
theorem mt_X5_first (l : Launch) (D : va_G) (dA : Nat → ClassId) (ev : Nat → Nat) (sz : Nat) (h : Hp) (a0 : Nat) (p1 : Int32) (Qr : Int32 → Hp → Prop) (hw : wp_X5_first ev h a0 p1 Qr) : Met l yX5_first (ws_ yX5_first cX5_first 3 (some .int)) rm_X5_first (PcX D dA ev h sz [.ref a0, .int p1]) (va_Qi Qr (BX D dA (AX dA h sz)) (AX dA h sz)) 0 0 (AX dA h sz) := by
  refine Met.ofW (cc := cX5_first) (maxL := 3) (ret := (some .int)) (by decide) rfl ?_
  intro p e s m args below meth c s₁ B hml hv
  obtain ⟨rfl, hsz, hP, hK, hD0, hE⟩ := hv
  subst hsz
  have hts0 := atoms_spec (ws := ws_ yX5_first cX5_first 3 (some .int)) B.pre
  have C : CxM p s m meth c _ (AX dA h s.heap.size) "LeastSolutions$Lattice" cX5_first 3 (some .int) := ⟨B.exec, B.bytes, B.returns, B.notSynchronized, hml, findClass_of_methodNamed B.named, fun w h => hts0 w (List.mem_cons_of_mem _ h), fun q h => Or.inr h⟩
  have hM : wX D dA ev (AX dA h s.heap.size) s h s.heap [] := ⟨hK, hP, hD0.self, va_S.rf, hE⟩
  have hx := C.1
  have hb := C.2.1
  have hown := C.2.2.2.2.2.1
  have hts := C.2.2.2.2.2.2.1
  have hl := lv_entry ([.ref a0, .int p1]) (n := 3) (Nat.le_of_ble_eq_true rfl)
  rw [lg_entry_eq]
  generalize (lg_sl ([.ref a0, .int p1]) ++ List.replicate (3 - (lg_sl ([.ref a0, .int p1])).length) Slot.unset).toArray = ls at hl ⊢
  have hl : lv_has ls 3 [(0, .ref a0), (1, .int p1)] := hl
  unfold wp_X5_first at hw
  refine lv_iconst (v := 0) hx hb dX5_first_0 (by decide) ?_
  refine lv_istore_n (lv' := [(2, .int 0), (0, .ref a0), (1, .int p1)]) hx hb dX5_first_1 rfl hl (by decide) rfl (fun ls hl => ?_)
  obtain ⟨n2, hw⟩ := hw
  exact wk_X5_first_2 C  n2 a0 p1 0 h _ _ ls hw hM (lv_sub hl [1, 2, 0] rfl)
abbrev rm_X5_lead : Room := { frames := 3, cells := 0, slots := 0, locals := 70 }
set_option maxHeartbeats 4000000 in
theorem wk_X5_lead_53 {p : Program} {l : Launch} {e : Env} {s : State} {m : MethodId} {args : Array Value} {below : List Frame} {meth : Method} {c : Code} {D : va_G} {dA : Nat → ClassId} {ev : Nat → Nat} {h0 : Hp} {sz : Nat} (C : CxM p s m meth c args (AX dA h0 sz) "LeastSolutions$Lattice" cX5_lead 4 none) {Qr : Hp → Prop} : ∀ (n : Nat) (a0 : Nat) (v1 : Int32) (v2 : Int32) (v3 : Int32) (h : Hp) (H : Heap) (locs : List Loc) (ls : Array Slot), wp_X5_lead_53 ev Qr n a0 v1 v2 v3 h → wX D dA ev (AX dA h0 sz) s h H locs → lv_has ls 4 [(0, .ref a0), (1, .int v1), (2, .int v2), (3, .int v3)] → W p l e rm_X5_lead s m args below meth c H locs 0 0 (MQ below (va_Qv Qr (BX D dA (AX dA h0 sz)) (AX dA h0 sz)) args s 0 0 (AX dA h0 sz)) (F0 m 53 ls []) := by
  intro n
  induction n with
  | zero => intro a0 v1 v2 v3 h H locs ls hw; exact hw.elim
  | succ n53 ih =>
    intro a0 v1 v2 v3 h H locs ls hw hM hl
    have hx := C.1
    have hb := C.2.1
    have hown := C.2.2.2.2.2.1
    have hts := C.2.2.2.2.2.2.1
    unfold wp_X5_lead_53 at hw
    refine lv_iload_n hx hb dX5_lead_53 rfl (lv_at hl 3 rfl) ?_
    refine lv_iload_n hx hb dX5_lead_54 rfl (lv_at hl 2 rfl) ?_
    refine lv_icmp_ge (tgt := 94) hx hb dX5_lead_55 (by decide) (fun hc => ?_) (fun hc => ?_)
    · replace hw := hw.1 hc
      exact rX_vret C hM ⟨Nat.le_refl _, Nat.le_refl _⟩ hw dX5_lead_94
    · replace hw := hw.2 hc
      refine lv_aload_n hx hb dX5_lead_58 rfl (lv_at hl 0 rfl) ?_
      refine lv_iload_n hx hb dX5_lead_59 rfl (lv_at hl 3 rfl) ?_
      refine lv_iload_n hx hb dX5_lead_60 rfl (lv_at hl 2 rfl) ?_
      refine lv_aload_n hx hb dX5_lead_61 rfl (lv_at hl 0 rfl) ?_
      have o1 := hw.1
      replace hw := hw.2
      obtain ⟨b2, ebb2, hw⟩ := hw
      refine rX_getRs C hM 4 0 rfl in_X5 (by decide) (by decide) rfl q317 o1 ebb2 dX5_lead_62 ?_
      refine lv_iload_n hx hb dX5_lead_65 rfl (lv_at hl 3 rfl) ?_
      have o3 := hw.1
      replace hw := hw.2
      have o4 := hw.1
      replace hw := hw.2
      obtain ⟨b5, ebb5, hw⟩ := hw
      refine rX_aalds C hM 5 (by decide) (by decide) o3 o4 ebb5 dX5_lead_66 ?_
      refine lv_iconst (v := 4) hx hb dX5_lead_67 (by decide) ?_
      refine lv_iload_n hx hb dX5_lead_68 rfl (lv_at hl 1 rfl) ?_
      refine lv_iadd hx hb dX5_lead_69 ?_
      have o6 := hw.1
      replace hw := hw.2
      have o7 := hw.1
      replace hw := hw.2
      refine rX_lald C hM o6 o7 dX5_lead_70 ?_
      refine lv_aload_n hx hb dX5_lead_71 rfl (lv_at hl 0 rfl) ?_
      have o8 := hw.1
      replace hw := hw.2
      obtain ⟨b9, ebb9, hw⟩ := hw
      refine rX_getRs C hM 4 0 rfl in_X5 (by decide) (by decide) rfl q317 o8 ebb9 dX5_lead_72 ?_
      refine lv_iload_n hx hb dX5_lead_75 rfl (lv_at hl 2 rfl) ?_
      have o10 := hw.1
      replace hw := hw.2
      have o11 := hw.1
      replace hw := hw.2
      obtain ⟨b12, ebb12, hw⟩ := hw
      refine rX_aalds C hM 5 (by decide) (by decide) o10 o11 ebb12 dX5_lead_76 ?_
      refine lv_iconst (v := 4) hx hb dX5_lead_77 (by decide) ?_
      refine lv_iload_n hx hb dX5_lead_78 rfl (lv_at hl 1 rfl) ?_
      refine lv_iadd hx hb dX5_lead_79 ?_
      have o13 := hw.1
      replace hw := hw.2
      have o14 := hw.1
      replace hw := hw.2
      refine rX_lald C hM o13 o14 dX5_lead_80 ?_
      refine rX_gol C hM (runX_S C hM hl.1 2 (As := [.long (hJ h b5 (4 + v1)), .long (hJ h b12 (4 + v1))]) (mt_J7_floorDiv l D dA ev _ h (hJ h b5 (4 + v1)) (hJ h b12 (4 + v1))  _ hw) (lw_S q652 q653 q94 q654) rfl rfl (by decide +kernel) ⟨Nat.le_of_ble_eq_true rfl, Nat.le_of_ble_eq_true rfl⟩ rfl (Nat.le_of_ble_eq_true rfl) rfl dX5_lead_81 ⟨Nat.le_refl _, Nat.le_refl _⟩) (fun y16 h15 H locs hw hM => ?_)
      refine lv_lneg hx hb dX5_lead_84 ?_
      have o18 := hw.1
      replace hw := hw.2
      refine rX_gov C hM (runX_V C hM hl.1 4 3 (As := [.int v3, .int v2, .long (-y16)]) rfl (by decide) o18 (mt_X5_add l D dA ev _ h15 a0 v3 v2 (-y16)  _ hw) (lw_V q655 q657 qs19 q85 q658) rfl rfl (by decide +kernel) ⟨Nat.le_of_ble_eq_true rfl, Nat.le_of_ble_eq_true rfl⟩ rfl (Nat.le_of_ble_eq_true rfl) rfl dX5_lead_85 ⟨Nat.le_refl _, Nat.le_refl _⟩) (fun h17 H locs hw hM => ?_)
      obtain ⟨x19, ex19⟩ : ∃ y : Int32, y = v3 + 1 := ⟨_, rfl⟩
      replace hw := hw x19 ex19
      refine lv_iinc (v := x19) (lv' := [(3, .int x19), (0, .ref a0), (1, .int v1), (2, .int v2)]) hx hb dX5_lead_88 hl (k := 3) rfl (by rw [ex19]; rfl) (by decide) rfl (fun ls hl => ?_)
      refine lv_goto (tgt := 53) hx hb dX5_lead_91 (by decide) ?_
      exact ih a0 v1 v2 x19 h17 _ _ ls hw hM (lv_sub hl [1, 2, 3, 0] rfl)
set_option maxHeartbeats 4000000 in
theorem wk_X5_lead_47 {p : Program} {l : Launch} {e : Env} {s : State} {m : MethodId} {args : Array Value} {below : List Frame} {meth : Method} {c : Code} {D : va_G} {dA : Nat → ClassId} {ev : Nat → Nat} {h0 : Hp} {sz : Nat} (C : CxM p s m meth c args (AX dA h0 sz) "LeastSolutions$Lattice" cX5_lead 4 none) {Qr : Hp → Prop} : ∀ (a0 : Nat) (h : Hp) (H : Heap) (locs : List Loc) (ls : Array Slot), wp_X5_lead_47 ev Qr a0 h → wX D dA ev (AX dA h0 sz) s h H locs → lv_has ls 4 [(0, .ref a0)] → W p l e rm_X5_lead s m args below meth c H locs 0 0 (MQ below (va_Qv Qr (BX D dA (AX dA h0 sz)) (AX dA h0 sz)) args s 0 0 (AX dA h0 sz)) (F0 m 47 ls []) := by
  intro a0 h H locs ls hw hM hl
  have hx := C.1
  have hb := C.2.1
  have hown := C.2.2.2.2.2.1
  have hts := C.2.2.2.2.2.2.1
  unfold wp_X5_lead_47 at hw
  exact rX_vret C hM ⟨Nat.le_refl _, Nat.le_refl _⟩ hw dX5_lead_47
set_option maxHeartbeats 4000000 in
theorem wk_X5_lead_28 {p : Program} {l : Launch} {e : Env} {s : State} {m : MethodId} {args : Array Value} {below : List Frame} {meth : Method} {c : Code} {D : va_G} {dA : Nat → ClassId} {ev : Nat → Nat} {h0 : Hp} {sz : Nat} (C : CxM p s m meth c args (AX dA h0 sz) "LeastSolutions$Lattice" cX5_lead 4 none) {Qr : Hp → Prop} : ∀ (a0 : Nat) (v1 : Int32) (v2 : Int32) (h : Hp) (H : Heap) (locs : List Loc) (ls : Array Slot), wp_X5_lead_28 ev Qr a0 v1 v2 h → wX D dA ev (AX dA h0 sz) s h H locs → lv_has ls 4 [(0, .ref a0), (1, .int v1), (2, .int v2)] → W p l e rm_X5_lead s m args below meth c H locs 0 0 (MQ below (va_Qv Qr (BX D dA (AX dA h0 sz)) (AX dA h0 sz)) args s 0 0 (AX dA h0 sz)) (F0 m 28 ls []) := by
  intro a0 v1 v2 h H locs ls hw hM hl
  have hx := C.1
  have hb := C.2.1
  have hown := C.2.2.2.2.2.1
  have hts := C.2.2.2.2.2.2.1
  unfold wp_X5_lead_28 at hw
  refine lv_iload_n hx hb dX5_lead_28 rfl (lv_at hl 2 rfl) ?_
  refine lv_aload_n hx hb dX5_lead_29 rfl (lv_at hl 0 rfl) ?_
  have o1 := hw.1
  replace hw := hw.2
  refine rX_getI C hM 4 2 rfl in_X5 (by decide) (by decide) rfl q319 o1 dX5_lead_30 ?_
  refine lv_icmp_eq (tgt := 47) hx hb dX5_lead_33 (by decide) (fun hc => ?_) (fun hc => ?_)
  · replace hw := hw.1 hc
    exact wk_X5_lead_47 C  a0 h _ _ ls hw hM (lv_sub hl [0] rfl)
  · replace hw := hw.2 hc
    refine lv_aload_n hx hb dX5_lead_36 rfl (lv_at hl 0 rfl) ?_
    refine lv_iload_n hx hb dX5_lead_37 rfl (lv_at hl 2 rfl) ?_
    refine lv_iconst (v := 4) hx hb dX5_lead_38 (by decide) ?_
    refine lv_iload_n hx hb dX5_lead_39 rfl (lv_at hl 1 rfl) ?_
    refine lv_iadd hx hb dX5_lead_40 ?_
    have o4 := hw.1
    replace hw := hw.2
    refine rX_goi C hM (runX_V C hM hl.1 4 2 (As := [.int v2, .int (4 + v1)]) rfl (by decide) o4 (mt_X5_gather l D dA ev _ h a0 v2 (4 + v1)  _ hw) (lw_V q633 q635 qs15 q85 q636) rfl rfl (by decide +kernel) ⟨Nat.le_of_ble_eq_true rfl, Nat.le_of_ble_eq_true rfl⟩ rfl (Nat.le_of_ble_eq_true rfl) rfl dX5_lead_41 ⟨Nat.le_refl _, Nat.le_refl _⟩) (fun x3 h2 H locs hw hM => ?_)
    refine lv_if_ne (tgt := 48) hx hb dX5_lead_44 (by decide) (fun hc => ?_) (fun hc => ?_)
    · replace hw := hw.1 hc
      refine lv_aload_n hx hb dX5_lead_48 rfl (lv_at hl 0 rfl) ?_
      have o5 := hw.1
      replace hw := hw.2
      refine rX_getI C hM 4 3 rfl in_X5 (by decide) (by decide) rfl q320 o5 dX5_lead_49 ?_
      refine lv_topi (fun x6 ex6 => ?_)
      replace hw := hw x6 ex6
      refine lv_istore_n (lv' := [(3, .int x6), (0, .ref a0), (1, .int v1), (2, .int v2)]) hx hb dX5_lead_52 rfl hl (by decide) rfl (fun ls hl => ?_)
      obtain ⟨n53, hw⟩ := hw
      exact wk_X5_lead_53 C  n53 a0 v1 v2 x6 h2 _ _ ls hw hM (lv_sub hl [1, 2, 3, 0] rfl)
    · replace hw := hw.2 hc
      exact wk_X5_lead_47 C  a0 h2 _ _ ls hw hM (lv_sub hl [0] rfl)
set_option maxHeartbeats 4000000 in
theorem wk_X5_lead_5 {p : Program} {l : Launch} {e : Env} {s : State} {m : MethodId} {args : Array Value} {below : List Frame} {meth : Method} {c : Code} {D : va_G} {dA : Nat → ClassId} {ev : Nat → Nat} {h0 : Hp} {sz : Nat} (C : CxM p s m meth c args (AX dA h0 sz) "LeastSolutions$Lattice" cX5_lead 4 none) {Qr : Hp → Prop} : ∀ (n : Nat) (a0 : Nat) (v1 : Int32) (v2 : Int32) (h : Hp) (H : Heap) (locs : List Loc) (ls : Array Slot), wp_X5_lead_5 ev Qr n a0 v1 v2 h → wX D dA ev (AX dA h0 sz) s h H locs → lv_has ls 4 [(0, .ref a0), (1, .int v1), (2, .int v2)] → W p l e rm_X5_lead s m args below meth c H locs 0 0 (MQ below (va_Qv Qr (BX D dA (AX dA h0 sz)) (AX dA h0 sz)) args s 0 0 (AX dA h0 sz)) (F0 m 5 ls []) := by
  intro n
  induction n with
  | zero => intro a0 v1 v2 h H locs ls hw; exact hw.elim
  | succ n5 ih =>
    intro a0 v1 v2 h H locs ls hw hM hl
    have hx := C.1
    have hb := C.2.1
    have hown := C.2.2.2.2.2.1
    have hts := C.2.2.2.2.2.2.1
    unfold wp_X5_lead_5 at hw
    refine lv_iload_n hx hb dX5_lead_5 rfl (lv_at hl 2 rfl) ?_
    refine lv_aload_n hx hb dX5_lead_6 rfl (lv_at hl 0 rfl) ?_
    have o1 := hw.1
    replace hw := hw.2
    refine rX_getI C hM 4 2 rfl in_X5 (by decide) (by decide) rfl q319 o1 dX5_lead_7 ?_
    refine lv_icmp_ge (tgt := 28) hx hb dX5_lead_10 (by decide) (fun hc => ?_) (fun hc => ?_)
    · replace hw := hw.1 hc
      exact wk_X5_lead_28 C  a0 v1 v2 h _ _ ls hw hM (lv_sub hl [0, 1, 2] rfl)
    · replace hw := hw.2 hc
      refine lv_aload_n hx hb dX5_lead_13 rfl (lv_at hl 0 rfl) ?_
      refine lv_iload_n hx hb dX5_lead_14 rfl (lv_at hl 2 rfl) ?_
      have o4 := hw.1
      replace hw := hw.2
      refine rX_goi C hM (runX_V C hM hl.1 4 1 (As := [.int v2]) rfl (by decide) o4 (mt_X5_first l D dA ev _ h a0 v2  _ hw) (lw_V q663 q665 qs21 q85 q666) rfl rfl (by decide +kernel) ⟨Nat.le_of_ble_eq_true rfl, Nat.le_of_ble_eq_true rfl⟩ rfl (Nat.le_of_ble_eq_true rfl) rfl dX5_lead_15 ⟨Nat.le_refl _, Nat.le_refl _⟩) (fun x3 h2 H locs hw hM => ?_)
      refine lv_iload_n hx hb dX5_lead_18 rfl (lv_at hl 1 rfl) ?_
      refine lv_icmp_ge (tgt := 28) hx hb dX5_lead_19 (by decide) (fun hc => ?_) (fun hc => ?_)
      · replace hw := hw.1 hc
        exact wk_X5_lead_28 C  a0 v1 v2 h2 _ _ ls hw hM (lv_sub hl [0, 1, 2] rfl)
      · replace hw := hw.2 hc
        obtain ⟨x5, ex5⟩ : ∃ y : Int32, y = v2 + 1 := ⟨_, rfl⟩
        replace hw := hw x5 ex5
        refine lv_iinc (v := x5) (lv' := [(2, .int x5), (0, .ref a0), (1, .int v1)]) hx hb dX5_lead_22 hl (k := 2) rfl (by rw [ex5]; rfl) (by decide) rfl (fun ls hl => ?_)
        refine lv_goto (tgt := 5) hx hb dX5_lead_25 (by decide) ?_
        exact ih a0 v1 x5 h2 _ _ ls hw hM (lv_sub hl [1, 2, 0] rfl)
set_option maxHeartbeats 4000000 in
/-- LeastSolutions$Lattice.lead(I)V -/
theorem mt_X5_lead (l : Launch) (D : va_G) (dA : Nat → ClassId) (ev : Nat → Nat) (sz : Nat) (h : Hp) (a0 : Nat) (p1 : Int32) (Qr : Hp → Prop) (hw : wp_X5_lead ev h a0 p1 Qr) : Met l yX5_lead (ws_ yX5_lead cX5_lead 4 none) rm_X5_lead (PcX D dA ev h sz [.ref a0, .int p1]) (va_Qv Qr (BX D dA (AX dA h sz)) (AX dA h sz)) 0 0 (AX dA h sz) := by
  refine Met.ofW (cc := cX5_lead) (maxL := 4) (ret := none) (by decide) rfl ?_
  intro p e s m args below meth c s₁ B hml hv
  obtain ⟨rfl, hsz, hP, hK, hD0, hE⟩ := hv
  subst hsz
  have hts0 := atoms_spec (ws := ws_ yX5_lead cX5_lead 4 none) B.pre
  have C : CxM p s m meth c _ (AX dA h s.heap.size) "LeastSolutions$Lattice" cX5_lead 4 none := ⟨B.exec, B.bytes, B.returns, B.notSynchronized, hml, findClass_of_methodNamed B.named, fun w h => hts0 w (List.mem_cons_of_mem _ h), fun q h => Or.inr h⟩
  have hM : wX D dA ev (AX dA h s.heap.size) s h s.heap [] := ⟨hK, hP, hD0.self, va_S.rf, hE⟩
  have hx := C.1
  have hb := C.2.1
  have hown := C.2.2.2.2.2.1
  have hts := C.2.2.2.2.2.2.1
  have hl := lv_entry ([.ref a0, .int p1]) (n := 4) (Nat.le_of_ble_eq_true rfl)
  rw [lg_entry_eq]
  generalize (lg_sl ([.ref a0, .int p1]) ++ List.replicate (4 - (lg_sl ([.ref a0, .int p1])).length) Slot.unset).toArray = ls at hl ⊢
  have hl : lv_has ls 4 [(0, .ref a0), (1, .int p1)] := hl
  unfold wp_X5_lead at hw
  refine lv_aload_n hx hb dX5_lead_0 rfl (lv_at hl 0 rfl) ?_
  have o1 := hw.1
  replace hw := hw.2
  refine rX_getI C hM 4 3 rfl in_X5 (by decide) (by decide) rfl q320 o1 dX5_lead_1 ?_
  refine lv_topi (fun x2 ex2 => ?_)
  replace hw := hw x2 ex2
  refine lv_istore_n (lv' := [(2, .int x2), (0, .ref a0), (1, .int p1)]) hx hb dX5_lead_4 rfl hl (by decide) rfl (fun ls hl => ?_)
  obtain ⟨n5, hw⟩ := hw
  exact wk_X5_lead_5 C  n5 a0 p1 x2 h _ _ ls hw hM (lv_sub hl [1, 2, 0] rfl)
abbrev rm_X5_work : Room := { frames := 4, cells := 0, slots := 0, locals := 96 }
set_option maxHeartbeats 4000000 in
theorem wk_X5_work_165 {p : Program} {l : Launch} {e : Env} {s : State} {m : MethodId} {args : Array Value} {below : List Frame} {meth : Method} {c : Code} {D : va_G} {dA : Nat → ClassId} {ev : Nat → Nat} {h0 : Hp} {sz : Nat} (C : CxM p s m meth c args (AX dA h0 sz) "LeastSolutions$Lattice" cX5_work 4 none) {Qr : Hp → Prop} {K150 : Nat → Nat → Int32 → Hp → Prop} (hK150 : ∀ (a0 : Nat) (v1 : Nat) (v2 : Int32) (h : Hp) (H : Heap) (locs : List Loc) (ls : Array Slot), K150 a0 v1 v2 h → wX D dA ev (AX dA h0 sz) s h H locs → lv_has ls 4 [(0, .ref a0), (1, .ref v1), (2, .int v2)] → W p l e rm_X5_work s m args below meth c H locs 0 0 (MQ below (va_Qv Qr (BX D dA (AX dA h0 sz)) (AX dA h0 sz)) args s 0 0 (AX dA h0 sz)) (F0 m 150 ls [])) : ∀ (n : Nat) (a0 : Nat) (v1 : Nat) (v2 : Int32) (v3 : Int32) (h : Hp) (H : Heap) (locs : List Loc) (ls : Array Slot), wp_X5_work_165 ev Qr K150 n a0 v1 v2 v3 h → wX D dA ev (AX dA h0 sz) s h H locs → lv_has ls 4 [(0, .ref a0), (1, .ref v1), (2, .int v2), (3, .int v3)] → W p l e rm_X5_work s m args below meth c H locs 0 0 (MQ below (va_Qv Qr (BX D dA (AX dA h0 sz)) (AX dA h0 sz)) args s 0 0 (AX dA h0 sz)) (F0 m 165 ls []) := by
  intro n
  induction n with
  | zero => intro a0 v1 v2 v3 h H locs ls hw; exact hw.elim
  | succ n165 ih =>
    intro a0 v1 v2 v3 h H locs ls hw hM hl
    have hx := C.1
    have hb := C.2.1
    have hown := C.2.2.2.2.2.1
    have hts := C.2.2.2.2.2.2.1
    unfold wp_X5_work_165 at hw
    refine lv_iload_n hx hb dX5_work_165 rfl (lv_at hl 3 rfl) ?_
    refine lv_aload_n hx hb dX5_work_166 rfl (lv_at hl 0 rfl) ?_
    have o1 := hw.1
    replace hw := hw.2
    refine rX_getI C hM 4 2 rfl in_X5 (by decide) (by decide) rfl q319 o1 dX5_work_167 ?_
    refine lv_icmp_ge (tgt := 184) hx hb dX5_work_170 (by decide) (fun hc => ?_) (fun hc => ?_)
    · replace hw := hw.1 hc
      obtain ⟨x2, ex2⟩ : ∃ y : Int32, y = v2 + 1 := ⟨_, rfl⟩
      replace hw := hw x2 ex2
      refine lv_iinc (v := x2) (lv' := [(2, .int x2), (0, .ref a0), (1, .ref v1), (3, .int v3)]) hx hb dX5_work_184 hl (k := 2) rfl (by rw [ex2]; rfl) (by decide) rfl (fun ls hl => ?_)
      refine lv_goto (tgt := 150) hx hb dX5_work_187 (by decide) ?_
      exact hK150 a0 v1 x2 h _ _ ls hw hM (lv_sub hl [1, 2, 0] rfl)
    · replace hw := hw.2 hc
      refine lv_aload_n hx hb dX5_work_173 rfl (lv_at hl 0 rfl) ?_
      refine lv_iload_n hx hb dX5_work_174 rfl (lv_at hl 3 rfl) ?_
      have o4 := hw.1
      replace hw := hw.2
      refine rX_gov C hM (runX_V C hM hl.1 4 1 (As := [.int v3]) rfl (by decide) o4 (mt_X5_lead l D dA ev _ h a0 v3  _ hw) (lw_V q659 q661 qs20 q85 q662) rfl rfl (by decide +kernel) ⟨Nat.le_of_ble_eq_true rfl, Nat.le_of_ble_eq_true rfl⟩ rfl (Nat.le_of_ble_eq_true rfl) rfl dX5_work_175 ⟨Nat.le_refl _, Nat.le_refl _⟩) (fun h3 H locs hw hM => ?_)
      obtain ⟨x5, ex5⟩ : ∃ y : Int32, y = v3 + 1 := ⟨_, rfl⟩
      replace hw := hw x5 ex5
      refine lv_iinc (v := x5) (lv' := [(3, .int x5), (0, .ref a0), (1, .ref v1), (2, .int v2)]) hx hb dX5_work_178 hl (k := 3) rfl (by rw [ex5]; rfl) (by decide) rfl (fun ls hl => ?_)
      refine lv_goto (tgt := 165) hx hb dX5_work_181 (by decide) ?_
      exact ih a0 v1 v2 x5 h3 _ _ ls hw hM (lv_sub hl [1, 2, 3, 0] rfl)
set_option maxHeartbeats 4000000 in
theorem wk_X5_work_150 {p : Program} {l : Launch} {e : Env} {s : State} {m : MethodId} {args : Array Value} {below : List Frame} {meth : Method} {c : Code} {D : va_G} {dA : Nat → ClassId} {ev : Nat → Nat} {h0 : Hp} {sz : Nat} (C : CxM p s m meth c args (AX dA h0 sz) "LeastSolutions$Lattice" cX5_work 4 none) {Qr : Hp → Prop} : ∀ (n : Nat) (a0 : Nat) (v1 : Nat) (v2 : Int32) (h : Hp) (H : Heap) (locs : List Loc) (ls : Array Slot), wp_X5_work_150 ev Qr n a0 v1 v2 h → wX D dA ev (AX dA h0 sz) s h H locs → lv_has ls 4 [(0, .ref a0), (1, .ref v1), (2, .int v2)] → W p l e rm_X5_work s m args below meth c H locs 0 0 (MQ below (va_Qv Qr (BX D dA (AX dA h0 sz)) (AX dA h0 sz)) args s 0 0 (AX dA h0 sz)) (F0 m 150 ls []) := by
  intro n
  induction n with
  | zero => intro a0 v1 v2 h H locs ls hw; exact hw.elim
  | succ n150 ih =>
    intro a0 v1 v2 h H locs ls hw hM hl
    have hx := C.1
    have hb := C.2.1
    have hown := C.2.2.2.2.2.1
    have hts := C.2.2.2.2.2.2.1
    unfold wp_X5_work_150 at hw
    refine lv_iload_n hx hb dX5_work_150 rfl (lv_at hl 2 rfl) ?_
    refine lv_aload_n hx hb dX5_work_151 rfl (lv_at hl 1 rfl) ?_
    have o1 := hw.1
    replace hw := hw.2
    refine rX_getIN C hM 3 0 rfl in_X4 (by decide) (by decide) rfl q267 o1 dX5_work_152 ?_
    refine lv_icmp_ge (tgt := 190) hx hb dX5_work_155 (by decide) (fun hc => ?_) (fun hc => ?_)
    · replace hw := hw.1 hc
      exact rX_vret C hM ⟨Nat.le_refl _, Nat.le_refl _⟩ hw dX5_work_190
    · replace hw := hw.2 hc
      refine lv_aload_n hx hb dX5_work_158 rfl (lv_at hl 0 rfl) ?_
      refine lv_iload_n hx hb dX5_work_159 rfl (lv_at hl 2 rfl) ?_
      have o3 := hw.1
      replace hw := hw.2
      refine rX_gov C hM (runX_V C hM hl.1 4 1 (As := [.int v2]) rfl (by decide) o3 (mt_X5_settle l D dA ev _ h a0 v2  _ hw) (lw_V q629 q631 qs14 q85 q632) rfl rfl (by decide +kernel) ⟨Nat.le_of_ble_eq_true rfl, Nat.le_of_ble_eq_true rfl⟩ rfl (Nat.le_of_ble_eq_true rfl) rfl dX5_work_160 ⟨Nat.le_refl _, Nat.le_refl _⟩) (fun h2 H locs hw hM => ?_)
      refine lv_iconst (v := 0) hx hb dX5_work_163 (by decide) ?_
      refine lv_istore_n (lv' := [(3, .int 0), (0, .ref a0), (1, .ref v1), (2, .int v2)]) hx hb dX5_work_164 rfl hl (by decide) rfl (fun ls hl => ?_)
      obtain ⟨n165, hw⟩ := hw
      exact wk_X5_work_165 C ih n165 a0 v1 v2 0 h2 _ _ ls hw hM (lv_sub hl [1, 2, 3, 0] rfl)
set_option maxHeartbeats 4000000 in
theorem wk_X5_work_131 {p : Program} {l : Launch} {e : Env} {s : State} {m : MethodId} {args : Array Value} {below : List Frame} {meth : Method} {c : Code} {D : va_G} {dA : Nat → ClassId} {ev : Nat → Nat} {h0 : Hp} {sz : Nat} (C : CxM p s m meth c args (AX dA h0 sz) "LeastSolutions$Lattice" cX5_work 4 none) {Qr : Hp → Prop} {K102 : Nat → Nat → Int32 → Hp → Prop} (hK102 : ∀ (a0 : Nat) (v1 : Nat) (v2 : Int32) (h : Hp) (H : Heap) (locs : List Loc) (ls : Array Slot), K102 a0 v1 v2 h → wX D dA ev (AX dA h0 sz) s h H locs → lv_has ls 4 [(0, .ref a0), (1, .ref v1), (2, .int v2)] → W p l e rm_X5_work s m args below meth c H locs 0 0 (MQ below (va_Qv Qr (BX D dA (AX dA h0 sz)) (AX dA h0 sz)) args s 0 0 (AX dA h0 sz)) (F0 m 102 ls [])) : ∀ (a0 : Nat) (v1 : Nat) (v2 : Int32) (u0 : Nat) (u1 : Int32) (u2 : Int64) (h : Hp) (H : Heap) (locs : List Loc) (ls : Array Slot), wp_X5_work_131 ev Qr K102 a0 v1 v2 u0 u1 u2 h → wX D dA ev (AX dA h0 sz) s h H locs → lv_has ls 4 [(0, .ref a0), (1, .ref v1), (2, .int v2)] → W p l e rm_X5_work s m args below meth c H locs 0 0 (MQ below (va_Qv Qr (BX D dA (AX dA h0 sz)) (AX dA h0 sz)) args s 0 0 (AX dA h0 sz)) (F0 m 131 ls [.long u2, .int u1, .ref u0]) := by
  intro a0 v1 v2 u0 u1 u2 h H locs ls hw hM hl
  have hx := C.1
  have hb := C.2.1
  have hown := C.2.2.2.2.2.1
  have hts := C.2.2.2.2.2.2.1
  unfold wp_X5_work_131 at hw
  have o2 := hw.1
  replace hw := hw.2
  have o3 := hw.1
  replace hw := hw.2
  refine rX_last C hM o2 o3 dX5_work_131 (fun h1 H locs eσ hM => ?_)
  replace hw := hw h1 eσ
  clear eσ
  obtain ⟨x4, ex4⟩ : ∃ y : Int32, y = v2 + 1 := ⟨_, rfl⟩
  replace hw := hw x4 ex4
  refine lv_iinc (v := x4) (lv' := [(2, .int x4), (0, .ref a0), (1, .ref v1)]) hx hb dX5_work_132 hl (k := 2) rfl (by rw [ex4]; rfl) (by decide) rfl (fun ls hl => ?_)
  refine lv_goto (tgt := 102) hx hb dX5_work_135 (by decide) ?_
  exact hK102 a0 v1 x4 h1 _ _ ls hw hM (lv_sub hl [1, 2, 0] rfl)
set_option maxHeartbeats 4000000 in
theorem wk_X5_work_102 {p : Program} {l : Launch} {e : Env} {s : State} {m : MethodId} {args : Array Value} {below : List Frame} {meth : Method} {c : Code} {D : va_G} {dA : Nat → ClassId} {ev : Nat → Nat} {h0 : Hp} {sz : Nat} (C : CxM p s m meth c args (AX dA h0 sz) "LeastSolutions$Lattice" cX5_work 4 none) {Qr : Hp → Prop} : ∀ (n : Nat) (a0 : Nat) (v1 : Nat) (v2 : Int32) (h : Hp) (H : Heap) (locs : List Loc) (ls : Array Slot), wp_X5_work_102 ev Qr n a0 v1 v2 h → wX D dA ev (AX dA h0 sz) s h H locs → lv_has ls 4 [(0, .ref a0), (1, .ref v1), (2, .int v2)] → W p l e rm_X5_work s m args below meth c H locs 0 0 (MQ below (va_Qv Qr (BX D dA (AX dA h0 sz)) (AX dA h0 sz)) args s 0 0 (AX dA h0 sz)) (F0 m 102 ls []) := by
  intro n
  induction n with
  | zero => intro a0 v1 v2 h H locs ls hw; exact hw.elim
  | succ n102 ih =>
    intro a0 v1 v2 h H locs ls hw hM hl
    have hx := C.1
    have hb := C.2.1
    have hown := C.2.2.2.2.2.1
    have hts := C.2.2.2.2.2.2.1
    unfold wp_X5_work_102 at hw
    refine lv_iload_n hx hb dX5_work_102 rfl (lv_at hl 2 rfl) ?_
    refine lv_iconst (v := 4) hx hb dX5_work_103 (by decide) ?_
    refine lv_icmp_ge (tgt := 138) hx hb dX5_work_104 (by decide) (fun hc => ?_) (fun hc => ?_)
    · replace hw := hw.1 hc
      refine lv_aload_n hx hb dX5_work_138 rfl (lv_at hl 0 rfl) ?_
      refine lv_iconst (v := 0) hx hb dX5_work_139 (by decide) ?_
      have o2 := hw.1
      replace hw := hw.2
      refine rX_putI C hM 4 3 rfl in_X5 (by decide) (by decide) rfl rfl q320 o2 tyX5 tyX5_ok nmX5 rfl rfl rfl dX5_work_140 (fun h1 H locs eσ hM => ?_)
      replace hw := hw h1 eσ
      clear eσ
      refine lv_aload_n hx hb dX5_work_143 rfl (lv_at hl 0 rfl) ?_
      refine lv_iconst (v := 1) hx hb dX5_work_144 (by decide) ?_
      have o4 := hw.1
      replace hw := hw.2
      refine rX_putI C hM 4 4 rfl in_X5 (by decide) (by decide) rfl rfl q321 o4 tyX5 tyX5_ok nmX5 rfl (isB_n isB_1) (isB_f isB_1) dX5_work_145 (fun h3 H locs eσ hM => ?_)
      replace hw := hw h3 eσ
      clear eσ
      refine lv_iconst (v := 0) hx hb dX5_work_148 (by decide) ?_
      refine lv_istore_n (lv' := [(2, .int 0), (0, .ref a0), (1, .ref v1)]) hx hb dX5_work_149 rfl hl (by decide) rfl (fun ls hl => ?_)
      obtain ⟨n150, hw⟩ := hw
      exact wk_X5_work_150 C  n150 a0 v1 0 h3 _ _ ls hw hM (lv_sub hl [1, 2, 0] rfl)
    · replace hw := hw.2 hc
      refine lv_aload_n hx hb dX5_work_107 rfl (lv_at hl 0 rfl) ?_
      have o5 := hw.1
      replace hw := hw.2
      obtain ⟨b6, ebb6, hw⟩ := hw
      refine rX_getRs C hM 4 1 rfl in_X5 (by decide) (by decide) rfl q318 o5 ebb6 dX5_work_108 ?_
      refine lv_iload_n hx hb dX5_work_111 rfl (lv_at hl 2 rfl) ?_
      refine lv_iload_n hx hb dX5_work_112 rfl (lv_at hl 2 rfl) ?_
      refine lv_aload_n hx hb dX5_work_113 rfl (lv_at hl 1 rfl) ?_
      have o7 := hw.1
      replace hw := hw.2
      refine rX_getIN C hM 3 0 rfl in_X4 (by decide) (by decide) rfl q267 o7 dX5_work_114 ?_
      refine lv_icmp_ge (tgt := 130) hx hb dX5_work_117 (by decide) (fun hc => ?_) (fun hc => ?_)
      · replace hw := hw.1 hc
        refine lv_lconst (v := 0) hx hb dX5_work_130 (by decide) ?_
        exact wk_X5_work_131 C ih a0 v1 v2 b6 v2 0 h _ _ ls hw hM (lv_sub hl [0, 1, 2] rfl)
      · replace hw := hw.2 hc
        refine lv_aload_n hx hb dX5_work_120 rfl (lv_at hl 1 rfl) ?_
        have o8 := hw.1
        replace hw := hw.2
        obtain ⟨b9, ebb9, hw⟩ := hw
        refine rX_getRsN C hM 3 5 rfl in_X4 (by decide) (by decide) rfl q291 o8 ebb9 dX5_work_121 ?_
        refine lv_iload_n hx hb dX5_work_124 rfl (lv_at hl 2 rfl) ?_
        have o10 := hw.1
        replace hw := hw.2
        have o11 := hw.1
        replace hw := hw.2
        refine rX_iald C hM o10 o11 dX5_work_125 ?_
        refine lv_i2l hx hb dX5_work_126 rfl ?_
        refine lv_goto (tgt := 131) hx hb dX5_work_127 (by decide) ?_
        exact wk_X5_work_131 C ih a0 v1 v2 b6 v2 ((((hA h b9 v2)).toInt64)) h _ _ ls hw hM (lv_sub hl [0, 1, 2] rfl)
set_option maxHeartbeats 4000000 in
theorem wk_X5_work_87 {p : Program} {l : Launch} {e : Env} {s : State} {m : MethodId} {args : Array Value} {below : List Frame} {meth : Method} {c : Code} {D : va_G} {dA : Nat → ClassId} {ev : Nat → Nat} {h0 : Hp} {sz : Nat} (C : CxM p s m meth c args (AX dA h0 sz) "LeastSolutions$Lattice" cX5_work 4 none) {Qr : Hp → Prop} {K10 : Nat → Nat → Int32 → Hp → Prop} (hK10 : ∀ (a0 : Nat) (v1 : Nat) (v2 : Int32) (h : Hp) (H : Heap) (locs : List Loc) (ls : Array Slot), K10 a0 v1 v2 h → wX D dA ev (AX dA h0 sz) s h H locs → lv_has ls 4 [(0, .ref a0), (1, .ref v1), (2, .int v2)] → W p l e rm_X5_work s m args below meth c H locs 0 0 (MQ below (va_Qv Qr (BX D dA (AX dA h0 sz)) (AX dA h0 sz)) args s 0 0 (AX dA h0 sz)) (F0 m 10 ls [])) {K62 : Nat → Nat → Int32 → Int32 → Hp → Prop} (hK62 : ∀ (a0 : Nat) (v1 : Nat) (v2 : Int32) (v3 : Int32) (h : Hp) (H : Heap) (locs : List Loc) (ls : Array Slot), K62 a0 v1 v2 v3 h → wX D dA ev (AX dA h0 sz) s h H locs → lv_has ls 4 [(0, .ref a0), (1, .ref v1), (2, .int v2), (3, .int v3)] → W p l e rm_X5_work s m args below meth c H locs 0 0 (MQ below (va_Qv Qr (BX D dA (AX dA h0 sz)) (AX dA h0 sz)) args s 0 0 (AX dA h0 sz)) (F0 m 62 ls [])) : ∀ (a0 : Nat) (v1 : Nat) (v2 : Int32) (v3 : Int32) (u0 : Nat) (u1 : Int32) (u2 : Int64) (h : Hp) (H : Heap) (locs : List Loc) (ls : Array Slot), wp_X5_work_87 ev Qr K10 K62 a0 v1 v2 v3 u0 u1 u2 h → wX D dA ev (AX dA h0 sz) s h H locs → lv_has ls 4 [(0, .ref a0), (1, .ref v1), (2, .int v2), (3, .int v3)] → W p l e rm_X5_work s m args below meth c H locs 0 0 (MQ below (va_Qv Qr (BX D dA (AX dA h0 sz)) (AX dA h0 sz)) args s 0 0 (AX dA h0 sz)) (F0 m 87 ls [.long u2, .int u1, .ref u0]) := by
  intro a0 v1 v2 v3 u0 u1 u2 h H locs ls hw hM hl
  have hx := C.1
  have hb := C.2.1
  have hown := C.2.2.2.2.2.1
  have hts := C.2.2.2.2.2.2.1
  unfold wp_X5_work_87 at hw
  have o2 := hw.1
  replace hw := hw.2
  have o3 := hw.1
  replace hw := hw.2
  refine rX_last C hM o2 o3 dX5_work_87 (fun h1 H locs eσ hM => ?_)
  replace hw := hw h1 eσ
  clear eσ
  obtain ⟨x4, ex4⟩ : ∃ y : Int32, y = v3 + 1 := ⟨_, rfl⟩
  replace hw := hw x4 ex4
  refine lv_iinc (v := x4) (lv' := [(3, .int x4), (0, .ref a0), (1, .ref v1), (2, .int v2)]) hx hb dX5_work_88 hl (k := 3) rfl (by rw [ex4]; rfl) (by decide) rfl (fun ls hl => ?_)
  refine lv_goto (tgt := 62) hx hb dX5_work_91 (by decide) ?_
  exact hK62 a0 v1 v2 x4 h1 _ _ ls hw hM (lv_sub hl [1, 2, 3, 0] rfl)
set_option maxHeartbeats 4000000 in
theorem wk_X5_work_62 {p : Program} {l : Launch} {e : Env} {s : State} {m : MethodId} {args : Array Value} {below : List Frame} {meth : Method} {c : Code} {D : va_G} {dA : Nat → ClassId} {ev : Nat → Nat} {h0 : Hp} {sz : Nat} (C : CxM p s m meth c args (AX dA h0 sz) "LeastSolutions$Lattice" cX5_work 4 none) {Qr : Hp → Prop} {K10 : Nat → Nat → Int32 → Hp → Prop} (hK10 : ∀ (a0 : Nat) (v1 : Nat) (v2 : Int32) (h : Hp) (H : Heap) (locs : List Loc) (ls : Array Slot), K10 a0 v1 v2 h → wX D dA ev (AX dA h0 sz) s h H locs → lv_has ls 4 [(0, .ref a0), (1, .ref v1), (2, .int v2)] → W p l e rm_X5_work s m args below meth c H locs 0 0 (MQ below (va_Qv Qr (BX D dA (AX dA h0 sz)) (AX dA h0 sz)) args s 0 0 (AX dA h0 sz)) (F0 m 10 ls [])) : ∀ (n : Nat) (a0 : Nat) (v1 : Nat) (v2 : Int32) (v3 : Int32) (h : Hp) (H : Heap) (locs : List Loc) (ls : Array Slot), wp_X5_work_62 ev Qr K10 n a0 v1 v2 v3 h → wX D dA ev (AX dA h0 sz) s h H locs → lv_has ls 4 [(0, .ref a0), (1, .ref v1), (2, .int v2), (3, .int v3)] → W p l e rm_X5_work s m args below meth c H locs 0 0 (MQ below (va_Qv Qr (BX D dA (AX dA h0 sz)) (AX dA h0 sz)) args s 0 0 (AX dA h0 sz)) (F0 m 62 ls []) := by
  intro n
  induction n with
  | zero => intro a0 v1 v2 v3 h H locs ls hw; exact hw.elim
  | succ n62 ih =>
    intro a0 v1 v2 v3 h H locs ls hw hM hl
    have hx := C.1
    have hb := C.2.1
    have hown := C.2.2.2.2.2.1
    have hts := C.2.2.2.2.2.2.1
    unfold wp_X5_work_62 at hw
    refine lv_iload_n hx hb dX5_work_62 rfl (lv_at hl 3 rfl) ?_
    refine lv_bipush (v := 6) hx hb dX5_work_63 (by decide) ?_
    refine lv_icmp_ge (tgt := 94) hx hb dX5_work_65 (by decide) (fun hc => ?_) (fun hc => ?_)
    · replace hw := hw.1 hc
      obtain ⟨x1, ex1⟩ : ∃ y : Int32, y = v2 + 1 := ⟨_, rfl⟩
      replace hw := hw x1 ex1
      refine lv_iinc (v := x1) (lv' := [(2, .int x1), (0, .ref a0), (1, .ref v1), (3, .int v3)]) hx hb dX5_work_94 hl (k := 2) rfl (by rw [ex1]; rfl) (by decide) rfl (fun ls hl => ?_)
      refine lv_goto (tgt := 10) hx hb dX5_work_97 (by decide) ?_
      exact hK10 a0 v1 x1 h _ _ ls hw hM (lv_sub hl [1, 2, 0] rfl)
    · replace hw := hw.2 hc
      refine lv_aload_n hx hb dX5_work_68 rfl (lv_at hl 0 rfl) ?_
      have o2 := hw.1
      replace hw := hw.2
      obtain ⟨b3, ebb3, hw⟩ := hw
      refine rX_getRs C hM 4 0 rfl in_X5 (by decide) (by decide) rfl q317 o2 ebb3 dX5_work_69 ?_
      refine lv_iload_n hx hb dX5_work_72 rfl (lv_at hl 2 rfl) ?_
      have o4 := hw.1
      replace hw := hw.2
      have o5 := hw.1
      replace hw := hw.2
      obtain ⟨b6, ebb6, hw⟩ := hw
      refine rX_aalds C hM 5 (by decide) (by decide) o4 o5 ebb6 dX5_work_73 ?_
      refine lv_iconst (v := 4) hx hb dX5_work_74 (by decide) ?_
      refine lv_iload_n hx hb dX5_work_75 rfl (lv_at hl 3 rfl) ?_
      refine lv_iadd hx hb dX5_work_76 ?_
      refine lv_iload_n hx hb dX5_work_77 rfl (lv_at hl 2 rfl) ?_
      refine lv_iload_n hx hb dX5_work_78 rfl (lv_at hl 3 rfl) ?_
      refine lv_icmp_ne (tgt := 86) hx hb dX5_work_79 (by decide) (fun hc => ?_) (fun hc => ?_)
      · replace hw := hw.1 hc
        refine lv_lconst (v := 0) hx hb dX5_work_86 (by decide) ?_
        exact wk_X5_work_87 C hK10 ih a0 v1 v2 v3 b6 ((4 + v3)) 0 h _ _ ls hw hM (lv_sub hl [0, 1, 2, 3] rfl)
      · replace hw := hw.2 hc
        refine lv_lconst (v := 1) hx hb dX5_work_82 (by decide) ?_
        refine lv_goto (tgt := 87) hx hb dX5_work_83 (by decide) ?_
        exact wk_X5_work_87 C hK10 ih a0 v1 v2 v3 b6 ((4 + v3)) 1 h _ _ ls hw hM (lv_sub hl [0, 1, 2, 3] rfl)
set_option maxHeartbeats 4000000 in
theorem wk_X5_work_53 {p : Program} {l : Launch} {e : Env} {s : State} {m : MethodId} {args : Array Value} {below : List Frame} {meth : Method} {c : Code} {D : va_G} {dA : Nat → ClassId} {ev : Nat → Nat} {h0 : Hp} {sz : Nat} (C : CxM p s m meth c args (AX dA h0 sz) "LeastSolutions$Lattice" cX5_work 4 none) {Qr : Hp → Prop} {K10 : Nat → Nat → Int32 → Hp → Prop} (hK10 : ∀ (a0 : Nat) (v1 : Nat) (v2 : Int32) (h : Hp) (H : Heap) (locs : List Loc) (ls : Array Slot), K10 a0 v1 v2 h → wX D dA ev (AX dA h0 sz) s h H locs → lv_has ls 4 [(0, .ref a0), (1, .ref v1), (2, .int v2)] → W p l e rm_X5_work s m args below meth c H locs 0 0 (MQ below (va_Qv Qr (BX D dA (AX dA h0 sz)) (AX dA h0 sz)) args s 0 0 (AX dA h0 sz)) (F0 m 10 ls [])) {K20 : Nat → Nat → Int32 → Int32 → Hp → Prop} (hK20 : ∀ (a0 : Nat) (v1 : Nat) (v2 : Int32) (v3 : Int32) (h : Hp) (H : Heap) (locs : List Loc) (ls : Array Slot), K20 a0 v1 v2 v3 h → wX D dA ev (AX dA h0 sz) s h H locs → lv_has ls 4 [(0, .ref a0), (1, .ref v1), (2, .int v2), (3, .int v3)] → W p l e rm_X5_work s m args below meth c H locs 0 0 (MQ below (va_Qv Qr (BX D dA (AX dA h0 sz)) (AX dA h0 sz)) args s 0 0 (AX dA h0 sz)) (F0 m 20 ls [])) : ∀ (a0 : Nat) (v1 : Nat) (v2 : Int32) (v3 : Int32) (u0 : Nat) (u1 : Int32) (u2 : Int64) (h : Hp) (H : Heap) (locs : List Loc) (ls : Array Slot), wp_X5_work_53 ev Qr K10 K20 a0 v1 v2 v3 u0 u1 u2 h → wX D dA ev (AX dA h0 sz) s h H locs → lv_has ls 4 [(0, .ref a0), (1, .ref v1), (2, .int v2), (3, .int v3)] → W p l e rm_X5_work s m args below meth c H locs 0 0 (MQ below (va_Qv Qr (BX D dA (AX dA h0 sz)) (AX dA h0 sz)) args s 0 0 (AX dA h0 sz)) (F0 m 53 ls [.long u2, .int u1, .ref u0]) := by
  intro a0 v1 v2 v3 u0 u1 u2 h H locs ls hw hM hl
  have hx := C.1
  have hb := C.2.1
  have hown := C.2.2.2.2.2.1
  have hts := C.2.2.2.2.2.2.1
  unfold wp_X5_work_53 at hw
  have o2 := hw.1
  replace hw := hw.2
  have o3 := hw.1
  replace hw := hw.2
  refine rX_last C hM o2 o3 dX5_work_53 (fun h1 H locs eσ hM => ?_)
  replace hw := hw h1 eσ
  clear eσ
  obtain ⟨x4, ex4⟩ : ∃ y : Int32, y = v3 + 1 := ⟨_, rfl⟩
  replace hw := hw x4 ex4
  refine lv_iinc (v := x4) (lv' := [(3, .int x4), (0, .ref a0), (1, .ref v1), (2, .int v2)]) hx hb dX5_work_54 hl (k := 3) rfl (by rw [ex4]; rfl) (by decide) rfl (fun ls hl => ?_)
  refine lv_goto (tgt := 20) hx hb dX5_work_57 (by decide) ?_
  exact hK20 a0 v1 v2 x4 h1 _ _ ls hw hM (lv_sub hl [1, 2, 3, 0] rfl)
set_option maxHeartbeats 4000000 in
theorem wk_X5_work_20 {p : Program} {l : Launch} {e : Env} {s : State} {m : MethodId} {args : Array Value} {below : List Frame} {meth : Method} {c : Code} {D : va_G} {dA : Nat → ClassId} {ev : Nat → Nat} {h0 : Hp} {sz : Nat} (C : CxM p s m meth c args (AX dA h0 sz) "LeastSolutions$Lattice" cX5_work 4 none) {Qr : Hp → Prop} {K10 : Nat → Nat → Int32 → Hp → Prop} (hK10 : ∀ (a0 : Nat) (v1 : Nat) (v2 : Int32) (h : Hp) (H : Heap) (locs : List Loc) (ls : Array Slot), K10 a0 v1 v2 h → wX D dA ev (AX dA h0 sz) s h H locs → lv_has ls 4 [(0, .ref a0), (1, .ref v1), (2, .int v2)] → W p l e rm_X5_work s m args below meth c H locs 0 0 (MQ below (va_Qv Qr (BX D dA (AX dA h0 sz)) (AX dA h0 sz)) args s 0 0 (AX dA h0 sz)) (F0 m 10 ls [])) : ∀ (n : Nat) (a0 : Nat) (v1 : Nat) (v2 : Int32) (v3 : Int32) (h : Hp) (H : Heap) (locs : List Loc) (ls : Array Slot), wp_X5_work_20 ev Qr K10 n a0 v1 v2 v3 h → wX D dA ev (AX dA h0 sz) s h H locs → lv_has ls 4 [(0, .ref a0), (1, .ref v1), (2, .int v2), (3, .int v3)] → W p l e rm_X5_work s m args below meth c H locs 0 0 (MQ below (va_Qv Qr (BX D dA (AX dA h0 sz)) (AX dA h0 sz)) args s 0 0 (AX dA h0 sz)) (F0 m 20 ls []) := by
  intro n
  induction n with
  | zero => intro a0 v1 v2 v3 h H locs ls hw; exact hw.elim
  | succ n20 ih =>
    intro a0 v1 v2 v3 h H locs ls hw hM hl
    have hx := C.1
    have hb := C.2.1
    have hown := C.2.2.2.2.2.1
    have hts := C.2.2.2.2.2.2.1
    unfold wp_X5_work_20 at hw
    refine lv_iload_n hx hb dX5_work_20 rfl (lv_at hl 3 rfl) ?_
    refine lv_iconst (v := 4) hx hb dX5_work_21 (by decide) ?_
    refine lv_icmp_ge (tgt := 60) hx hb dX5_work_22 (by decide) (fun hc => ?_) (fun hc => ?_)
    · replace hw := hw.1 hc
      refine lv_iconst (v := 0) hx hb dX5_work_60 (by decide) ?_
      refine lv_istore_n (lv' := [(3, .int 0), (0, .ref a0), (1, .ref v1), (2, .int v2)]) hx hb dX5_work_61 rfl hl (by decide) rfl (fun ls hl => ?_)
      obtain ⟨n62, hw⟩ := hw
      exact wk_X5_work_62 C hK10 n62 a0 v1 v2 0 h _ _ ls hw hM (lv_sub hl [1, 2, 3, 0] rfl)
    · replace hw := hw.2 hc
      refine lv_aload_n hx hb dX5_work_25 rfl (lv_at hl 0 rfl) ?_
      have o1 := hw.1
      replace hw := hw.2
      obtain ⟨b2, ebb2, hw⟩ := hw
      refine rX_getRs C hM 4 0 rfl in_X5 (by decide) (by decide) rfl q317 o1 ebb2 dX5_work_26 ?_
      refine lv_iload_n hx hb dX5_work_29 rfl (lv_at hl 2 rfl) ?_
      have o3 := hw.1
      replace hw := hw.2
      have o4 := hw.1
      replace hw := hw.2
      obtain ⟨b5, ebb5, hw⟩ := hw
      refine rX_aalds C hM 5 (by decide) (by decide) o3 o4 ebb5 dX5_work_30 ?_
      refine lv_iload_n hx hb dX5_work_31 rfl (lv_at hl 3 rfl) ?_
      refine lv_iload_n hx hb dX5_work_32 rfl (lv_at hl 3 rfl) ?_
      refine lv_aload_n hx hb dX5_work_33 rfl (lv_at hl 1 rfl) ?_
      have o6 := hw.1
      replace hw := hw.2
      refine rX_getIN C hM 3 0 rfl in_X4 (by decide) (by decide) rfl q267 o6 dX5_work_34 ?_
      refine lv_icmp_ge (tgt := 52) hx hb dX5_work_37 (by decide) (fun hc => ?_) (fun hc => ?_)
      · replace hw := hw.1 hc
        refine lv_lconst (v := 0) hx hb dX5_work_52 (by decide) ?_
        exact wk_X5_work_53 C hK10 ih a0 v1 v2 v3 b5 v3 0 h _ _ ls hw hM (lv_sub hl [0, 1, 2, 3] rfl)
      · replace hw := hw.2 hc
        refine lv_aload_n hx hb dX5_work_40 rfl (lv_at hl 1 rfl) ?_
        have o7 := hw.1
        replace hw := hw.2
        obtain ⟨b8, ebb8, hw⟩ := hw
        refine rX_getRsN C hM 3 4 rfl in_X4 (by decide) (by decide) rfl q285 o7 ebb8 dX5_work_41 ?_
        refine lv_iload_n hx hb dX5_work_44 rfl (lv_at hl 3 rfl) ?_
        have o9 := hw.1
        replace hw := hw.2
        have o10 := hw.1
        replace hw := hw.2
        obtain ⟨b11, ebb11, hw⟩ := hw
        refine rX_aalds C hM 4 (by decide) (by decide) o9 o10 ebb11 dX5_work_45 ?_
        refine lv_iload_n hx hb dX5_work_46 rfl (lv_at hl 2 rfl) ?_
        have o12 := hw.1
        replace hw := hw.2
        have o13 := hw.1
        replace hw := hw.2
        refine rX_iald C hM o12 o13 dX5_work_47 ?_
        refine lv_i2l hx hb dX5_work_48 rfl ?_
        refine lv_goto (tgt := 53) hx hb dX5_work_49 (by decide) ?_
        exact wk_X5_work_53 C hK10 ih a0 v1 v2 v3 b5 v3 ((((hA h b11 v2)).toInt64)) h _ _ ls hw hM (lv_sub hl [0, 1, 2, 3] rfl)
set_option maxHeartbeats 4000000 in
theorem wk_X5_work_10 {p : Program} {l : Launch} {e : Env} {s : State} {m : MethodId} {args : Array Value} {below : List Frame} {meth : Method} {c : Code} {D : va_G} {dA : Nat → ClassId} {ev : Nat → Nat} {h0 : Hp} {sz : Nat} (C : CxM p s m meth c args (AX dA h0 sz) "LeastSolutions$Lattice" cX5_work 4 none) {Qr : Hp → Prop} : ∀ (n : Nat) (a0 : Nat) (v1 : Nat) (v2 : Int32) (h : Hp) (H : Heap) (locs : List Loc) (ls : Array Slot), wp_X5_work_10 ev Qr n a0 v1 v2 h → wX D dA ev (AX dA h0 sz) s h H locs → lv_has ls 4 [(0, .ref a0), (1, .ref v1), (2, .int v2)] → W p l e rm_X5_work s m args below meth c H locs 0 0 (MQ below (va_Qv Qr (BX D dA (AX dA h0 sz)) (AX dA h0 sz)) args s 0 0 (AX dA h0 sz)) (F0 m 10 ls []) := by
  intro n
  induction n with
  | zero => intro a0 v1 v2 h H locs ls hw; exact hw.elim
  | succ n10 ih =>
    intro a0 v1 v2 h H locs ls hw hM hl
    have hx := C.1
    have hb := C.2.1
    have hown := C.2.2.2.2.2.1
    have hts := C.2.2.2.2.2.2.1
    unfold wp_X5_work_10 at hw
    refine lv_iload_n hx hb dX5_work_10 rfl (lv_at hl 2 rfl) ?_
    refine lv_aload_n hx hb dX5_work_11 rfl (lv_at hl 0 rfl) ?_
    have o1 := hw.1
    replace hw := hw.2
    refine rX_getI C hM 4 2 rfl in_X5 (by decide) (by decide) rfl q319 o1 dX5_work_12 ?_
    refine lv_icmp_ge (tgt := 100) hx hb dX5_work_15 (by decide) (fun hc => ?_) (fun hc => ?_)
    · replace hw := hw.1 hc
      refine lv_iconst (v := 0) hx hb dX5_work_100 (by decide) ?_
      refine lv_istore_n (lv' := [(2, .int 0), (0, .ref a0), (1, .ref v1)]) hx hb dX5_work_101 rfl hl (by decide) rfl (fun ls hl => ?_)
      obtain ⟨n102, hw⟩ := hw
      exact wk_X5_work_102 C  n102 a0 v1 0 h _ _ ls hw hM (lv_sub hl [1, 2, 0] rfl)
    · replace hw := hw.2 hc
      refine lv_iconst (v := 0) hx hb dX5_work_18 (by decide) ?_
      refine lv_istore_n (lv' := [(3, .int 0), (0, .ref a0), (1, .ref v1), (2, .int v2)]) hx hb dX5_work_19 rfl hl (by decide) rfl (fun ls hl => ?_)
      obtain ⟨n20, hw⟩ := hw
      exact wk_X5_work_20 C ih n20 a0 v1 v2 0 h _ _ ls hw hM (lv_sub hl [1, 2, 3, 0] rfl)
set_option maxHeartbeats 4000000 in
/-- LeastSolutions$Lattice.work(LLeastSolutions$Model;)V -/
theorem mt_X5_work (l : Launch) (D : va_G) (dA : Nat → ClassId) (ev : Nat → Nat) (sz : Nat) (h : Hp) (a0 : Nat) (p1 : Nat) (Qr : Hp → Prop) (hw : wp_X5_work ev h a0 p1 Qr) : Met l yX5_work (ws_ yX5_work cX5_work 4 none) rm_X5_work (PcX D dA ev h sz [.ref a0, .ref p1]) (va_Qv Qr (BX D dA (AX dA h sz)) (AX dA h sz)) 0 0 (AX dA h sz) := by
  refine Met.ofW (cc := cX5_work) (maxL := 4) (ret := none) (by decide) rfl ?_
  intro p e s m args below meth c s₁ B hml hv
  obtain ⟨rfl, hsz, hP, hK, hD0, hE⟩ := hv
  subst hsz
  have hts0 := atoms_spec (ws := ws_ yX5_work cX5_work 4 none) B.pre
  have C : CxM p s m meth c _ (AX dA h s.heap.size) "LeastSolutions$Lattice" cX5_work 4 none := ⟨B.exec, B.bytes, B.returns, B.notSynchronized, hml, findClass_of_methodNamed B.named, fun w h => hts0 w (List.mem_cons_of_mem _ h), fun q h => Or.inr h⟩
  have hM : wX D dA ev (AX dA h s.heap.size) s h s.heap [] := ⟨hK, hP, hD0.self, va_S.rf, hE⟩
  have hx := C.1
  have hb := C.2.1
  have hown := C.2.2.2.2.2.1
  have hts := C.2.2.2.2.2.2.1
  have hl := lv_entry ([.ref a0, .ref p1]) (n := 4) (Nat.le_of_ble_eq_true rfl)
  rw [lg_entry_eq]
  generalize (lg_sl ([.ref a0, .ref p1]) ++ List.replicate (4 - (lg_sl ([.ref a0, .ref p1])).length) Slot.unset).toArray = ls at hl ⊢
  have hl : lv_has ls 4 [(0, .ref a0), (1, .ref p1)] := hl
  unfold wp_X5_work at hw
  refine lv_aload_n hx hb dX5_work_0 rfl (lv_at hl 0 rfl) ?_
  refine lv_aload_n hx hb dX5_work_1 rfl (lv_at hl 1 rfl) ?_
  have o1 := hw.1
  replace hw := hw.2
  refine rX_getIN C hM 3 1 rfl in_X4 (by decide) (by decide) rfl q272 o1 dX5_work_2 ?_
  have o3 := hw.1
  replace hw := hw.2
  refine rX_putI C hM 4 2 rfl in_X5 (by decide) (by decide) rfl rfl q319 o3 tyX5 tyX5_ok nmX5 rfl rfl rfl dX5_work_5 (fun h2 H locs eσ hM => ?_)
  replace hw := hw h2 eσ
  clear eσ
  refine lv_iconst (v := 0) hx hb dX5_work_8 (by decide) ?_
  refine lv_istore_n (lv' := [(2, .int 0), (0, .ref a0), (1, .ref p1)]) hx hb dX5_work_9 rfl hl (by decide) rfl (fun ls hl => ?_)
  obtain ⟨n10, hw⟩ := hw
  exact wk_X5_work_10 C  n10 a0 p1 0 h2 _ _ ls hw hM (lv_sub hl [1, 2, 0] rfl)
abbrev rm_X5_dimension : Room := { frames := 0, cells := 0, slots := 0, locals := 0 }
set_option maxHeartbeats 4000000 in
/-- LeastSolutions$Lattice.dimension()I -/
theorem mt_X5_dimension (l : Launch) (D : va_G) (dA : Nat → ClassId) (ev : Nat → Nat) (sz : Nat) (h : Hp) (a0 : Nat) (Qr : Int32 → Hp → Prop) (hw : wp_X5_dimension ev h a0 Qr) : Met l yX5_dimension (ws_ yX5_dimension cX5_dimension 1 (some .int)) rm_X5_dimension (PcX D dA ev h sz [.ref a0]) (va_Qi Qr (BX D dA (AX dA h sz)) (AX dA h sz)) 0 0 (AX dA h sz) := by
  refine Met.ofW (cc := cX5_dimension) (maxL := 1) (ret := (some .int)) (by decide) rfl ?_
  intro p e s m args below meth c s₁ B hml hv
  obtain ⟨rfl, hsz, hP, hK, hD0, hE⟩ := hv
  subst hsz
  have hts0 := atoms_spec (ws := ws_ yX5_dimension cX5_dimension 1 (some .int)) B.pre
  have C : CxM p s m meth c _ (AX dA h s.heap.size) "LeastSolutions$Lattice" cX5_dimension 1 (some .int) := ⟨B.exec, B.bytes, B.returns, B.notSynchronized, hml, findClass_of_methodNamed B.named, fun w h => hts0 w (List.mem_cons_of_mem _ h), fun q h => Or.inr h⟩
  have hM : wX D dA ev (AX dA h s.heap.size) s h s.heap [] := ⟨hK, hP, hD0.self, va_S.rf, hE⟩
  have hx := C.1
  have hb := C.2.1
  have hown := C.2.2.2.2.2.1
  have hts := C.2.2.2.2.2.2.1
  have hl := lv_entry ([.ref a0]) (n := 1) (Nat.le_of_ble_eq_true rfl)
  rw [lg_entry_eq]
  generalize (lg_sl ([.ref a0]) ++ List.replicate (1 - (lg_sl ([.ref a0])).length) Slot.unset).toArray = ls at hl ⊢
  have hl : lv_has ls 1 [(0, .ref a0)] := hl
  unfold wp_X5_dimension at hw
  refine lv_aload_n hx hb dX5_dimension_0 rfl (lv_at hl 0 rfl) ?_
  have o1 := hw.1
  replace hw := hw.2
  refine rX_getI C hM 4 2 rfl in_X5 (by decide) (by decide) rfl q319 o1 dX5_dimension_1 ?_
  refine lv_aload_n hx hb dX5_dimension_4 rfl (lv_at hl 0 rfl) ?_
  have o2 := hw.1
  replace hw := hw.2
  refine rX_getI C hM 4 3 rfl in_X5 (by decide) (by decide) rfl q320 o2 dX5_dimension_5 ?_
  refine lv_isub hx hb dX5_dimension_8 ?_
  exact rX_iret C hM ⟨Nat.le_refl _, Nat.le_refl _⟩ hw dX5_dimension_9
abbrev rm_X5_kernelAt : Room := { frames := 0, cells := 0, slots := 0, locals := 0 }
set_option maxHeartbeats 4000000 in
/-- LeastSolutions$Lattice.kernelAt(II)J -/
theorem mt_X5_kernelAt (l : Launch) (D : va_G) (dA : Nat → ClassId) (ev : Nat → Nat) (sz : Nat) (h : Hp) (a0 : Nat) (p1 : Int32) (p2 : Int32) (Qr : Int64 → Hp → Prop) (hw : wp_X5_kernelAt ev h a0 p1 p2 Qr) : Met l yX5_kernelAt (ws_ yX5_kernelAt cX5_kernelAt 3 (some .long)) rm_X5_kernelAt (PcX D dA ev h sz [.ref a0, .int p1, .int p2]) (va_Ql Qr (BX D dA (AX dA h sz)) (AX dA h sz)) 0 0 (AX dA h sz) := by
  refine Met.ofW (cc := cX5_kernelAt) (maxL := 3) (ret := (some .long)) (by decide) rfl ?_
  intro p e s m args below meth c s₁ B hml hv
  obtain ⟨rfl, hsz, hP, hK, hD0, hE⟩ := hv
  subst hsz
  have hts0 := atoms_spec (ws := ws_ yX5_kernelAt cX5_kernelAt 3 (some .long)) B.pre
  have C : CxM p s m meth c _ (AX dA h s.heap.size) "LeastSolutions$Lattice" cX5_kernelAt 3 (some .long) := ⟨B.exec, B.bytes, B.returns, B.notSynchronized, hml, findClass_of_methodNamed B.named, fun w h => hts0 w (List.mem_cons_of_mem _ h), fun q h => Or.inr h⟩
  have hM : wX D dA ev (AX dA h s.heap.size) s h s.heap [] := ⟨hK, hP, hD0.self, va_S.rf, hE⟩
  have hx := C.1
  have hb := C.2.1
  have hown := C.2.2.2.2.2.1
  have hts := C.2.2.2.2.2.2.1
  have hl := lv_entry ([.ref a0, .int p1, .int p2]) (n := 3) (Nat.le_of_ble_eq_true rfl)
  rw [lg_entry_eq]
  generalize (lg_sl ([.ref a0, .int p1, .int p2]) ++ List.replicate (3 - (lg_sl ([.ref a0, .int p1, .int p2])).length) Slot.unset).toArray = ls at hl ⊢
  have hl : lv_has ls 3 [(0, .ref a0), (1, .int p1), (2, .int p2)] := hl
  unfold wp_X5_kernelAt at hw
  refine lv_aload_n hx hb dX5_kernelAt_0 rfl (lv_at hl 0 rfl) ?_
  have o1 := hw.1
  replace hw := hw.2
  obtain ⟨b2, ebb2, hw⟩ := hw
  refine rX_getRs C hM 4 0 rfl in_X5 (by decide) (by decide) rfl q317 o1 ebb2 dX5_kernelAt_1 ?_
  refine lv_aload_n hx hb dX5_kernelAt_4 rfl (lv_at hl 0 rfl) ?_
  have o3 := hw.1
  replace hw := hw.2
  refine rX_getI C hM 4 3 rfl in_X5 (by decide) (by decide) rfl q320 o3 dX5_kernelAt_5 ?_
  refine lv_iload_n hx hb dX5_kernelAt_8 rfl (lv_at hl 1 rfl) ?_
  refine lv_iadd hx hb dX5_kernelAt_9 ?_
  have o4 := hw.1
  replace hw := hw.2
  have o5 := hw.1
  replace hw := hw.2
  obtain ⟨b6, ebb6, hw⟩ := hw
  refine rX_aalds C hM 5 (by decide) (by decide) o4 o5 ebb6 dX5_kernelAt_10 ?_
  refine lv_iconst (v := 4) hx hb dX5_kernelAt_11 (by decide) ?_
  refine lv_iload_n hx hb dX5_kernelAt_12 rfl (lv_at hl 2 rfl) ?_
  refine lv_iadd hx hb dX5_kernelAt_13 ?_
  have o7 := hw.1
  replace hw := hw.2
  have o8 := hw.1
  replace hw := hw.2
  refine rX_lald C hM o7 o8 dX5_kernelAt_14 ?_
  exact rX_lret C hM ⟨Nat.le_refl _, Nat.le_refl _⟩ hw dX5_kernelAt_15
abbrev rm_X6_init (MC MS : Nat) : Room := { frames := 5, cells := MC, slots := MS, locals := 140 }
set_option maxHeartbeats 4000000 in
/-- LeastSolutions$Grower.<init>()V -/
theorem mt_X6_init (l : Launch) (D : va_G) (dA : Nat → ClassId) (ev : Nat → Nat) (sz : Nat) (h : Hp) (a0 : Nat) (MC MS : Nat) (Qr : Hp → Prop) (hw : wp_X6_init ev h a0 MC MS Qr) : Met l yX6_init (ws_ yX6_init cX6_init 1 none) (rm_X6_init MC MS) (PcX D dA ev h sz [.ref a0]) (va_Qv Qr (BX D dA (AX dA h sz)) (AX dA h sz)) MC MS (AX dA h sz) := by
  refine Met.ofW (cc := cX6_init) (maxL := 1) (ret := none) (by decide) rfl ?_
  intro p e s m args below meth c s₁ B hml hv
  obtain ⟨rfl, hsz, hP, hK, hD0, hE⟩ := hv
  subst hsz
  have hts0 := atoms_spec (ws := ws_ yX6_init cX6_init 1 none) B.pre
  have C : CxM p s m meth c _ (AX dA h s.heap.size) "LeastSolutions$Grower" cX6_init 1 none := ⟨B.exec, B.bytes, B.returns, B.notSynchronized, hml, findClass_of_methodNamed B.named, fun w h => hts0 w (List.mem_cons_of_mem _ h), fun q h => Or.inr h⟩
  have hin0 : meth.name = "<init>" := (name_of_methodNamed B.named B.method).1
  have hM : wX D dA ev (AX dA h s.heap.size) s h s.heap [] := ⟨hK, hP, hD0.self, va_S.rf, hE⟩
  have hx := C.1
  have hb := C.2.1
  have hown := C.2.2.2.2.2.1
  have hts := C.2.2.2.2.2.2.1
  have hl := lv_entry ([.ref a0]) (n := 1) (Nat.le_of_ble_eq_true rfl)
  rw [lg_entry_eq]
  generalize (lg_sl ([.ref a0]) ++ List.replicate (1 - (lg_sl ([.ref a0])).length) Slot.unset).toArray = ls at hl ⊢
  have hl : lv_has ls 1 [(0, .ref a0)] := hl
  have hbud : 0 + MC ≤ MC ∧ 0 + MS ≤ MS := ⟨by omega, by omega⟩
  unfold wp_X6_init at hw
  refine lv_aload_n hx hb dX6_init_0 rfl (lv_at hl 0 rfl) ?_
  refine W.objInit hx hb hown (hts _ q340) (hts _ q118) (hts _ q119) rfl (by rw [C.2.2.2.2.1]; exact hl.1) rfl dX6_init_1 (Nat.le_of_ble_eq_true rfl) (Nat.le_of_ble_eq_true rfl) ?_
  refine W.eq (g2 := F0 m 4 ls []) rfl ?_
  refine lv_aload_n hx hb dX6_init_4 rfl (lv_at hl 0 rfl) ?_
  refine lv_bipush (v := 6) hx hb dX6_init_5 (by decide) ?_
  obtain ⟨mc2, ms3, emc2, ems3, hw⟩ := hw
  refine rX_newi C hM (N := 6) q257 (by decide) (by decide) (by decide) (by show 0 + 1 ≤ MC; omega) (by show 0 + 6 ≤ MS; omega) dX6_init_7 (fun q4 h5 H hqq4 eσ hM => ?_)
  replace hw := hw q4 hqq4 h5 eσ
  clear eσ
  have hbud : 0 + 1 + mc2 ≤ MC ∧ 0 + 6 + ms3 ≤ MS := ⟨by omega, by omega⟩
  have o7 := hw.1
  replace hw := hw.2
  refine rX_putF C hin0 hM 5 1 rfl in_X6 (by decide) (by decide) rfl rfl q381 rfl o7 (x := (some q4)) tyX6 tyX6_ok nmX6 rfl rfl rfl dX6_init_9 (fun h6 H locs eσ hM => ?_)
  replace hw := hw h6 eσ
  clear eσ
  refine lv_aload_n hx hb dX6_init_12 rfl (lv_at hl 0 rfl) ?_
  obtain ⟨mc8, ms9, emc8, ems9, hw⟩ := hw
  refine rX_new C hM 6 rfl in_X7 (by decide) tyX7 tyX7_ok q341 q342 q87 (fun j hj => by match j, hj with | 0, _ => rfl | 1, _ => rfl) (by show 0 + 1 + 1 ≤ MC; omega) (by show 0 + 6 + 2 ≤ MS; omega) dX6_init_13 (fun q10 h11 H hqq10 eσ hM => ?_)
  replace hw := hw q10 hqq10 h11 eσ
  clear eσ
  have hbud : 0 + 1 + 1 + mc8 ≤ MC ∧ 0 + 6 + 2 + ms9 ≤ MS := ⟨by omega, by omega⟩
  refine lv_dup hx hb dX6_init_16 rfl ?_
  obtain ⟨c12, d13, mc14, ms15, emc14, ems15, hw⟩ := hw
  refine rX_gov C hM (runX_IN C hM hl.1 0 (As := []) (mt_X7_init l D dA ev _ h11 q10  c12 d13 _ hw) q345 q87 q343 q344 rfl rfl rfl (by decide +kernel) ⟨Nat.le_of_ble_eq_true rfl, Nat.le_of_ble_eq_true rfl⟩ rfl (Nat.le_of_ble_eq_true rfl) rfl dX6_init_17 ⟨by show 0 + 1 + 1 + c12 ≤ MC; omega, by show 0 + 6 + 2 + d13 ≤ MS; omega⟩) (fun h16 H locs hw hM => ?_)
  have hbud : 0 + 1 + 1 + c12 + mc14 ≤ MC ∧ 0 + 6 + 2 + d13 + ms15 ≤ MS := ⟨by omega, by omega⟩
  have o18 := hw.1
  replace hw := hw.2
  refine rX_putF C hin0 hM 5 2 rfl in_X6 (by decide) (by decide) rfl rfl q382 rfl o18 (x := (some q10)) tyX6 tyX6_ok nmX6 rfl rfl rfl dX6_init_20 (fun h17 H locs eσ hM => ?_)
  replace hw := hw h17 eσ
  clear eσ
  refine lv_aload_n hx hb dX6_init_23 rfl (lv_at hl 0 rfl) ?_
  refine lv_sipush (v := 224) hx hb dX6_init_24 (by decide) ?_
  obtain ⟨mc20, ms21, emc20, ems21, hw⟩ := hw
  refine rX_newi C hM (N := 224) q257 (by decide) (by decide) (by decide) (by show 0 + 1 + 1 + c12 + 1 ≤ MC; omega) (by show 0 + 6 + 2 + d13 + 224 ≤ MS; omega) dX6_init_27 (fun q22 h23 H hqq22 eσ hM => ?_)
  replace hw := hw q22 hqq22 h23 eσ
  clear eσ
  have hbud : 0 + 1 + 1 + c12 + 1 + mc20 ≤ MC ∧ 0 + 6 + 2 + d13 + 224 + ms21 ≤ MS := ⟨by omega, by omega⟩
  have o25 := hw.1
  replace hw := hw.2
  refine rX_putR C hM 5 3 rfl in_X6 (by decide) (by decide) rfl rfl q384 o25 (x := (some q22)) tyX6 tyX6_ok nmX6 rfl rfl rfl dX6_init_29 (fun h24 H locs eσ hM => ?_)
  replace hw := hw h24 eσ
  clear eσ
  refine lv_aload_n hx hb dX6_init_32 rfl (lv_at hl 0 rfl) ?_
  refine lv_sipush (v := 224) hx hb dX6_init_33 (by decide) ?_
  obtain ⟨mc27, ms28, emc27, ems28, hw⟩ := hw
  refine rX_newi C hM (N := 224) q257 (by decide) (by decide) (by decide) (by show 0 + 1 + 1 + c12 + 1 + 1 ≤ MC; omega) (by show 0 + 6 + 2 + d13 + 224 + 224 ≤ MS; omega) dX6_init_36 (fun q29 h30 H hqq29 eσ hM => ?_)
  replace hw := hw q29 hqq29 h30 eσ
  clear eσ
  have hbud : 0 + 1 + 1 + c12 + 1 + 1 + mc27 ≤ MC ∧ 0 + 6 + 2 + d13 + 224 + 224 + ms28 ≤ MS := ⟨by omega, by omega⟩
  have o32 := hw.1
  replace hw := hw.2
  refine rX_putR C hM 5 4 rfl in_X6 (by decide) (by decide) rfl rfl q385 o32 (x := (some q29)) tyX6 tyX6_ok nmX6 rfl rfl rfl dX6_init_38 (fun h31 H locs eσ hM => ?_)
  replace hw := hw h31 eσ
  clear eσ
  refine lv_aload_n hx hb dX6_init_41 rfl (lv_at hl 0 rfl) ?_
  refine lv_bipush (v := 6) hx hb dX6_init_42 (by decide) ?_
  obtain ⟨mc34, ms35, emc34, ems35, hw⟩ := hw
  refine rX_newi C hM (N := 6) q257 (by decide) (by decide) (by decide) (by show 0 + 1 + 1 + c12 + 1 + 1 + 1 ≤ MC; omega) (by show 0 + 6 + 2 + d13 + 224 + 224 + 6 ≤ MS; omega) dX6_init_44 (fun q36 h37 H hqq36 eσ hM => ?_)
  replace hw := hw q36 hqq36 h37 eσ
  clear eσ
  have hbud : 0 + 1 + 1 + c12 + 1 + 1 + 1 + mc34 ≤ MC ∧ 0 + 6 + 2 + d13 + 224 + 224 + 6 + ms35 ≤ MS := ⟨by omega, by omega⟩
  have o39 := hw.1
  replace hw := hw.2
  refine rX_putF C hin0 hM 5 7 rfl in_X6 (by decide) (by decide) rfl rfl q388 rfl o39 (x := (some q36)) tyX6 tyX6_ok nmX6 rfl rfl rfl dX6_init_46 (fun h38 H locs eσ hM => ?_)
  replace hw := hw h38 eσ
  clear eσ
  refine lv_aload_n hx hb dX6_init_49 rfl (lv_at hl 0 rfl) ?_
  refine lv_iconst (v := 4) hx hb dX6_init_50 (by decide) ?_
  obtain ⟨mc41, ms42, emc41, ems42, hw⟩ := hw
  refine rX_newi C hM (N := 4) q257 (by decide) (by decide) (by decide) (by show 0 + 1 + 1 + c12 + 1 + 1 + 1 + 1 ≤ MC; omega) (by show 0 + 6 + 2 + d13 + 224 + 224 + 6 + 4 ≤ MS; omega) dX6_init_51 (fun q43 h44 H hqq43 eσ hM => ?_)
  replace hw := hw q43 hqq43 h44 eσ
  clear eσ
  have hbud : 0 + 1 + 1 + c12 + 1 + 1 + 1 + 1 + mc41 ≤ MC ∧ 0 + 6 + 2 + d13 + 224 + 224 + 6 + 4 + ms42 ≤ MS := ⟨by omega, by omega⟩
  have o46 := hw.1
  replace hw := hw.2
  refine rX_putF C hin0 hM 5 8 rfl in_X6 (by decide) (by decide) rfl rfl q389 rfl o46 (x := (some q43)) tyX6 tyX6_ok nmX6 rfl rfl rfl dX6_init_53 (fun h45 H locs eσ hM => ?_)
  replace hw := hw h45 eσ
  clear eσ
  exact rX_vret C hM ⟨by show 0 + 1 + 1 + c12 + 1 + 1 + 1 + 1 ≤ MC; omega, by show 0 + 6 + 2 + d13 + 224 + 224 + 6 + 4 ≤ MS; omega⟩ hw dX6_init_56
abbrev rm_X6_begin (MC MS : Nat) : Room := { frames := 8, cells := MC, slots := MS, locals := 212 }
set_option maxHeartbeats 4000000 in
theorem wk_X6_begin_32 {p : Program} {l : Launch} {e : Env} {s : State} {m : MethodId} {args : Array Value} {below : List Frame} {meth : Method} {c : Code} {D : va_G} {dA : Nat → ClassId} {ev : Nat → Nat} {h0 : Hp} {sz : Nat} {MC MS : Nat} (C : CxM p s m meth c args (AX dA h0 sz) "LeastSolutions$Grower" cX6_begin 4 none) {Qr : Hp → Prop} {K7 : Nat → Int32 → Int32 → Hp → Nat → Nat → Prop} (hK7 : ∀ (a0 : Nat) (v2 : Int32) (v3 : Int32) (h : Hp) (mc ms : Nat) (cells slots : Nat) (H : Heap) (locs : List Loc) (ls : Array Slot), K7 a0 v2 v3 h mc ms → wX D dA ev (AX dA h0 sz) s h H locs → cells + mc ≤ MC ∧ slots + ms ≤ MS → lv_has ls 4 [(0, .ref a0), (2, .int v2), (3, .int v3)] → W p l e (rm_X6_begin MC MS) s m args below meth c H locs cells slots (MQ below (va_Qv Qr (BX D dA (AX dA h0 sz)) (AX dA h0 sz)) args s MC MS (AX dA h0 sz)) (F0 m 7 ls [])) : ∀ (a0 : Nat) (v2 : Int32) (v3 : Int32) (u0 : Nat) (u1 : Int32) (u2 : Int32) (h : Hp) (mc ms : Nat) (cells slots : Nat) (H : Heap) (locs : List Loc) (ls : Array Slot), wp_X6_begin_32 ev Qr K7 a0 v2 v3 u0 u1 u2 h mc ms → wX D dA ev (AX dA h0 sz) s h H locs → cells + mc ≤ MC ∧ slots + ms ≤ MS → lv_has ls 4 [(0, .ref a0), (2, .int v2), (3, .int v3)] → W p l e (rm_X6_begin MC MS) s m args below meth c H locs cells slots (MQ below (va_Qv Qr (BX D dA (AX dA h0 sz)) (AX dA h0 sz)) args s MC MS (AX dA h0 sz)) (F0 m 32 ls [.int u2, .int u1, .ref u0]) := by
  intro a0 v2 v3 u0 u1 u2 h mc ms cells slots H locs ls hw hM hbud hl
  have hx := C.1
  have hb := C.2.1
  have hown := C.2.2.2.2.2.1
  have hts := C.2.2.2.2.2.2.1
  unfold wp_X6_begin_32 at hw
  have o2 := hw.1
  replace hw := hw.2
  have o3 := hw.1
  replace hw := hw.2
  refine rX_iast C hM o2 o3 dX6_begin_32 (fun h1 H locs eσ hM => ?_)
  replace hw := hw h1 eσ
  clear eσ
  obtain ⟨x4, ex4⟩ : ∃ y : Int32, y = v3 + 1 := ⟨_, rfl⟩
  replace hw := hw x4 ex4
  refine lv_iinc (v := x4) (lv' := [(3, .int x4), (0, .ref a0), (2, .int v2)]) hx hb dX6_begin_33 hl (k := 2) rfl (by rw [ex4]; rfl) (by decide) rfl (fun ls hl => ?_)
  refine lv_goto (tgt := 7) hx hb dX6_begin_36 (by decide) ?_
  exact hK7 a0 v2 x4 h1 mc ms _ _ _ _ ls hw hM hbud (lv_sub hl [1, 2, 0] rfl)
set_option maxHeartbeats 4000000 in
theorem wk_X6_begin_7 {p : Program} {l : Launch} {e : Env} {s : State} {m : MethodId} {args : Array Value} {below : List Frame} {meth : Method} {c : Code} {D : va_G} {dA : Nat → ClassId} {ev : Nat → Nat} {h0 : Hp} {sz : Nat} {MC MS : Nat} (C : CxM p s m meth c args (AX dA h0 sz) "LeastSolutions$Grower" cX6_begin 4 none) {Qr : Hp → Prop} : ∀ (n : Nat) (a0 : Nat) (v2 : Int32) (v3 : Int32) (h : Hp) (mc ms : Nat) (cells slots : Nat) (H : Heap) (locs : List Loc) (ls : Array Slot), wp_X6_begin_7 ev Qr n a0 v2 v3 h mc ms → wX D dA ev (AX dA h0 sz) s h H locs → cells + mc ≤ MC ∧ slots + ms ≤ MS → lv_has ls 4 [(0, .ref a0), (2, .int v2), (3, .int v3)] → W p l e (rm_X6_begin MC MS) s m args below meth c H locs cells slots (MQ below (va_Qv Qr (BX D dA (AX dA h0 sz)) (AX dA h0 sz)) args s MC MS (AX dA h0 sz)) (F0 m 7 ls []) := by
  intro n
  induction n with
  | zero => intro a0 v2 v3 h mc ms cells slots H locs ls hw; exact hw.elim
  | succ n7 ih =>
    intro a0 v2 v3 h mc ms cells slots H locs ls hw hM hbud hl
    have hx := C.1
    have hb := C.2.1
    have hown := C.2.2.2.2.2.1
    have hts := C.2.2.2.2.2.2.1
    unfold wp_X6_begin_7 at hw
    refine lv_iload_n hx hb dX6_begin_7 rfl (lv_at hl 2 rfl) ?_
    refine lv_bipush (v := 6) hx hb dX6_begin_8 (by decide) ?_
    refine lv_icmp_ge (tgt := 39) hx hb dX6_begin_10 (by decide) (fun hc => ?_) (fun hc => ?_)
    · replace hw := hw.1 hc
      refine lv_aload_n hx hb dX6_begin_39 rfl (lv_at hl 0 rfl) ?_
      have o1 := hw.1
      replace hw := hw.2
      obtain ⟨b2, ebb2, hw⟩ := hw
      refine rX_getRs C hM 5 2 rfl in_X6 (by decide) (by decide) rfl q382 o1 ebb2 dX6_begin_40 ?_
      obtain ⟨c3, d4, mc5, ms6, emc5, ems6, hw⟩ := hw
      have o8 := hw.1
      replace hw := hw.2
      refine rX_gov C hM (runX_V C hM hl.1 6 0 (As := []) rfl (by decide) o8 (mt_X7_clear l D dA ev _ h b2  c3 d4 _ hw) (lw_V q943 q672 q673 q87 q674) rfl rfl (by decide +kernel) ⟨Nat.le_of_ble_eq_true rfl, Nat.le_of_ble_eq_true rfl⟩ rfl (Nat.le_of_ble_eq_true rfl) rfl dX6_begin_43 ⟨by show cells + c3 ≤ MC; omega, by show slots + d4 ≤ MS; omega⟩) (fun h7 H locs hw hM => ?_)
      have hbud : cells + c3 + mc5 ≤ MC ∧ slots + d4 + ms6 ≤ MS := ⟨by omega, by omega⟩
      refine lv_aload_n hx hb dX6_begin_46 rfl (lv_at hl 0 rfl) ?_
      refine lv_iconst (v := 0) hx hb dX6_begin_47 (by decide) ?_
      have o10 := hw.1
      replace hw := hw.2
      refine rX_putI C hM 5 6 rfl in_X6 (by decide) (by decide) rfl rfl q387 o10 tyX6 tyX6_ok nmX6 rfl rfl rfl dX6_begin_48 (fun h9 H locs eσ hM => ?_)
      replace hw := hw h9 eσ
      clear eσ
      refine lv_aload_n hx hb dX6_begin_51 rfl (lv_at hl 0 rfl) ?_
      refine lv_iconst (v := 0) hx hb dX6_begin_52 (by decide) ?_
      have o12 := hw.1
      replace hw := hw.2
      refine rX_putI C hM 5 10 rfl in_X6 (by decide) (by decide) rfl rfl q391 o12 tyX6 tyX6_ok nmX6 rfl (isB_n isB_0) (isB_f isB_0) dX6_begin_53 (fun h11 H locs eσ hM => ?_)
      replace hw := hw h11 eσ
      clear eσ
      exact rX_vret C hM ⟨by show cells + c3 ≤ MC; omega, by show slots + d4 ≤ MS; omega⟩ hw dX6_begin_56
    · replace hw := hw.2 hc
      refine lv_aload_n hx hb dX6_begin_13 rfl (lv_at hl 0 rfl) ?_
      have o13 := hw.1
      replace hw := hw.2
      obtain ⟨b14, ebb14, hw⟩ := hw
      refine rX_getRs C hM 5 1 rfl in_X6 (by decide) (by decide) rfl q381 o13 ebb14 dX6_begin_14 ?_
      refine lv_iload_n hx hb dX6_begin_17 rfl (lv_at hl 2 rfl) ?_
      refine lv_iload_n hx hb dX6_begin_18 rfl (lv_at hl 1 rfl) ?_
      refine lv_iload_n hx hb dX6_begin_19 rfl (lv_at hl 2 rfl) ?_
      refine lv_ishr hx hb dX6_begin_20 ?_
      refine lv_iconst (v := 1) hx hb dX6_begin_21 (by decide) ?_
      refine lv_iand hx hb dX6_begin_22 ?_
      refine lv_iconst (v := 1) hx hb dX6_begin_23 (by decide) ?_
      refine lv_icmp_ne (tgt := 31) hx hb dX6_begin_24 (by decide) (fun hc => ?_) (fun hc => ?_)
      · replace hw := hw.1 hc
        refine lv_iconst (v := 1) hx hb dX6_begin_31 (by decide) ?_
        exact wk_X6_begin_32 C ih a0 v2 v3 b14 v3 1 h mc ms _ _ _ _ ls hw hM hbud (lv_sub hl [0, 1, 2] rfl)
      · replace hw := hw.2 hc
        refine lv_iconst (v := (-1)) hx hb dX6_begin_27 (by decide) ?_
        refine lv_goto (tgt := 32) hx hb dX6_begin_28 (by decide) ?_
        exact wk_X6_begin_32 C ih a0 v2 v3 b14 v3 (-1) h mc ms _ _ _ _ ls hw hM hbud (lv_sub hl [0, 1, 2] rfl)
set_option maxHeartbeats 4000000 in
/-- LeastSolutions$Grower.begin(LLeastSolutions$Model;I)V -/
theorem mt_X6_begin (l : Launch) (D : va_G) (dA : Nat → ClassId) (ev : Nat → Nat) (sz : Nat) (h : Hp) (a0 : Nat) (p1 : Nat) (p2 : Int32) (MC MS : Nat) (Qr : Hp → Prop) (hw : wp_X6_begin ev h a0 p1 p2 MC MS Qr) : Met l yX6_begin (ws_ yX6_begin cX6_begin 4 none) (rm_X6_begin MC MS) (PcX D dA ev h sz [.ref a0, .ref p1, .int p2]) (va_Qv Qr (BX D dA (AX dA h sz)) (AX dA h sz)) MC MS (AX dA h sz) := by
  refine Met.ofW (cc := cX6_begin) (maxL := 4) (ret := none) (by decide) rfl ?_
  intro p e s m args below meth c s₁ B hml hv
  obtain ⟨rfl, hsz, hP, hK, hD0, hE⟩ := hv
  subst hsz
  have hts0 := atoms_spec (ws := ws_ yX6_begin cX6_begin 4 none) B.pre
  have C : CxM p s m meth c _ (AX dA h s.heap.size) "LeastSolutions$Grower" cX6_begin 4 none := ⟨B.exec, B.bytes, B.returns, B.notSynchronized, hml, findClass_of_methodNamed B.named, fun w h => hts0 w (List.mem_cons_of_mem _ h), fun q h => Or.inr h⟩
  have hM : wX D dA ev (AX dA h s.heap.size) s h s.heap [] := ⟨hK, hP, hD0.self, va_S.rf, hE⟩
  have hx := C.1
  have hb := C.2.1
  have hown := C.2.2.2.2.2.1
  have hts := C.2.2.2.2.2.2.1
  have hl := lv_entry ([.ref a0, .ref p1, .int p2]) (n := 4) (Nat.le_of_ble_eq_true rfl)
  rw [lg_entry_eq]
  generalize (lg_sl ([.ref a0, .ref p1, .int p2]) ++ List.replicate (4 - (lg_sl ([.ref a0, .ref p1, .int p2])).length) Slot.unset).toArray = ls at hl ⊢
  have hl : lv_has ls 4 [(0, .ref a0), (1, .ref p1), (2, .int p2)] := hl
  have hbud : 0 + MC ≤ MC ∧ 0 + MS ≤ MS := ⟨by omega, by omega⟩
  unfold wp_X6_begin at hw
  refine lv_aload_n hx hb dX6_begin_0 rfl (lv_at hl 0 rfl) ?_
  refine lv_aload_n hx hb dX6_begin_1 rfl (lv_at hl 1 rfl) ?_
  have o2 := hw.1
  replace hw := hw.2
  refine rX_putR C hM 5 0 rfl in_X6 (by decide) (by decide) rfl rfl q380 o2 (x := (some p1)) tyX6 tyX6_ok nmX6 rfl rfl rfl dX6_begin_2 (fun h1 H locs eσ hM => ?_)
  replace hw := hw h1 eσ
  clear eσ
  refine lv_iconst (v := 0) hx hb dX6_begin_5 (by decide) ?_
  refine lv_istore_n (lv' := [(3, .int 0), (0, .ref a0), (1, .ref p1), (2, .int p2)]) hx hb dX6_begin_6 rfl hl (by decide) rfl (fun ls hl => ?_)
  obtain ⟨n7, hw⟩ := hw
  exact wk_X6_begin_7 C  n7 a0 p2 0 h1 MC MS _ _ _ _ ls hw hM hbud (lv_sub hl [1, 3, 0] rfl)
abbrev rm_X6_come (MC MS : Nat) : Room := { frames := 1, cells := MC, slots := MS, locals := 60 }
set_option maxHeartbeats 4000000 in
theorem wk_X6_come_46 {p : Program} {l : Launch} {e : Env} {s : State} {m : MethodId} {args : Array Value} {below : List Frame} {meth : Method} {c : Code} {D : va_G} {dA : Nat → ClassId} {ev : Nat → Nat} {h0 : Hp} {sz : Nat} {MC MS : Nat} (C : CxM p s m meth c args (AX dA h0 sz) "LeastSolutions$Grower" cX6_come 4 none) {Qr : Hp → Prop} : ∀ (n : Nat) (a0 : Nat) (v1 : Nat) (v2 : Int32) (v3 : Int32) (h : Hp) (mc ms : Nat) (cells slots : Nat) (H : Heap) (locs : List Loc) (ls : Array Slot), wp_X6_come_46 ev Qr n a0 v1 v2 v3 h mc ms → wX D dA ev (AX dA h0 sz) s h H locs → cells + mc ≤ MC ∧ slots + ms ≤ MS → lv_has ls 4 [(0, .ref a0), (1, .ref v1), (2, .int v2), (3, .int v3)] → W p l e (rm_X6_come MC MS) s m args below meth c H locs cells slots (MQ below (va_Qv Qr (BX D dA (AX dA h0 sz)) (AX dA h0 sz)) args s MC MS (AX dA h0 sz)) (F0 m 46 ls []) := by
  intro n
  induction n with
  | zero => intro a0 v1 v2 v3 h mc ms cells slots H locs ls hw; exact hw.elim
  | succ n46 ih =>
    intro a0 v1 v2 v3 h mc ms cells slots H locs ls hw hM hbud hl
    have hx := C.1
    have hb := C.2.1
    have hown := C.2.2.2.2.2.1
    have hts := C.2.2.2.2.2.2.1
    unfold wp_X6_come_46 at hw
    refine lv_iload_n hx hb dX6_come_46 rfl (lv_at hl 3 rfl) ?_
    refine lv_bipush (v := 6) hx hb dX6_come_47 (by decide) ?_
    refine lv_icmp_ge (tgt := 72) hx hb dX6_come_49 (by decide) (fun hc => ?_) (fun hc => ?_)
    · replace hw := hw.1 hc
      refine lv_aload_n hx hb dX6_come_72 rfl (lv_at hl 0 rfl) ?_
      have o1 := hw.1
      replace hw := hw.2
      obtain ⟨b2, ebb2, hw⟩ := hw
      refine rX_getRs C hM 5 4 rfl in_X6 (by decide) (by decide) rfl q385 o1 ebb2 dX6_come_73 ?_
      refine lv_aload_n hx hb dX6_come_76 rfl (lv_at hl 0 rfl) ?_
      have o3 := hw.1
      replace hw := hw.2
      refine rX_getI C hM 5 6 rfl in_X6 (by decide) (by decide) rfl q387 o3 dX6_come_77 ?_
      refine lv_bipush (v := 6) hx hb dX6_come_80 (by decide) ?_
      refine lv_iadd hx hb dX6_come_82 ?_
      refine lv_iload_n hx hb dX6_come_83 rfl (lv_at hl 2 rfl) ?_
      have o5 := hw.1
      replace hw := hw.2
      have o6 := hw.1
      replace hw := hw.2
      refine rX_iast C hM o5 o6 dX6_come_84 (fun h4 H locs eσ hM => ?_)
      replace hw := hw h4 eσ
      clear eσ
      refine lv_aload_n hx hb dX6_come_85 rfl (lv_at hl 0 rfl) ?_
      refine lv_dup hx hb dX6_come_86 rfl ?_
      have o7 := hw.1
      replace hw := hw.2
      refine rX_getI C hM 5 6 rfl in_X6 (by decide) (by decide) rfl q387 o7 dX6_come_87 ?_
      refine lv_bipush (v := 7) hx hb dX6_come_90 (by decide) ?_
      refine lv_iadd hx hb dX6_come_92 ?_
      have o9 := hw.1
      replace hw := hw.2
      refine rX_putI C hM 5 6 rfl in_X6 (by decide) (by decide) rfl rfl q387 o9 tyX6 tyX6_ok nmX6 rfl rfl rfl dX6_come_93 (fun h8 H locs eσ hM => ?_)
      replace hw := hw h8 eσ
      clear eσ
      exact rX_vret C hM ⟨by show cells ≤ MC; omega, by show slots ≤ MS; omega⟩ hw dX6_come_96
    · replace hw := hw.2 hc
      refine lv_aload_n hx hb dX6_come_52 rfl (lv_at hl 0 rfl) ?_
      have o10 := hw.1
      replace hw := hw.2
      obtain ⟨b11, ebb11, hw⟩ := hw
      refine rX_getRs C hM 5 4 rfl in_X6 (by decide) (by decide) rfl q385 o10 ebb11 dX6_come_53 ?_
      refine lv_aload_n hx hb dX6_come_56 rfl (lv_at hl 0 rfl) ?_
      have o12 := hw.1
      replace hw := hw.2
      refine rX_getI C hM 5 6 rfl in_X6 (by decide) (by decide) rfl q387 o12 dX6_come_57 ?_
      refine lv_iload_n hx hb dX6_come_60 rfl (lv_at hl 3 rfl) ?_
      refine lv_iadd hx hb dX6_come_61 ?_
      refine lv_aload_n hx hb dX6_come_62 rfl (lv_at hl 1 rfl) ?_
      refine lv_iload_n hx hb dX6_come_63 rfl (lv_at hl 3 rfl) ?_
      have o13 := hw.1
      replace hw := hw.2
      have o14 := hw.1
      replace hw := hw.2
      refine rX_iald C hM o13 o14 dX6_come_64 ?_
      have o16 := hw.1
      replace hw := hw.2
      have o17 := hw.1
      replace hw := hw.2
      refine rX_iast C hM o16 o17 dX6_come_65 (fun h15 H locs eσ hM => ?_)
      replace hw := hw h15 eσ
      clear eσ
      obtain ⟨x18, ex18⟩ : ∃ y : Int32, y = v3 + 1 := ⟨_, rfl⟩
      replace hw := hw x18 ex18
      refine lv_iinc (v := x18) (lv' := [(3, .int x18), (0, .ref a0), (1, .ref v1), (2, .int v2)]) hx hb dX6_come_66 hl (k := 3) rfl (by rw [ex18]; rfl) (by decide) rfl (fun ls hl => ?_)
      refine lv_goto (tgt := 46) hx hb dX6_come_69 (by decide) ?_
      exact ih a0 v1 v2 x18 h15 mc ms _ _ _ _ ls hw hM hbud (lv_sub hl [1, 2, 3, 0] rfl)
set_option maxHeartbeats 4000000 in
theorem wk_X6_come_44 {p : Program} {l : Launch} {e : Env} {s : State} {m : MethodId} {args : Array Value} {below : List Frame} {meth : Method} {c : Code} {D : va_G} {dA : Nat → ClassId} {ev : Nat → Nat} {h0 : Hp} {sz : Nat} {MC MS : Nat} (C : CxM p s m meth c args (AX dA h0 sz) "LeastSolutions$Grower" cX6_come 4 none) {Qr : Hp → Prop} : ∀ (a0 : Nat) (v1 : Nat) (v2 : Int32) (h : Hp) (mc ms : Nat) (cells slots : Nat) (H : Heap) (locs : List Loc) (ls : Array Slot), wp_X6_come_44 ev Qr a0 v1 v2 h mc ms → wX D dA ev (AX dA h0 sz) s h H locs → cells + mc ≤ MC ∧ slots + ms ≤ MS → lv_has ls 4 [(0, .ref a0), (1, .ref v1), (2, .int v2)] → W p l e (rm_X6_come MC MS) s m args below meth c H locs cells slots (MQ below (va_Qv Qr (BX D dA (AX dA h0 sz)) (AX dA h0 sz)) args s MC MS (AX dA h0 sz)) (F0 m 44 ls []) := by
  intro a0 v1 v2 h mc ms cells slots H locs ls hw hM hbud hl
  have hx := C.1
  have hb := C.2.1
  have hown := C.2.2.2.2.2.1
  have hts := C.2.2.2.2.2.2.1
  unfold wp_X6_come_44 at hw
  refine lv_iconst (v := 0) hx hb dX6_come_44 (by decide) ?_
  refine lv_istore_n (lv' := [(3, .int 0), (0, .ref a0), (1, .ref v1), (2, .int v2)]) hx hb dX6_come_45 rfl hl (by decide) rfl (fun ls hl => ?_)
  obtain ⟨n46, hw⟩ := hw
  exact wk_X6_come_46 C  n46 a0 v1 v2 0 h mc ms _ _ _ _ ls hw hM hbud (lv_sub hl [1, 2, 3, 0] rfl)
set_option maxHeartbeats 4000000 in
/-- LeastSolutions$Grower.come([II)V -/
theorem mt_X6_come (l : Launch) (D : va_G) (dA : Nat → ClassId) (ev : Nat → Nat) (sz : Nat) (h : Hp) (a0 : Nat) (p1 : Nat) (p2 : Int32) (MC MS : Nat) (Qr : Hp → Prop) (hw : wp_X6_come ev h a0 p1 p2 MC MS Qr) : Met l yX6_come (ws_ yX6_come cX6_come 4 none) (rm_X6_come MC MS) (PcX D dA ev h sz [.ref a0, .ref p1, .int p2]) (va_Qv Qr (BX D dA (AX dA h sz)) (AX dA h sz)) MC MS (AX dA h sz) := by
  refine Met.ofW (cc := cX6_come) (maxL := 4) (ret := none) (by decide) rfl ?_
  intro p e s m args below meth c s₁ B hml hv
  obtain ⟨rfl, hsz, hP, hK, hD0, hE⟩ := hv
  subst hsz
  have hts0 := atoms_spec (ws := ws_ yX6_come cX6_come 4 none) B.pre
  have C : CxM p s m meth c _ (AX dA h s.heap.size) "LeastSolutions$Grower" cX6_come 4 none := ⟨B.exec, B.bytes, B.returns, B.notSynchronized, hml, findClass_of_methodNamed B.named, fun w h => hts0 w (List.mem_cons_of_mem _ h), fun q h => Or.inr h⟩
  have hM : wX D dA ev (AX dA h s.heap.size) s h s.heap [] := ⟨hK, hP, hD0.self, va_S.rf, hE⟩
  have hx := C.1
  have hb := C.2.1
  have hown := C.2.2.2.2.2.1
  have hts := C.2.2.2.2.2.2.1
  have hl := lv_entry ([.ref a0, .ref p1, .int p2]) (n := 4) (Nat.le_of_ble_eq_true rfl)
  rw [lg_entry_eq]
  generalize (lg_sl ([.ref a0, .ref p1, .int p2]) ++ List.replicate (4 - (lg_sl ([.ref a0, .ref p1, .int p2])).length) Slot.unset).toArray = ls at hl ⊢
  have hl : lv_has ls 4 [(0, .ref a0), (1, .ref p1), (2, .int p2)] := hl
  have hbud : 0 + MC ≤ MC ∧ 0 + MS ≤ MS := ⟨by omega, by omega⟩
  unfold wp_X6_come at hw
  refine lv_aload_n hx hb dX6_come_0 rfl (lv_at hl 0 rfl) ?_
  have o1 := hw.1
  replace hw := hw.2
  refine rX_getI C hM 5 6 rfl in_X6 (by decide) (by decide) rfl q387 o1 dX6_come_1 ?_
  refine lv_bipush (v := 7) hx hb dX6_come_4 (by decide) ?_
  refine lv_iadd hx hb dX6_come_6 ?_
  refine lv_aload_n hx hb dX6_come_7 rfl (lv_at hl 0 rfl) ?_
  have o2 := hw.1
  replace hw := hw.2
  obtain ⟨b3, ebb3, hw⟩ := hw
  refine rX_getRs C hM 5 4 rfl in_X6 (by decide) (by decide) rfl q385 o2 ebb3 dX6_come_8 ?_
  have o4 := hw.1
  replace hw := hw.2
  refine rX_alen C hM 0 (by decide) o4 dX6_come_11 ?_
  refine lv_icmp_le (tgt := 44) hx hb dX6_come_12 (by decide) (fun hc => ?_) (fun hc => ?_)
  · replace hw := hw.1 hc
    exact wk_X6_come_44 C  a0 p1 p2 h MC MS _ _ _ _ ls hw hM hbud (lv_sub hl [0, 1, 2] rfl)
  · replace hw := hw.2 hc
    refine lv_iconst (v := 2) hx hb dX6_come_15 (by decide) ?_
    refine lv_aload_n hx hb dX6_come_16 rfl (lv_at hl 0 rfl) ?_
    have o5 := hw.1
    replace hw := hw.2
    obtain ⟨b6, ebb6, hw⟩ := hw
    refine rX_getRs C hM 5 4 rfl in_X6 (by decide) (by decide) rfl q385 o5 ebb6 dX6_come_17 ?_
    have o7 := hw.1
    replace hw := hw.2
    refine rX_alen C hM 0 (by decide) o7 dX6_come_20 ?_
    refine lv_imul hx hb dX6_come_21 ?_
    have o9 := hw.1
    obtain ⟨k8, ek8⟩ : ∃ y : Nat, (2 * (nI (hN h b6))).toNatClampNeg = y := ⟨_, rfl⟩
    have o9b := (hw.2 k8 ek8).1
    replace hw := (hw.2 k8 ek8).2
    obtain ⟨mc10, ms11, emc10, ems11, hw⟩ := hw
    refine rX_newi C hM (N := k8) q257 o9 ek8 (by omega) (by show 0 + 1 ≤ MC; omega) (by show 0 + k8 ≤ MS; omega) dX6_come_22 (fun q12 h13 H hqq12 eσ hM => ?_)
    replace hw := hw q12 hqq12 h13 eσ
    clear eσ
    have hbud : 0 + 1 + mc10 ≤ MC ∧ 0 + k8 + ms11 ≤ MS := ⟨by omega, by omega⟩
    refine lv_astore_n (lv' := [(3, .ref q12), (0, .ref a0), (1, .ref p1), (2, .int p2)]) hx hb dX6_come_24 rfl hl (by decide) rfl (fun ls hl => ?_)
    refine lv_aload_n hx hb dX6_come_25 rfl (lv_at hl 1 rfl) ?_
    have o14 := hw.1
    replace hw := hw.2
    obtain ⟨b15, ebb15, hw⟩ := hw
    refine rX_getRs C hM 5 4 rfl in_X6 (by decide) (by decide) rfl q385 o14 ebb15 dX6_come_26 ?_
    refine lv_iconst (v := 0) hx hb dX6_come_29 (by decide) ?_
    refine lv_aload_n hx hb dX6_come_30 rfl (lv_at hl 0 rfl) ?_
    refine lv_iconst (v := 0) hx hb dX6_come_31 (by decide) ?_
    refine lv_aload_n hx hb dX6_come_32 rfl (lv_at hl 1 rfl) ?_
    have o16 := hw.1
    replace hw := hw.2
    refine rX_getI C hM 5 6 rfl in_X6 (by decide) (by decide) rfl q387 o16 dX6_come_33 ?_
    have o18 := hw.1
    replace hw := hw.2
    have o19 := hw.1
    replace hw := hw.2
    have o20 := hw.1
    replace hw := hw.2
    refine rX_copyi C hM hl.1 q948 q758 q757 q99 o18 o19 o20 (Nat.le_of_ble_eq_true rfl) (Nat.le_of_ble_eq_true rfl) dX6_come_36 (fun h17 H locs eσ hM => ?_)
    replace hw := hw h17 eσ
    clear eσ
    refine lv_aload_n hx hb dX6_come_39 rfl (lv_at hl 1 rfl) ?_
    refine lv_aload_n hx hb dX6_come_40 rfl (lv_at hl 0 rfl) ?_
    have o22 := hw.1
    replace hw := hw.2
    refine rX_putR C hM 5 4 rfl in_X6 (by decide) (by decide) rfl rfl q385 o22 (x := (some q12)) tyX6 tyX6_ok nmX6 rfl rfl rfl dX6_come_41 (fun h21 H locs eσ hM => ?_)
    replace hw := hw h21 eσ
    clear eσ
    exact wk_X6_come_44 C  a0 p1 p2 h21 mc10 ms11 _ _ _ _ ls hw hM hbud (lv_sub hl [1, 2, 3] rfl)
abbrev rm_X6_make : Room := { frames := 0, cells := 0, slots := 0, locals := 0 }
set_option maxHeartbeats 4000000 in
theorem wk_X6_make_108 {p : Program} {l : Launch} {e : Env} {s : State} {m : MethodId} {args : Array Value} {below : List Frame} {meth : Method} {c : Code} {D : va_G} {dA : Nat → ClassId} {ev : Nat → Nat} {h0 : Hp} {sz : Nat} (C : CxM p s m meth c args (AX dA h0 sz) "LeastSolutions$Grower" cX6_make 6 (some .boolean)) {Qr : Int32 → Hp → Prop} {K4 : Nat → Int32 → Int32 → Int32 → Hp → Prop} (hK4 : ∀ (a0 : Nat) (v1 : Int32) (v2 : Int32) (v3 : Int32) (h : Hp) (H : Heap) (locs : List Loc) (ls : Array Slot), K4 a0 v1 v2 v3 h → wX D dA ev (AX dA h0 sz) s h H locs → lv_has ls 6 [(0, .ref a0), (1, .int v1), (2, .int v2), (3, .int v3)] → W p l e rm_X6_make s m args below meth c H locs 0 0 (MQ below (va_Qi Qr (BX D dA (AX dA h0 sz)) (AX dA h0 sz)) args s 0 0 (AX dA h0 sz)) (F0 m 4 ls [])) : ∀ (a0 : Nat) (v1 : Int32) (v3 : Int32) (u0 : Int32) (u1 : Int32) (h : Hp) (H : Heap) (locs : List Loc) (ls : Array Slot), wp_X6_make_108 ev Qr K4 a0 v1 v3 u0 u1 h → wX D dA ev (AX dA h0 sz) s h H locs → lv_has ls 6 [(0, .ref a0), (1, .int v1), (3, .int v3)] → W p l e rm_X6_make s m args below meth c H locs 0 0 (MQ below (va_Qi Qr (BX D dA (AX dA h0 sz)) (AX dA h0 sz)) args s 0 0 (AX dA h0 sz)) (F0 m 108 ls [.int u1, .int u0]) := by
  intro a0 v1 v3 u0 u1 h H locs ls hw hM hl
  have hx := C.1
  have hb := C.2.1
  have hown := C.2.2.2.2.2.1
  have hts := C.2.2.2.2.2.2.1
  unfold wp_X6_make_108 at hw
  refine lv_iand hx hb dX6_make_108 ?_
  refine lv_topi (fun x1 ex1 => ?_)
  replace hw := hw x1 ex1
  refine lv_istore_n (lv' := [(2, .int x1), (0, .ref a0), (1, .int v1), (3, .int v3)]) hx hb dX6_make_109 rfl hl (by decide) rfl (fun ls hl => ?_)
  obtain ⟨x2, ex2⟩ : ∃ y : Int32, y = v3 + 1 := ⟨_, rfl⟩
  replace hw := hw x2 ex2
  refine lv_iinc (v := x2) (lv' := [(3, .int x2), (2, .int x1), (0, .ref a0), (1, .int v1)]) hx hb dX6_make_110 hl (k := 3) rfl (by rw [ex2]; rfl) (by decide) rfl (fun ls hl => ?_)
  refine lv_goto (tgt := 4) hx hb dX6_make_113 (by decide) ?_
  exact hK4 a0 v1 x1 x2 h _ _ ls hw hM (lv_sub hl [2, 3, 1, 0] rfl)
set_option maxHeartbeats 4000000 in
theorem wk_X6_make_38 {p : Program} {l : Launch} {e : Env} {s : State} {m : MethodId} {args : Array Value} {below : List Frame} {meth : Method} {c : Code} {D : va_G} {dA : Nat → ClassId} {ev : Nat → Nat} {h0 : Hp} {sz : Nat} (C : CxM p s m meth c args (AX dA h0 sz) "LeastSolutions$Grower" cX6_make 6 (some .boolean)) {Qr : Int32 → Hp → Prop} {K4 : Nat → Int32 → Int32 → Int32 → Hp → Prop} (hK4 : ∀ (a0 : Nat) (v1 : Int32) (v2 : Int32) (v3 : Int32) (h : Hp) (H : Heap) (locs : List Loc) (ls : Array Slot), K4 a0 v1 v2 v3 h → wX D dA ev (AX dA h0 sz) s h H locs → lv_has ls 6 [(0, .ref a0), (1, .int v1), (2, .int v2), (3, .int v3)] → W p l e rm_X6_make s m args below meth c H locs 0 0 (MQ below (va_Qi Qr (BX D dA (AX dA h0 sz)) (AX dA h0 sz)) args s 0 0 (AX dA h0 sz)) (F0 m 4 ls [])) : ∀ (n : Nat) (a0 : Nat) (v1 : Int32) (v2 : Int32) (v3 : Int32) (v4 : Int32) (v5 : Int32) (h : Hp) (H : Heap) (locs : List Loc) (ls : Array Slot), wp_X6_make_38 ev Qr K4 n a0 v1 v2 v3 v4 v5 h → wX D dA ev (AX dA h0 sz) s h H locs → lv_has ls 6 [(0, .ref a0), (1, .int v1), (2, .int v2), (3, .int v3), (4, .int v4), (5, .int v5)] → W p l e rm_X6_make s m args below meth c H locs 0 0 (MQ below (va_Qi Qr (BX D dA (AX dA h0 sz)) (AX dA h0 sz)) args s 0 0 (AX dA h0 sz)) (F0 m 38 ls []) := by
  intro n
  induction n with
  | zero => intro a0 v1 v2 v3 v4 v5 h H locs ls hw; exact hw.elim
  | succ n38 ih =>
    intro a0 v1 v2 v3 v4 v5 h H locs ls hw hM hl
    have hx := C.1
    have hb := C.2.1
    have hown := C.2.2.2.2.2.1
    have hts := C.2.2.2.2.2.2.1
    unfold wp_X6_make_38 at hw
    refine lv_iload hx hb dX6_make_38 (lv_at hl 5 rfl) ?_
    refine lv_aload_n hx hb dX6_make_40 rfl (lv_at hl 0 rfl) ?_
    have o1 := hw.1
    replace hw := hw.2
    obtain ⟨b2, ebb2, hw⟩ := hw
    refine rX_getRs C hM 5 0 rfl in_X6 (by decide) (by decide) rfl q380 o1 ebb2 dX6_make_41 ?_
    have o3 := hw.1
    replace hw := hw.2
    refine rX_getIN C hM 3 1 rfl in_X4 (by decide) (by decide) rfl q274 o3 dX6_make_44 ?_
    refine lv_icmp_ge (tgt := 89) hx hb dX6_make_47 (by decide) (fun hc => ?_) (fun hc => ?_)
    · replace hw := hw.1 hc
      refine lv_aload_n hx hb dX6_make_89 rfl (lv_at hl 0 rfl) ?_
      have o4 := hw.1
      replace hw := hw.2
      obtain ⟨b5, ebb5, hw⟩ := hw
      refine rX_getRs C hM 5 8 rfl in_X6 (by decide) (by decide) rfl q389 o4 ebb5 dX6_make_90 ?_
      refine lv_iload_n hx hb dX6_make_93 rfl (lv_at hl 3 rfl) ?_
      refine lv_iload hx hb dX6_make_94 (lv_at hl 4 rfl) ?_
      have o7 := hw.1
      replace hw := hw.2
      have o8 := hw.1
      replace hw := hw.2
      refine rX_iast C hM o7 o8 dX6_make_96 (fun h6 H locs eσ hM => ?_)
      replace hw := hw h6 eσ
      clear eσ
      refine lv_iload_n hx hb dX6_make_97 rfl (lv_at hl 2 rfl) ?_
      refine lv_iload hx hb dX6_make_98 (lv_at hl 4 rfl) ?_
      refine lv_if_ne (tgt := 107) hx hb dX6_make_100 (by decide) (fun hc => ?_) (fun hc => ?_)
      · replace hw := hw.1 hc
        refine lv_iconst (v := 0) hx hb dX6_make_107 (by decide) ?_
        exact wk_X6_make_108 C hK4 a0 v1 v3 v2 0 h6 _ _ ls hw hM (lv_sub hl [0, 1, 3] rfl)
      · replace hw := hw.2 hc
        refine lv_iconst (v := 1) hx hb dX6_make_103 (by decide) ?_
        refine lv_goto (tgt := 108) hx hb dX6_make_104 (by decide) ?_
        exact wk_X6_make_108 C hK4 a0 v1 v3 v2 1 h6 _ _ ls hw hM (lv_sub hl [0, 1, 3] rfl)
    · replace hw := hw.2 hc
      refine lv_iload hx hb dX6_make_50 (lv_at hl 4 rfl) ?_
      refine lv_aload_n hx hb dX6_make_52 rfl (lv_at hl 0 rfl) ?_
      have o9 := hw.1
      replace hw := hw.2
      obtain ⟨b10, ebb10, hw⟩ := hw
      refine rX_getRs C hM 5 0 rfl in_X6 (by decide) (by decide) rfl q380 o9 ebb10 dX6_make_53 ?_
      have o11 := hw.1
      replace hw := hw.2
      obtain ⟨b12, ebb12, hw⟩ := hw
      refine rX_getRsN C hM 3 4 rfl in_X4 (by decide) (by decide) rfl q287 o11 ebb12 dX6_make_56 ?_
      refine lv_iload_n hx hb dX6_make_59 rfl (lv_at hl 3 rfl) ?_
      have o13 := hw.1
      replace hw := hw.2
      have o14 := hw.1
      replace hw := hw.2
      obtain ⟨b15, ebb15, hw⟩ := hw
      refine rX_aalds C hM 4 (by decide) (by decide) o13 o14 ebb15 dX6_make_60 ?_
      refine lv_iload hx hb dX6_make_61 (lv_at hl 5 rfl) ?_
      have o16 := hw.1
      replace hw := hw.2
      have o17 := hw.1
      replace hw := hw.2
      refine rX_iald C hM o16 o17 dX6_make_63 ?_
      refine lv_aload_n hx hb dX6_make_64 rfl (lv_at hl 0 rfl) ?_
      have o18 := hw.1
      replace hw := hw.2
      obtain ⟨b19, ebb19, hw⟩ := hw
      refine rX_getRs C hM 5 1 rfl in_X6 (by decide) (by decide) rfl q381 o18 ebb19 dX6_make_65 ?_
      refine lv_iload hx hb dX6_make_68 (lv_at hl 5 rfl) ?_
      have o20 := hw.1
      replace hw := hw.2
      have o21 := hw.1
      replace hw := hw.2
      refine rX_iald C hM o20 o21 dX6_make_70 ?_
      refine lv_imul hx hb dX6_make_71 ?_
      refine lv_aload_n hx hb dX6_make_72 rfl (lv_at hl 0 rfl) ?_
      have o22 := hw.1
      replace hw := hw.2
      obtain ⟨b23, ebb23, hw⟩ := hw
      refine rX_getRs C hM 5 7 rfl in_X6 (by decide) (by decide) rfl q388 o22 ebb23 dX6_make_73 ?_
      refine lv_iload hx hb dX6_make_76 (lv_at hl 5 rfl) ?_
      have o24 := hw.1
      replace hw := hw.2
      have o25 := hw.1
      replace hw := hw.2
      refine rX_iald C hM o24 o25 dX6_make_78 ?_
      refine lv_imul hx hb dX6_make_79 ?_
      refine lv_iadd hx hb dX6_make_80 ?_
      refine lv_topi (fun x26 ex26 => ?_)
      replace hw := hw x26 ex26
      refine lv_istore (lv' := [(4, .int x26), (0, .ref a0), (1, .int v1), (2, .int v2), (3, .int v3), (5, .int v5)]) hx hb dX6_make_81 hl (by decide) rfl (fun ls hl => ?_)
      obtain ⟨x27, ex27⟩ : ∃ y : Int32, y = v5 + 1 := ⟨_, rfl⟩
      replace hw := hw x27 ex27
      refine lv_iinc (v := x27) (lv' := [(5, .int x27), (4, .int x26), (0, .ref a0), (1, .int v1), (2, .int v2), (3, .int v3)]) hx hb dX6_make_83 hl (k := 5) rfl (by rw [ex27]; rfl) (by decide) rfl (fun ls hl => ?_)
      refine lv_goto (tgt := 38) hx hb dX6_make_86 (by decide) ?_
      exact ih a0 v1 v2 v3 x26 x27 h _ _ ls hw hM (lv_sub hl [2, 3, 4, 5, 1, 0] rfl)
set_option maxHeartbeats 4000000 in
theorem wk_X6_make_33 {p : Program} {l : Launch} {e : Env} {s : State} {m : MethodId} {args : Array Value} {below : List Frame} {meth : Method} {c : Code} {D : va_G} {dA : Nat → ClassId} {ev : Nat → Nat} {h0 : Hp} {sz : Nat} (C : CxM p s m meth c args (AX dA h0 sz) "LeastSolutions$Grower" cX6_make 6 (some .boolean)) {Qr : Int32 → Hp → Prop} {K4 : Nat → Int32 → Int32 → Int32 → Hp → Prop} (hK4 : ∀ (a0 : Nat) (v1 : Int32) (v2 : Int32) (v3 : Int32) (h : Hp) (H : Heap) (locs : List Loc) (ls : Array Slot), K4 a0 v1 v2 v3 h → wX D dA ev (AX dA h0 sz) s h H locs → lv_has ls 6 [(0, .ref a0), (1, .int v1), (2, .int v2), (3, .int v3)] → W p l e rm_X6_make s m args below meth c H locs 0 0 (MQ below (va_Qi Qr (BX D dA (AX dA h0 sz)) (AX dA h0 sz)) args s 0 0 (AX dA h0 sz)) (F0 m 4 ls [])) : ∀ (a0 : Nat) (v1 : Int32) (v2 : Int32) (v3 : Int32) (u0 : Int32) (h : Hp) (H : Heap) (locs : List Loc) (ls : Array Slot), wp_X6_make_33 ev Qr K4 a0 v1 v2 v3 u0 h → wX D dA ev (AX dA h0 sz) s h H locs → lv_has ls 6 [(0, .ref a0), (1, .int v1), (2, .int v2), (3, .int v3)] → W p l e rm_X6_make s m args below meth c H locs 0 0 (MQ below (va_Qi Qr (BX D dA (AX dA h0 sz)) (AX dA h0 sz)) args s 0 0 (AX dA h0 sz)) (F0 m 33 ls [.int u0]) := by
  intro a0 v1 v2 v3 u0 h H locs ls hw hM hl
  have hx := C.1
  have hb := C.2.1
  have hown := C.2.2.2.2.2.1
  have hts := C.2.2.2.2.2.2.1
  unfold wp_X6_make_33 at hw
  refine lv_istore (lv' := [(4, .int u0), (0, .ref a0), (1, .int v1), (2, .int v2), (3, .int v3)]) hx hb dX6_make_33 hl (by decide) rfl (fun ls hl => ?_)
  refine lv_iconst (v := 0) hx hb dX6_make_35 (by decide) ?_
  refine lv_istore (lv' := [(5, .int 0), (4, .int u0), (0, .ref a0), (1, .int v1), (2, .int v2), (3, .int v3)]) hx hb dX6_make_36 hl (by decide) rfl (fun ls hl => ?_)
  obtain ⟨n38, hw⟩ := hw
  exact wk_X6_make_38 C hK4 n38 a0 v1 v2 v3 u0 0 h _ _ ls hw hM (lv_sub hl [2, 3, 4, 5, 1, 0] rfl)
set_option maxHeartbeats 4000000 in
theorem wk_X6_make_4 {p : Program} {l : Launch} {e : Env} {s : State} {m : MethodId} {args : Array Value} {below : List Frame} {meth : Method} {c : Code} {D : va_G} {dA : Nat → ClassId} {ev : Nat → Nat} {h0 : Hp} {sz : Nat} (C : CxM p s m meth c args (AX dA h0 sz) "LeastSolutions$Grower" cX6_make 6 (some .boolean)) {Qr : Int32 → Hp → Prop} : ∀ (n : Nat) (a0 : Nat) (v1 : Int32) (v2 : Int32) (v3 : Int32) (h : Hp) (H : Heap) (locs : List Loc) (ls : Array Slot), wp_X6_make_4 ev Qr n a0 v1 v2 v3 h → wX D dA ev (AX dA h0 sz) s h H locs → lv_has ls 6 [(0, .ref a0), (1, .int v1), (2, .int v2), (3, .int v3)] → W p l e rm_X6_make s m args below meth c H locs 0 0 (MQ below (va_Qi Qr (BX D dA (AX dA h0 sz)) (AX dA h0 sz)) args s 0 0 (AX dA h0 sz)) (F0 m 4 ls []) := by
  intro n
  induction n with
  | zero => intro a0 v1 v2 v3 h H locs ls hw; exact hw.elim
  | succ n4 ih =>
    intro a0 v1 v2 v3 h H locs ls hw hM hl
    have hx := C.1
    have hb := C.2.1
    have hown := C.2.2.2.2.2.1
    have hts := C.2.2.2.2.2.2.1
    unfold wp_X6_make_4 at hw
    refine lv_iload_n hx hb dX6_make_4 rfl (lv_at hl 3 rfl) ?_
    refine lv_aload_n hx hb dX6_make_5 rfl (lv_at hl 0 rfl) ?_
    have o1 := hw.1
    replace hw := hw.2
    obtain ⟨b2, ebb2, hw⟩ := hw
    refine rX_getRs C hM 5 0 rfl in_X6 (by decide) (by decide) rfl q380 o1 ebb2 dX6_make_6 ?_
    have o3 := hw.1
    replace hw := hw.2
    refine rX_getIN C hM 3 0 rfl in_X4 (by decide) (by decide) rfl q269 o3 dX6_make_9 ?_
    refine lv_icmp_ge (tgt := 116) hx hb dX6_make_12 (by decide) (fun hc => ?_) (fun hc => ?_)
    · replace hw := hw.1 hc
      refine lv_iload_n hx hb dX6_make_116 rfl (lv_at hl 2 rfl) ?_
      exact rX_zret C hM ⟨Nat.le_refl _, Nat.le_refl _⟩ hw dX6_make_117
    · replace hw := hw.2 hc
      refine lv_iload_n hx hb dX6_make_15 rfl (lv_at hl 1 rfl) ?_
      refine lv_if_eq (tgt := 32) hx hb dX6_make_16 (by decide) (fun hc => ?_) (fun hc => ?_)
      · replace hw := hw.1 hc
        refine lv_iconst (v := 0) hx hb dX6_make_32 (by decide) ?_
        exact wk_X6_make_33 C ih a0 v1 v2 v3 0 h _ _ ls hw hM (lv_sub hl [0, 1, 2, 3] rfl)
      · replace hw := hw.2 hc
        refine lv_aload_n hx hb dX6_make_19 rfl (lv_at hl 0 rfl) ?_
        have o4 := hw.1
        replace hw := hw.2
        obtain ⟨b5, ebb5, hw⟩ := hw
        refine rX_getRs C hM 5 0 rfl in_X6 (by decide) (by decide) rfl q380 o4 ebb5 dX6_make_20 ?_
        have o6 := hw.1
        replace hw := hw.2
        obtain ⟨b7, ebb7, hw⟩ := hw
        refine rX_getRsN C hM 3 5 rfl in_X4 (by decide) (by decide) rfl q293 o6 ebb7 dX6_make_23 ?_
        refine lv_iload_n hx hb dX6_make_26 rfl (lv_at hl 3 rfl) ?_
        have o8 := hw.1
        replace hw := hw.2
        have o9 := hw.1
        replace hw := hw.2
        refine rX_iald C hM o8 o9 dX6_make_27 ?_
        refine lv_ineg hx hb dX6_make_28 ?_
        refine lv_goto (tgt := 33) hx hb dX6_make_29 (by decide) ?_
        exact wk_X6_make_33 C ih a0 v1 v2 v3 ((-(hA h b7 v3))) h _ _ ls hw hM (lv_sub hl [0, 1, 2, 3] rfl)
set_option maxHeartbeats 4000000 in
/-- LeastSolutions$Grower.make(Z)Z -/
theorem mt_X6_make (l : Launch) (D : va_G) (dA : Nat → ClassId) (ev : Nat → Nat) (sz : Nat) (h : Hp) (a0 : Nat) (p1 : Int32) (Qr : Int32 → Hp → Prop) (hw : wp_X6_make ev h a0 p1 Qr) : Met l yX6_make (ws_ yX6_make cX6_make 6 (some .boolean)) rm_X6_make (PcX D dA ev h sz [.ref a0, .int p1]) (va_Qi Qr (BX D dA (AX dA h sz)) (AX dA h sz)) 0 0 (AX dA h sz) := by
  refine Met.ofW (cc := cX6_make) (maxL := 6) (ret := (some .boolean)) (by decide) rfl ?_
  intro p e s m args below meth c s₁ B hml hv
  obtain ⟨rfl, hsz, hP, hK, hD0, hE⟩ := hv
  subst hsz
  have hts0 := atoms_spec (ws := ws_ yX6_make cX6_make 6 (some .boolean)) B.pre
  have C : CxM p s m meth c _ (AX dA h s.heap.size) "LeastSolutions$Grower" cX6_make 6 (some .boolean) := ⟨B.exec, B.bytes, B.returns, B.notSynchronized, hml, findClass_of_methodNamed B.named, fun w h => hts0 w (List.mem_cons_of_mem _ h), fun q h => Or.inr h⟩
  have hM : wX D dA ev (AX dA h s.heap.size) s h s.heap [] := ⟨hK, hP, hD0.self, va_S.rf, hE⟩
  have hx := C.1
  have hb := C.2.1
  have hown := C.2.2.2.2.2.1
  have hts := C.2.2.2.2.2.2.1
  have hl := lv_entry ([.ref a0, .int p1]) (n := 6) (Nat.le_of_ble_eq_true rfl)
  rw [lg_entry_eq]
  generalize (lg_sl ([.ref a0, .int p1]) ++ List.replicate (6 - (lg_sl ([.ref a0, .int p1])).length) Slot.unset).toArray = ls at hl ⊢
  have hl : lv_has ls 6 [(0, .ref a0), (1, .int p1)] := hl
  unfold wp_X6_make at hw
  refine lv_iconst (v := 1) hx hb dX6_make_0 (by decide) ?_
  refine lv_istore_n (lv' := [(2, .int 1), (0, .ref a0), (1, .int p1)]) hx hb dX6_make_1 rfl hl (by decide) rfl (fun ls hl => ?_)
  refine lv_iconst (v := 0) hx hb dX6_make_2 (by decide) ?_
  refine lv_istore_n (lv' := [(3, .int 0), (2, .int 1), (0, .ref a0), (1, .int p1)]) hx hb dX6_make_3 rfl hl (by decide) rfl (fun ls hl => ?_)
  obtain ⟨n4, hw⟩ := hw
  exact wk_X6_make_4 C  n4 a0 p1 1 0 h _ _ ls hw hM (lv_sub hl [2, 3, 1, 0] rfl)
abbrev rm_X6_take : Room := { frames := 0, cells := 0, slots := 0, locals := 0 }
set_option maxHeartbeats 4000000 in
theorem wk_X6_take_2 {p : Program} {l : Launch} {e : Env} {s : State} {m : MethodId} {args : Array Value} {below : List Frame} {meth : Method} {c : Code} {D : va_G} {dA : Nat → ClassId} {ev : Nat → Nat} {h0 : Hp} {sz : Nat} (C : CxM p s m meth c args (AX dA h0 sz) "LeastSolutions$Grower" cX6_take 3 none) {Qr : Hp → Prop} : ∀ (n : Nat) (a0 : Nat) (v1 : Int32) (v2 : Int32) (h : Hp) (H : Heap) (locs : List Loc) (ls : Array Slot), wp_X6_take_2 ev Qr n a0 v1 v2 h → wX D dA ev (AX dA h0 sz) s h H locs → lv_has ls 3 [(0, .ref a0), (1, .int v1), (2, .int v2)] → W p l e rm_X6_take s m args below meth c H locs 0 0 (MQ below (va_Qv Qr (BX D dA (AX dA h0 sz)) (AX dA h0 sz)) args s 0 0 (AX dA h0 sz)) (F0 m 2 ls []) := by
  intro n
  induction n with
  | zero => intro a0 v1 v2 h H locs ls hw; exact hw.elim
  | succ n2 ih =>
    intro a0 v1 v2 h H locs ls hw hM hl
    have hx := C.1
    have hb := C.2.1
    have hown := C.2.2.2.2.2.1
    have hts := C.2.2.2.2.2.2.1
    unfold wp_X6_take_2 at hw
    refine lv_iload_n hx hb dX6_take_2 rfl (lv_at hl 2 rfl) ?_
    refine lv_bipush (v := 6) hx hb dX6_take_3 (by decide) ?_
    refine lv_icmp_ge (tgt := 28) hx hb dX6_take_5 (by decide) (fun hc => ?_) (fun hc => ?_)
    · replace hw := hw.1 hc
      exact rX_vret C hM ⟨Nat.le_refl _, Nat.le_refl _⟩ hw dX6_take_28
    · replace hw := hw.2 hc
      refine lv_aload_n hx hb dX6_take_8 rfl (lv_at hl 0 rfl) ?_
      have o1 := hw.1
      replace hw := hw.2
      obtain ⟨b2, ebb2, hw⟩ := hw
      refine rX_getRs C hM 5 7 rfl in_X6 (by decide) (by decide) rfl q388 o1 ebb2 dX6_take_9 ?_
      refine lv_iload_n hx hb dX6_take_12 rfl (lv_at hl 2 rfl) ?_
      refine lv_aload_n hx hb dX6_take_13 rfl (lv_at hl 0 rfl) ?_
      have o3 := hw.1
      replace hw := hw.2
      obtain ⟨b4, ebb4, hw⟩ := hw
      refine rX_getRs C hM 5 3 rfl in_X6 (by decide) (by decide) rfl q384 o3 ebb4 dX6_take_14 ?_
      refine lv_iload_n hx hb dX6_take_17 rfl (lv_at hl 1 rfl) ?_
      refine lv_iload_n hx hb dX6_take_18 rfl (lv_at hl 2 rfl) ?_
      refine lv_iadd hx hb dX6_take_19 ?_
      have o5 := hw.1
      replace hw := hw.2
      have o6 := hw.1
      replace hw := hw.2
      refine rX_iald C hM o5 o6 dX6_take_20 ?_
      have o8 := hw.1
      replace hw := hw.2
      have o9 := hw.1
      replace hw := hw.2
      refine rX_iast C hM o8 o9 dX6_take_21 (fun h7 H locs eσ hM => ?_)
      replace hw := hw h7 eσ
      clear eσ
      obtain ⟨x10, ex10⟩ : ∃ y : Int32, y = v2 + 1 := ⟨_, rfl⟩
      replace hw := hw x10 ex10
      refine lv_iinc (v := x10) (lv' := [(2, .int x10), (0, .ref a0), (1, .int v1)]) hx hb dX6_take_22 hl (k := 2) rfl (by rw [ex10]; rfl) (by decide) rfl (fun ls hl => ?_)
      refine lv_goto (tgt := 2) hx hb dX6_take_25 (by decide) ?_
      exact ih a0 v1 x10 h7 _ _ ls hw hM (lv_sub hl [1, 2, 0] rfl)
set_option maxHeartbeats 4000000 in
/-- LeastSolutions$Grower.take(I)V -/
theorem mt_X6_take (l : Launch) (D : va_G) (dA : Nat → ClassId) (ev : Nat → Nat) (sz : Nat) (h : Hp) (a0 : Nat) (p1 : Int32) (Qr : Hp → Prop) (hw : wp_X6_take ev h a0 p1 Qr) : Met l yX6_take (ws_ yX6_take cX6_take 3 none) rm_X6_take (PcX D dA ev h sz [.ref a0, .int p1]) (va_Qv Qr (BX D dA (AX dA h sz)) (AX dA h sz)) 0 0 (AX dA h sz) := by
  refine Met.ofW (cc := cX6_take) (maxL := 3) (ret := none) (by decide) rfl ?_
  intro p e s m args below meth c s₁ B hml hv
  obtain ⟨rfl, hsz, hP, hK, hD0, hE⟩ := hv
  subst hsz
  have hts0 := atoms_spec (ws := ws_ yX6_take cX6_take 3 none) B.pre
  have C : CxM p s m meth c _ (AX dA h s.heap.size) "LeastSolutions$Grower" cX6_take 3 none := ⟨B.exec, B.bytes, B.returns, B.notSynchronized, hml, findClass_of_methodNamed B.named, fun w h => hts0 w (List.mem_cons_of_mem _ h), fun q h => Or.inr h⟩
  have hM : wX D dA ev (AX dA h s.heap.size) s h s.heap [] := ⟨hK, hP, hD0.self, va_S.rf, hE⟩
  have hx := C.1
  have hb := C.2.1
  have hown := C.2.2.2.2.2.1
  have hts := C.2.2.2.2.2.2.1
  have hl := lv_entry ([.ref a0, .int p1]) (n := 3) (Nat.le_of_ble_eq_true rfl)
  rw [lg_entry_eq]
  generalize (lg_sl ([.ref a0, .int p1]) ++ List.replicate (3 - (lg_sl ([.ref a0, .int p1])).length) Slot.unset).toArray = ls at hl ⊢
  have hl : lv_has ls 3 [(0, .ref a0), (1, .int p1)] := hl
  unfold wp_X6_take at hw
  refine lv_iconst (v := 0) hx hb dX6_take_0 (by decide) ?_
  refine lv_istore_n (lv' := [(2, .int 0), (0, .ref a0), (1, .int p1)]) hx hb dX6_take_1 rfl hl (by decide) rfl (fun ls hl => ?_)
  obtain ⟨n2, hw⟩ := hw
  exact wk_X6_take_2 C  n2 a0 p1 0 h _ _ ls hw hM (lv_sub hl [1, 2, 0] rfl)
abbrev rm_X6_turns : Room := { frames := 0, cells := 0, slots := 0, locals := 0 }
set_option maxHeartbeats 4000000 in
theorem wk_X6_turns_4 {p : Program} {l : Launch} {e : Env} {s : State} {m : MethodId} {args : Array Value} {below : List Frame} {meth : Method} {c : Code} {D : va_G} {dA : Nat → ClassId} {ev : Nat → Nat} {h0 : Hp} {sz : Nat} (C : CxM p s m meth c args (AX dA h0 sz) "LeastSolutions$Grower" cX6_turns 4 (some .int)) {Qr : Int32 → Hp → Prop} : ∀ (n : Nat) (a0 : Nat) (v1 : Int32) (v2 : Int32) (v3 : Int32) (h : Hp) (H : Heap) (locs : List Loc) (ls : Array Slot), wp_X6_turns_4 ev Qr n a0 v1 v2 v3 h → wX D dA ev (AX dA h0 sz) s h H locs → lv_has ls 4 [(0, .ref a0), (1, .int v1), (2, .int v2), (3, .int v3)] → W p l e rm_X6_turns s m args below meth c H locs 0 0 (MQ below (va_Qi Qr (BX D dA (AX dA h0 sz)) (AX dA h0 sz)) args s 0 0 (AX dA h0 sz)) (F0 m 4 ls []) := by
  intro n
  induction n with
  | zero => intro a0 v1 v2 v3 h H locs ls hw; exact hw.elim
  | succ n4 ih =>
    intro a0 v1 v2 v3 h H locs ls hw hM hl
    have hx := C.1
    have hb := C.2.1
    have hown := C.2.2.2.2.2.1
    have hts := C.2.2.2.2.2.2.1
    unfold wp_X6_turns_4 at hw
    refine lv_iload_n hx hb dX6_turns_4 rfl (lv_at hl 3 rfl) ?_
    refine lv_aload_n hx hb dX6_turns_5 rfl (lv_at hl 0 rfl) ?_
    have o1 := hw.1
    replace hw := hw.2
    obtain ⟨b2, ebb2, hw⟩ := hw
    refine rX_getRs C hM 5 0 rfl in_X6 (by decide) (by decide) rfl q380 o1 ebb2 dX6_turns_6 ?_
    have o3 := hw.1
    replace hw := hw.2
    refine rX_getIN C hM 3 0 rfl in_X4 (by decide) (by decide) rfl q269 o3 dX6_turns_9 ?_
    refine lv_icmp_ge (tgt := 49) hx hb dX6_turns_12 (by decide) (fun hc => ?_) (fun hc => ?_)
    · replace hw := hw.1 hc
      refine lv_iload_n hx hb dX6_turns_49 rfl (lv_at hl 2 rfl) ?_
      exact rX_iret C hM ⟨Nat.le_refl _, Nat.le_refl _⟩ hw dX6_turns_50
    · replace hw := hw.2 hc
      refine lv_iload_n hx hb dX6_turns_15 rfl (lv_at hl 2 rfl) ?_
      refine lv_aload_n hx hb dX6_turns_16 rfl (lv_at hl 0 rfl) ?_
      have o4 := hw.1
      replace hw := hw.2
      obtain ⟨b5, ebb5, hw⟩ := hw
      refine rX_getRs C hM 5 8 rfl in_X6 (by decide) (by decide) rfl q389 o4 ebb5 dX6_turns_17 ?_
      refine lv_iload_n hx hb dX6_turns_20 rfl (lv_at hl 3 rfl) ?_
      have o6 := hw.1
      replace hw := hw.2
      have o7 := hw.1
      replace hw := hw.2
      refine rX_iald C hM o6 o7 dX6_turns_21 ?_
      refine lv_aload_n hx hb dX6_turns_22 rfl (lv_at hl 0 rfl) ?_
      have o8 := hw.1
      replace hw := hw.2
      obtain ⟨b9, ebb9, hw⟩ := hw
      refine rX_getRs C hM 5 0 rfl in_X6 (by decide) (by decide) rfl q380 o8 ebb9 dX6_turns_23 ?_
      have o10 := hw.1
      replace hw := hw.2
      obtain ⟨b11, ebb11, hw⟩ := hw
      refine rX_getRsN C hM 3 4 rfl in_X4 (by decide) (by decide) rfl q287 o10 ebb11 dX6_turns_26 ?_
      refine lv_iload_n hx hb dX6_turns_29 rfl (lv_at hl 3 rfl) ?_
      have o12 := hw.1
      replace hw := hw.2
      have o13 := hw.1
      replace hw := hw.2
      obtain ⟨b14, ebb14, hw⟩ := hw
      refine rX_aalds C hM 4 (by decide) (by decide) o12 o13 ebb14 dX6_turns_30 ?_
      refine lv_iload_n hx hb dX6_turns_31 rfl (lv_at hl 1 rfl) ?_
      have o15 := hw.1
      replace hw := hw.2
      have o16 := hw.1
      replace hw := hw.2
      refine rX_iald C hM o15 o16 dX6_turns_32 ?_
      refine lv_imul hx hb dX6_turns_33 ?_
      refine lv_aload_n hx hb dX6_turns_34 rfl (lv_at hl 0 rfl) ?_
      have o17 := hw.1
      replace hw := hw.2
      obtain ⟨b18, ebb18, hw⟩ := hw
      refine rX_getRs C hM 5 1 rfl in_X6 (by decide) (by decide) rfl q381 o17 ebb18 dX6_turns_35 ?_
      refine lv_iload_n hx hb dX6_turns_38 rfl (lv_at hl 1 rfl) ?_
      have o19 := hw.1
      replace hw := hw.2
      have o20 := hw.1
      replace hw := hw.2
      refine rX_iald C hM o19 o20 dX6_turns_39 ?_
      refine lv_imul hx hb dX6_turns_40 ?_
      refine lv_iadd hx hb dX6_turns_41 ?_
      refine lv_topi (fun x21 ex21 => ?_)
      replace hw := hw x21 ex21
      refine lv_istore_n (lv' := [(2, .int x21), (0, .ref a0), (1, .int v1), (3, .int v3)]) hx hb dX6_turns_42 rfl hl (by decide) rfl (fun ls hl => ?_)
      obtain ⟨x22, ex22⟩ : ∃ y : Int32, y = v3 + 1 := ⟨_, rfl⟩
      replace hw := hw x22 ex22
      refine lv_iinc (v := x22) (lv' := [(3, .int x22), (2, .int x21), (0, .ref a0), (1, .int v1)]) hx hb dX6_turns_43 hl (k := 3) rfl (by rw [ex22]; rfl) (by decide) rfl (fun ls hl => ?_)
      refine lv_goto (tgt := 4) hx hb dX6_turns_46 (by decide) ?_
      exact ih a0 v1 x21 x22 h _ _ ls hw hM (lv_sub hl [2, 3, 1, 0] rfl)
set_option maxHeartbeats 4000000 in
/-- LeastSolutions$Grower.turns(I)I -/
theorem mt_X6_turns (l : Launch) (D : va_G) (dA : Nat → ClassId) (ev : Nat → Nat) (sz : Nat) (h : Hp) (a0 : Nat) (p1 : Int32) (Qr : Int32 → Hp → Prop) (hw : wp_X6_turns ev h a0 p1 Qr) : Met l yX6_turns (ws_ yX6_turns cX6_turns 4 (some .int)) rm_X6_turns (PcX D dA ev h sz [.ref a0, .int p1]) (va_Qi Qr (BX D dA (AX dA h sz)) (AX dA h sz)) 0 0 (AX dA h sz) := by
  refine Met.ofW (cc := cX6_turns) (maxL := 4) (ret := (some .int)) (by decide) rfl ?_
  intro p e s m args below meth c s₁ B hml hv
  obtain ⟨rfl, hsz, hP, hK, hD0, hE⟩ := hv
  subst hsz
  have hts0 := atoms_spec (ws := ws_ yX6_turns cX6_turns 4 (some .int)) B.pre
  have C : CxM p s m meth c _ (AX dA h s.heap.size) "LeastSolutions$Grower" cX6_turns 4 (some .int) := ⟨B.exec, B.bytes, B.returns, B.notSynchronized, hml, findClass_of_methodNamed B.named, fun w h => hts0 w (List.mem_cons_of_mem _ h), fun q h => Or.inr h⟩
  have hM : wX D dA ev (AX dA h s.heap.size) s h s.heap [] := ⟨hK, hP, hD0.self, va_S.rf, hE⟩
  have hx := C.1
  have hb := C.2.1
  have hown := C.2.2.2.2.2.1
  have hts := C.2.2.2.2.2.2.1
  have hl := lv_entry ([.ref a0, .int p1]) (n := 4) (Nat.le_of_ble_eq_true rfl)
  rw [lg_entry_eq]
  generalize (lg_sl ([.ref a0, .int p1]) ++ List.replicate (4 - (lg_sl ([.ref a0, .int p1])).length) Slot.unset).toArray = ls at hl ⊢
  have hl : lv_has ls 4 [(0, .ref a0), (1, .int p1)] := hl
  unfold wp_X6_turns at hw
  refine lv_iconst (v := 0) hx hb dX6_turns_0 (by decide) ?_
  refine lv_istore_n (lv' := [(2, .int 0), (0, .ref a0), (1, .int p1)]) hx hb dX6_turns_1 rfl hl (by decide) rfl (fun ls hl => ?_)
  refine lv_iconst (v := 0) hx hb dX6_turns_2 (by decide) ?_
  refine lv_istore_n (lv' := [(3, .int 0), (2, .int 0), (0, .ref a0), (1, .int p1)]) hx hb dX6_turns_3 rfl hl (by decide) rfl (fun ls hl => ?_)
  obtain ⟨n4, hw⟩ := hw
  exact wk_X6_turns_4 C  n4 a0 p1 0 0 h _ _ ls hw hM (lv_sub hl [2, 3, 1, 0] rfl)
abbrev rm_X6_hasBelow : Room := { frames := 4, cells := 0, slots := 0, locals := 85 }
set_option maxHeartbeats 4000000 in
theorem wk_X6_hasBelow_38 {p : Program} {l : Launch} {e : Env} {s : State} {m : MethodId} {args : Array Value} {below : List Frame} {meth : Method} {c : Code} {D : va_G} {dA : Nat → ClassId} {ev : Nat → Nat} {h0 : Hp} {sz : Nat} (C : CxM p s m meth c args (AX dA h0 sz) "LeastSolutions$Grower" cX6_hasBelow 4 (some .boolean)) {Qr : Int32 → Hp → Prop} : ∀ (a0 : Nat) (v2 : Int32) (h : Hp) (H : Heap) (locs : List Loc) (ls : Array Slot), wp_X6_hasBelow_38 ev Qr a0 v2 h → wX D dA ev (AX dA h0 sz) s h H locs → lv_has ls 4 [(0, .ref a0), (2, .int v2)] → W p l e rm_X6_hasBelow s m args below meth c H locs 0 0 (MQ below (va_Qi Qr (BX D dA (AX dA h0 sz)) (AX dA h0 sz)) args s 0 0 (AX dA h0 sz)) (F0 m 38 ls []) := by
  intro a0 v2 h H locs ls hw hM hl
  have hx := C.1
  have hb := C.2.1
  have hown := C.2.2.2.2.2.1
  have hts := C.2.2.2.2.2.2.1
  unfold wp_X6_hasBelow_38 at hw
  refine lv_iload_n hx hb dX6_hasBelow_38 rfl (lv_at hl 1 rfl) ?_
  exact rX_zret C hM ⟨Nat.le_refl _, Nat.le_refl _⟩ hw dX6_hasBelow_39
set_option maxHeartbeats 4000000 in
theorem wk_X6_hasBelow_4 {p : Program} {l : Launch} {e : Env} {s : State} {m : MethodId} {args : Array Value} {below : List Frame} {meth : Method} {c : Code} {D : va_G} {dA : Nat → ClassId} {ev : Nat → Nat} {h0 : Hp} {sz : Nat} (C : CxM p s m meth c args (AX dA h0 sz) "LeastSolutions$Grower" cX6_hasBelow 4 (some .boolean)) {Qr : Int32 → Hp → Prop} : ∀ (n : Nat) (a0 : Nat) (v1 : Nat) (v2 : Int32) (v3 : Int32) (h : Hp) (H : Heap) (locs : List Loc) (ls : Array Slot), wp_X6_hasBelow_4 ev Qr n a0 v1 v2 v3 h → wX D dA ev (AX dA h0 sz) s h H locs → lv_has ls 4 [(0, .ref a0), (1, .ref v1), (2, .int v2), (3, .int v3)] → W p l e rm_X6_hasBelow s m args below meth c H locs 0 0 (MQ below (va_Qi Qr (BX D dA (AX dA h0 sz)) (AX dA h0 sz)) args s 0 0 (AX dA h0 sz)) (F0 m 4 ls []) := by
  intro n
  induction n with
  | zero => intro a0 v1 v2 v3 h H locs ls hw; exact hw.elim
  | succ n4 ih =>
    intro a0 v1 v2 v3 h H locs ls hw hM hl
    have hx := C.1
    have hb := C.2.1
    have hown := C.2.2.2.2.2.1
    have hts := C.2.2.2.2.2.2.1
    unfold wp_X6_hasBelow_4 at hw
    refine lv_iload_n hx hb dX6_hasBelow_4 rfl (lv_at hl 3 rfl) ?_
    refine lv_aload_n hx hb dX6_hasBelow_5 rfl (lv_at hl 1 rfl) ?_
    have o3 := hw.1
    replace hw := hw.2
    refine rX_goi C hM (runX_V C hM hl.1 6 0 (As := []) rfl (by decide) o3 (mt_X7_size l D dA ev _ h v1  _ hw) (lw_V q969 q822 q823 q87 q824) rfl rfl (by decide +kernel) ⟨Nat.le_of_ble_eq_true rfl, Nat.le_of_ble_eq_true rfl⟩ rfl (Nat.le_of_ble_eq_true rfl) rfl dX6_hasBelow_6 ⟨Nat.le_refl _, Nat.le_refl _⟩) (fun x2 h1 H locs hw hM => ?_)
    refine lv_icmp_ge (tgt := 38) hx hb dX6_hasBelow_9 (by decide) (fun hc => ?_) (fun hc => ?_)
    · replace hw := hw.1 hc
      exact wk_X6_hasBelow_38 C  a0 v2 h1 _ _ ls hw hM (lv_sub hl [0, 2] rfl)
    · replace hw := hw.2 hc
      refine lv_iload_n hx hb dX6_hasBelow_12 rfl (lv_at hl 2 rfl) ?_
      refine lv_if_ne (tgt := 38) hx hb dX6_hasBelow_13 (by decide) (fun hc => ?_) (fun hc => ?_)
      · replace hw := hw.1 hc
        exact wk_X6_hasBelow_38 C  a0 v2 h1 _ _ ls hw hM (lv_sub hl [0, 2] rfl)
      · replace hw := hw.2 hc
        refine lv_aload_n hx hb dX6_hasBelow_16 rfl (lv_at hl 1 rfl) ?_
        refine lv_iload_n hx hb dX6_hasBelow_17 rfl (lv_at hl 3 rfl) ?_
        have o6 := hw.1
        replace hw := hw.2
        refine rX_goq C hM (runX_V C hM hl.1 6 1 (As := [.int v3]) rfl (by decide) o6 (mt_X7_get l D dA ev _ h1 v1 v3  _ hw) (lw_V q970 q810 q811 q87 q812) rfl rfl (by decide +kernel) ⟨Nat.le_of_ble_eq_true rfl, Nat.le_of_ble_eq_true rfl⟩ rfl (Nat.le_of_ble_eq_true rfl) rfl dX6_hasBelow_18 ⟨Nat.le_refl _, Nat.le_refl _⟩) (fun r5 h4 H locs hw hM => ?_)
        have o7 := hw.1
        replace hw := hw.2
        refine rX_castS (r := r5) C hM 10 rfl (by decide) q971 o7 dX6_hasBelow_21 ?_
        refine lv_aload_n hx hb dX6_hasBelow_24 rfl (lv_at hl 0 rfl) ?_
        have o8 := hw.1
        replace hw := hw.2
        obtain ⟨b9, ebb9, hw⟩ := hw
        refine rX_getRs C hM 5 7 rfl in_X6 (by decide) (by decide) rfl q388 o8 ebb9 dX6_hasBelow_25 ?_
        obtain ⟨b10, eb, hw⟩ := hw
        subst eb
        have o13 := hw.1
        replace hw := hw.2
        refine rX_goi C hM (runX_V C hM hl.1 10 1 (As := [.ref b9]) rfl (by decide) o13 (mt_X11_isIn l D dA ev _ h4 b10 b9  _ hw) (lw_V q972 q815 q816 q104 q817) rfl rfl (by decide +kernel) ⟨Nat.le_of_ble_eq_true rfl, Nat.le_of_ble_eq_true rfl⟩ rfl (Nat.le_of_ble_eq_true rfl) rfl dX6_hasBelow_28 ⟨Nat.le_refl _, Nat.le_refl _⟩) (fun x12 h11 H locs hw hM => ?_)
        refine lv_istore_n (lv' := [(2, .int x12), (0, .ref a0), (1, .ref v1), (3, .int v3)]) hx hb dX6_hasBelow_31 rfl hl (by decide) rfl (fun ls hl => ?_)
        obtain ⟨x14, ex14⟩ : ∃ y : Int32, y = v3 + 1 := ⟨_, rfl⟩
        replace hw := hw x14 ex14
        refine lv_iinc (v := x14) (lv' := [(3, .int x14), (2, .int x12), (0, .ref a0), (1, .ref v1)]) hx hb dX6_hasBelow_32 hl (k := 3) rfl (by rw [ex14]; rfl) (by decide) rfl (fun ls hl => ?_)
        refine lv_goto (tgt := 4) hx hb dX6_hasBelow_35 (by decide) ?_
        exact ih a0 v1 x12 x14 h11 _ _ ls hw hM (lv_sub hl [2, 3, 1, 0] rfl)
set_option maxHeartbeats 4000000 in
/-- LeastSolutions$Grower.hasBelow(LLeastSolutions$Shelf;)Z -/
theorem mt_X6_hasBelow (l : Launch) (D : va_G) (dA : Nat → ClassId) (ev : Nat → Nat) (sz : Nat) (h : Hp) (a0 : Nat) (p1 : Nat) (Qr : Int32 → Hp → Prop) (hw : wp_X6_hasBelow ev h a0 p1 Qr) : Met l yX6_hasBelow (ws_ yX6_hasBelow cX6_hasBelow 4 (some .boolean)) rm_X6_hasBelow (PcX D dA ev h sz [.ref a0, .ref p1]) (va_Qi Qr (BX D dA (AX dA h sz)) (AX dA h sz)) 0 0 (AX dA h sz) := by
  refine Met.ofW (cc := cX6_hasBelow) (maxL := 4) (ret := (some .boolean)) (by decide) rfl ?_
  intro p e s m args below meth c s₁ B hml hv
  obtain ⟨rfl, hsz, hP, hK, hD0, hE⟩ := hv
  subst hsz
  have hts0 := atoms_spec (ws := ws_ yX6_hasBelow cX6_hasBelow 4 (some .boolean)) B.pre
  have C : CxM p s m meth c _ (AX dA h s.heap.size) "LeastSolutions$Grower" cX6_hasBelow 4 (some .boolean) := ⟨B.exec, B.bytes, B.returns, B.notSynchronized, hml, findClass_of_methodNamed B.named, fun w h => hts0 w (List.mem_cons_of_mem _ h), fun q h => Or.inr h⟩
  have hM : wX D dA ev (AX dA h s.heap.size) s h s.heap [] := ⟨hK, hP, hD0.self, va_S.rf, hE⟩
  have hx := C.1
  have hb := C.2.1
  have hown := C.2.2.2.2.2.1
  have hts := C.2.2.2.2.2.2.1
  have hl := lv_entry ([.ref a0, .ref p1]) (n := 4) (Nat.le_of_ble_eq_true rfl)
  rw [lg_entry_eq]
  generalize (lg_sl ([.ref a0, .ref p1]) ++ List.replicate (4 - (lg_sl ([.ref a0, .ref p1])).length) Slot.unset).toArray = ls at hl ⊢
  have hl : lv_has ls 4 [(0, .ref a0), (1, .ref p1)] := hl
  unfold wp_X6_hasBelow at hw
  refine lv_iconst (v := 0) hx hb dX6_hasBelow_0 (by decide) ?_
  refine lv_istore_n (lv' := [(2, .int 0), (0, .ref a0), (1, .ref p1)]) hx hb dX6_hasBelow_1 rfl hl (by decide) rfl (fun ls hl => ?_)
  refine lv_iconst (v := 0) hx hb dX6_hasBelow_2 (by decide) ?_
  refine lv_istore_n (lv' := [(3, .int 0), (2, .int 0), (0, .ref a0), (1, .ref p1)]) hx hb dX6_hasBelow_3 rfl hl (by decide) rfl (fun ls hl => ?_)
  obtain ⟨n4, hw⟩ := hw
  exact wk_X6_hasBelow_4 C  n4 a0 p1 0 0 h _ _ ls hw hM (lv_sub hl [2, 3, 1, 0] rfl)
abbrev rm_X8_init (MC MS : Nat) : Room := { frames := 1, cells := MC, slots := MS, locals := 60 }
set_option maxHeartbeats 4000000 in
/-- LeastSolutions$Seeker.<init>()V -/
theorem mt_X8_init (l : Launch) (D : va_G) (dA : Nat → ClassId) (ev : Nat → Nat) (sz : Nat) (h : Hp) (a0 : Nat) (MC MS : Nat) (Qr : Hp → Prop) (hw : wp_X8_init ev h a0 MC MS Qr) : Met l yX8_init (ws_ yX8_init cX8_init 1 none) (rm_X8_init MC MS) (PcX D dA ev h sz [.ref a0]) (va_Qv Qr (BX D dA (AX dA h sz)) (AX dA h sz)) MC MS (AX dA h sz) := by
  refine Met.ofW (cc := cX8_init) (maxL := 1) (ret := none) (by decide) rfl ?_
  intro p e s m args below meth c s₁ B hml hv
  obtain ⟨rfl, hsz, hP, hK, hD0, hE⟩ := hv
  subst hsz
  have hts0 := atoms_spec (ws := ws_ yX8_init cX8_init 1 none) B.pre
  have C : CxM p s m meth c _ (AX dA h s.heap.size) "LeastSolutions$Seeker" cX8_init 1 none := ⟨B.exec, B.bytes, B.returns, B.notSynchronized, hml, findClass_of_methodNamed B.named, fun w h => hts0 w (List.mem_cons_of_mem _ h), fun q h => Or.inr h⟩
  have hin0 : meth.name = "<init>" := (name_of_methodNamed B.named B.method).1
  have hM : wX D dA ev (AX dA h s.heap.size) s h s.heap [] := ⟨hK, hP, hD0.self, va_S.rf, hE⟩
  have hx := C.1
  have hb := C.2.1
  have hown := C.2.2.2.2.2.1
  have hts := C.2.2.2.2.2.2.1
  have hl := lv_entry ([.ref a0]) (n := 1) (Nat.le_of_ble_eq_true rfl)
  rw [lg_entry_eq]
  generalize (lg_sl ([.ref a0]) ++ List.replicate (1 - (lg_sl ([.ref a0])).length) Slot.unset).toArray = ls at hl ⊢
  have hl : lv_has ls 1 [(0, .ref a0)] := hl
  have hbud : 0 + MC ≤ MC ∧ 0 + MS ≤ MS := ⟨by omega, by omega⟩
  unfold wp_X8_init at hw
  refine lv_aload_n hx hb dX8_init_0 rfl (lv_at hl 0 rfl) ?_
  refine W.objInit hx hb hown (hts _ q420) (hts _ q118) (hts _ q119) rfl (by rw [C.2.2.2.2.1]; exact hl.1) rfl dX8_init_1 (Nat.le_of_ble_eq_true rfl) (Nat.le_of_ble_eq_true rfl) ?_
  refine W.eq (g2 := F0 m 4 ls []) rfl ?_
  refine lv_aload_n hx hb dX8_init_4 rfl (lv_at hl 0 rfl) ?_
  refine lv_bipush (v := 6) hx hb dX8_init_5 (by decide) ?_
  obtain ⟨mc2, ms3, emc2, ems3, hw⟩ := hw
  refine rX_newi C hM (N := 6) q257 (by decide) (by decide) (by decide) (by show 0 + 1 ≤ MC; omega) (by show 0 + 6 ≤ MS; omega) dX8_init_7 (fun q4 h5 H hqq4 eσ hM => ?_)
  replace hw := hw q4 hqq4 h5 eσ
  clear eσ
  have hbud : 0 + 1 + mc2 ≤ MC ∧ 0 + 6 + ms3 ≤ MS := ⟨by omega, by omega⟩
  have o7 := hw.1
  replace hw := hw.2
  refine rX_putF C hin0 hM 7 1 rfl in_X8 (by decide) (by decide) rfl rfl q422 rfl o7 (x := (some q4)) tyX8 tyX8_ok nmX8 rfl rfl rfl dX8_init_9 (fun h6 H locs eσ hM => ?_)
  replace hw := hw h6 eσ
  clear eσ
  refine lv_aload_n hx hb dX8_init_12 rfl (lv_at hl 0 rfl) ?_
  refine lv_bipush (v := 6) hx hb dX8_init_13 (by decide) ?_
  obtain ⟨mc9, ms10, emc9, ems10, hw⟩ := hw
  refine rX_newi C hM (N := 6) q257 (by decide) (by decide) (by decide) (by show 0 + 1 + 1 ≤ MC; omega) (by show 0 + 6 + 6 ≤ MS; omega) dX8_init_15 (fun q11 h12 H hqq11 eσ hM => ?_)
  replace hw := hw q11 hqq11 h12 eσ
  clear eσ
  have hbud : 0 + 1 + 1 + mc9 ≤ MC ∧ 0 + 6 + 6 + ms10 ≤ MS := ⟨by omega, by omega⟩
  have o14 := hw.1
  replace hw := hw.2
  refine rX_putF C hin0 hM 7 2 rfl in_X8 (by decide) (by decide) rfl rfl q424 rfl o14 (x := (some q11)) tyX8 tyX8_ok nmX8 rfl rfl rfl dX8_init_17 (fun h13 H locs eσ hM => ?_)
  replace hw := hw h13 eσ
  clear eσ
  refine lv_aload_n hx hb dX8_init_20 rfl (lv_at hl 0 rfl) ?_
  refine lv_bipush (v := 6) hx hb dX8_init_21 (by decide) ?_
  obtain ⟨mc16, ms17, emc16, ems17, hw⟩ := hw
  refine rX_newi C hM (N := 6) q257 (by decide) (by decide) (by decide) (by show 0 + 1 + 1 + 1 ≤ MC; omega) (by show 0 + 6 + 6 + 6 ≤ MS; omega) dX8_init_23 (fun q18 h19 H hqq18 eσ hM => ?_)
  replace hw := hw q18 hqq18 h19 eσ
  clear eσ
  have hbud : 0 + 1 + 1 + 1 + mc16 ≤ MC ∧ 0 + 6 + 6 + 6 + ms17 ≤ MS := ⟨by omega, by omega⟩
  have o21 := hw.1
  replace hw := hw.2
  refine rX_putF C hin0 hM 7 3 rfl in_X8 (by decide) (by decide) rfl rfl q425 rfl o21 (x := (some q18)) tyX8 tyX8_ok nmX8 rfl rfl rfl dX8_init_25 (fun h20 H locs eσ hM => ?_)
  replace hw := hw h20 eσ
  clear eσ
  exact rX_vret C hM ⟨by show 0 + 1 + 1 + 1 ≤ MC; omega, by show 0 + 6 + 6 + 6 ≤ MS; omega⟩ hw dX8_init_28
abbrev rm_X8_left : Room := { frames := 0, cells := 0, slots := 0, locals := 0 }
set_option maxHeartbeats 4000000 in
theorem wk_X8_left_13 {p : Program} {l : Launch} {e : Env} {s : State} {m : MethodId} {args : Array Value} {below : List Frame} {meth : Method} {c : Code} {D : va_G} {dA : Nat → ClassId} {ev : Nat → Nat} {h0 : Hp} {sz : Nat} (C : CxM p s m meth c args (AX dA h0 sz) "LeastSolutions$Seeker" cX8_left 5 (some .int)) {Qr : Int32 → Hp → Prop} : ∀ (n : Nat) (a0 : Nat) (v1 : Int32) (v2 : Int32) (v3 : Int32) (v4 : Int32) (h : Hp) (H : Heap) (locs : List Loc) (ls : Array Slot), wp_X8_left_13 ev Qr n a0 v1 v2 v3 v4 h → wX D dA ev (AX dA h0 sz) s h H locs → lv_has ls 5 [(0, .ref a0), (1, .int v1), (2, .int v2), (3, .int v3), (4, .int v4)] → W p l e rm_X8_left s m args below meth c H locs 0 0 (MQ below (va_Qi Qr (BX D dA (AX dA h0 sz)) (AX dA h0 sz)) args s 0 0 (AX dA h0 sz)) (F0 m 13 ls []) := by
  intro n
  induction n with
  | zero => intro a0 v1 v2 v3 v4 h H locs ls hw; exact hw.elim
  | succ n13 ih =>
    intro a0 v1 v2 v3 v4 h H locs ls hw hM hl
    have hx := C.1
    have hb := C.2.1
    have hown := C.2.2.2.2.2.1
    have hts := C.2.2.2.2.2.2.1
    unfold wp_X8_left_13 at hw
    refine lv_iload hx hb dX8_left_13 (lv_at hl 4 rfl) ?_
    refine lv_iload_n hx hb dX8_left_15 rfl (lv_at hl 2 rfl) ?_
    refine lv_icmp_ge (tgt := 48) hx hb dX8_left_16 (by decide) (fun hc => ?_) (fun hc => ?_)
    · replace hw := hw.1 hc
      refine lv_iload_n hx hb dX8_left_48 rfl (lv_at hl 3 rfl) ?_
      exact rX_iret C hM ⟨Nat.le_refl _, Nat.le_refl _⟩ hw dX8_left_49
    · replace hw := hw.2 hc
      refine lv_iload_n hx hb dX8_left_19 rfl (lv_at hl 3 rfl) ?_
      refine lv_aload_n hx hb dX8_left_20 rfl (lv_at hl 0 rfl) ?_
      have o1 := hw.1
      replace hw := hw.2
      obtain ⟨b2, ebb2, hw⟩ := hw
      refine rX_getRs C hM 7 0 rfl in_X8 (by decide) (by decide) rfl q421 o1 ebb2 dX8_left_21 ?_
      have o3 := hw.1
      replace hw := hw.2
      obtain ⟨b4, ebb4, hw⟩ := hw
      refine rX_getRsN C hM 3 4 rfl in_X4 (by decide) (by decide) rfl q286 o3 ebb4 dX8_left_24 ?_
      refine lv_iload_n hx hb dX8_left_27 rfl (lv_at hl 1 rfl) ?_
      have o5 := hw.1
      replace hw := hw.2
      have o6 := hw.1
      replace hw := hw.2
      obtain ⟨b7, ebb7, hw⟩ := hw
      refine rX_aalds C hM 4 (by decide) (by decide) o5 o6 ebb7 dX8_left_28 ?_
      refine lv_iload hx hb dX8_left_29 (lv_at hl 4 rfl) ?_
      have o8 := hw.1
      replace hw := hw.2
      have o9 := hw.1
      replace hw := hw.2
      refine rX_iald C hM o8 o9 dX8_left_31 ?_
      refine lv_aload_n hx hb dX8_left_32 rfl (lv_at hl 0 rfl) ?_
      have o10 := hw.1
      replace hw := hw.2
      obtain ⟨b11, ebb11, hw⟩ := hw
      refine rX_getRs C hM 7 2 rfl in_X8 (by decide) (by decide) rfl q424 o10 ebb11 dX8_left_33 ?_
      refine lv_iload hx hb dX8_left_36 (lv_at hl 4 rfl) ?_
      have o12 := hw.1
      replace hw := hw.2
      have o13 := hw.1
      replace hw := hw.2
      refine rX_iald C hM o12 o13 dX8_left_38 ?_
      refine lv_imul hx hb dX8_left_39 ?_
      refine lv_isub hx hb dX8_left_40 ?_
      refine lv_topi (fun x14 ex14 => ?_)
      replace hw := hw x14 ex14
      refine lv_istore_n (lv' := [(3, .int x14), (0, .ref a0), (1, .int v1), (2, .int v2), (4, .int v4)]) hx hb dX8_left_41 rfl hl (by decide) rfl (fun ls hl => ?_)
      obtain ⟨x15, ex15⟩ : ∃ y : Int32, y = v4 + 1 := ⟨_, rfl⟩
      replace hw := hw x15 ex15
      refine lv_iinc (v := x15) (lv' := [(4, .int x15), (3, .int x14), (0, .ref a0), (1, .int v1), (2, .int v2)]) hx hb dX8_left_42 hl (k := 4) rfl (by rw [ex15]; rfl) (by decide) rfl (fun ls hl => ?_)
      refine lv_goto (tgt := 13) hx hb dX8_left_45 (by decide) ?_
      exact ih a0 v1 v2 x14 x15 h _ _ ls hw hM (lv_sub hl [2, 3, 4, 1, 0] rfl)
set_option maxHeartbeats 4000000 in
/-- LeastSolutions$Seeker.left(II)I -/
theorem mt_X8_left (l : Launch) (D : va_G) (dA : Nat → ClassId) (ev : Nat → Nat) (sz : Nat) (h : Hp) (a0 : Nat) (p1 : Int32) (p2 : Int32) (Qr : Int32 → Hp → Prop) (hw : wp_X8_left ev h a0 p1 p2 Qr) : Met l yX8_left (ws_ yX8_left cX8_left 5 (some .int)) rm_X8_left (PcX D dA ev h sz [.ref a0, .int p1, .int p2]) (va_Qi Qr (BX D dA (AX dA h sz)) (AX dA h sz)) 0 0 (AX dA h sz) := by
  refine Met.ofW (cc := cX8_left) (maxL := 5) (ret := (some .int)) (by decide) rfl ?_
  intro p e s m args below meth c s₁ B hml hv
  obtain ⟨rfl, hsz, hP, hK, hD0, hE⟩ := hv
  subst hsz
  have hts0 := atoms_spec (ws := ws_ yX8_left cX8_left 5 (some .int)) B.pre
  have C : CxM p s m meth c _ (AX dA h s.heap.size) "LeastSolutions$Seeker" cX8_left 5 (some .int) := ⟨B.exec, B.bytes, B.returns, B.notSynchronized, hml, findClass_of_methodNamed B.named, fun w h => hts0 w (List.mem_cons_of_mem _ h), fun q h => Or.inr h⟩
  have hM : wX D dA ev (AX dA h s.heap.size) s h s.heap [] := ⟨hK, hP, hD0.self, va_S.rf, hE⟩
  have hx := C.1
  have hb := C.2.1
  have hown := C.2.2.2.2.2.1
  have hts := C.2.2.2.2.2.2.1
  have hl := lv_entry ([.ref a0, .int p1, .int p2]) (n := 5) (Nat.le_of_ble_eq_true rfl)
  rw [lg_entry_eq]
  generalize (lg_sl ([.ref a0, .int p1, .int p2]) ++ List.replicate (5 - (lg_sl ([.ref a0, .int p1, .int p2])).length) Slot.unset).toArray = ls at hl ⊢
  have hl : lv_has ls 5 [(0, .ref a0), (1, .int p1), (2, .int p2)] := hl
  unfold wp_X8_left at hw
  refine lv_aload_n hx hb dX8_left_0 rfl (lv_at hl 0 rfl) ?_
  have o1 := hw.1
  replace hw := hw.2
  obtain ⟨b2, ebb2, hw⟩ := hw
  refine rX_getRs C hM 7 0 rfl in_X8 (by decide) (by decide) rfl q421 o1 ebb2 dX8_left_1 ?_
  have o3 := hw.1
  replace hw := hw.2
  obtain ⟨b4, ebb4, hw⟩ := hw
  refine rX_getRsN C hM 3 5 rfl in_X4 (by decide) (by decide) rfl q292 o3 ebb4 dX8_left_4 ?_
  refine lv_iload_n hx hb dX8_left_7 rfl (lv_at hl 1 rfl) ?_
  have o5 := hw.1
  replace hw := hw.2
  have o6 := hw.1
  replace hw := hw.2
  refine rX_iald C hM o5 o6 dX8_left_8 ?_
  refine lv_topi (fun x7 ex7 => ?_)
  replace hw := hw x7 ex7
  refine lv_istore_n (lv' := [(3, .int x7), (0, .ref a0), (1, .int p1), (2, .int p2)]) hx hb dX8_left_9 rfl hl (by decide) rfl (fun ls hl => ?_)
  refine lv_iconst (v := 0) hx hb dX8_left_10 (by decide) ?_
  refine lv_istore (lv' := [(4, .int 0), (3, .int x7), (0, .ref a0), (1, .int p1), (2, .int p2)]) hx hb dX8_left_11 hl (by decide) rfl (fun ls hl => ?_)
  obtain ⟨n13, hw⟩ := hw
  exact wk_X8_left_13 C  n13 a0 p1 p2 x7 0 h _ _ ls hw hM (lv_sub hl [2, 3, 4, 1, 0] rfl)
abbrev rm_X8_canCome : Room := { frames := 1, cells := 0, slots := 0, locals := 24 }
set_option maxHeartbeats 4000000 in
theorem wk_X8_canCome_127 {p : Program} {l : Launch} {e : Env} {s : State} {m : MethodId} {args : Array Value} {below : List Frame} {meth : Method} {c : Code} {D : va_G} {dA : Nat → ClassId} {ev : Nat → Nat} {h0 : Hp} {sz : Nat} (C : CxM p s m meth c args (AX dA h0 sz) "LeastSolutions$Seeker" cX8_canCome 8 (some .boolean)) {Qr : Int32 → Hp → Prop} : ∀ (a0 : Nat) (v3 : Int32) (h : Hp) (H : Heap) (locs : List Loc) (ls : Array Slot), wp_X8_canCome_127 ev Qr a0 v3 h → wX D dA ev (AX dA h0 sz) s h H locs → lv_has ls 8 [(0, .ref a0), (3, .int v3)] → W p l e rm_X8_canCome s m args below meth c H locs 0 0 (MQ below (va_Qi Qr (BX D dA (AX dA h0 sz)) (AX dA h0 sz)) args s 0 0 (AX dA h0 sz)) (F0 m 127 ls []) := by
  intro a0 v3 h H locs ls hw hM hl
  have hx := C.1
  have hb := C.2.1
  have hown := C.2.2.2.2.2.1
  have hts := C.2.2.2.2.2.2.1
  unfold wp_X8_canCome_127 at hw
  refine lv_iload_n hx hb dX8_canCome_127 rfl (lv_at hl 1 rfl) ?_
  exact rX_zret C hM ⟨Nat.le_refl _, Nat.le_refl _⟩ hw dX8_canCome_128
set_option maxHeartbeats 4000000 in
theorem wk_X8_canCome_120 {p : Program} {l : Launch} {e : Env} {s : State} {m : MethodId} {args : Array Value} {below : List Frame} {meth : Method} {c : Code} {D : va_G} {dA : Nat → ClassId} {ev : Nat → Nat} {h0 : Hp} {sz : Nat} (C : CxM p s m meth c args (AX dA h0 sz) "LeastSolutions$Seeker" cX8_canCome 8 (some .boolean)) {Qr : Int32 → Hp → Prop} {K5 : Nat → Int32 → Int32 → Int32 → Int32 → Hp → Prop} (hK5 : ∀ (a0 : Nat) (v1 : Int32) (v2 : Int32) (v3 : Int32) (v4 : Int32) (h : Hp) (H : Heap) (locs : List Loc) (ls : Array Slot), K5 a0 v1 v2 v3 v4 h → wX D dA ev (AX dA h0 sz) s h H locs → lv_has ls 8 [(0, .ref a0), (1, .int v1), (2, .int v2), (3, .int v3), (4, .int v4)] → W p l e rm_X8_canCome s m args below meth c H locs 0 0 (MQ below (va_Qi Qr (BX D dA (AX dA h0 sz)) (AX dA h0 sz)) args s 0 0 (AX dA h0 sz)) (F0 m 5 ls [])) : ∀ (a0 : Nat) (v1 : Int32) (v2 : Int32) (v4 : Int32) (u0 : Int32) (h : Hp) (H : Heap) (locs : List Loc) (ls : Array Slot), wp_X8_canCome_120 ev Qr K5 a0 v1 v2 v4 u0 h → wX D dA ev (AX dA h0 sz) s h H locs → lv_has ls 8 [(0, .ref a0), (1, .int v1), (2, .int v2), (4, .int v4)] → W p l e rm_X8_canCome s m args below meth c H locs 0 0 (MQ below (va_Qi Qr (BX D dA (AX dA h0 sz)) (AX dA h0 sz)) args s 0 0 (AX dA h0 sz)) (F0 m 120 ls [.int u0]) := by
  intro a0 v1 v2 v4 u0 h H locs ls hw hM hl
  have hx := C.1
  have hb := C.2.1
  have hown := C.2.2.2.2.2.1
  have hts := C.2.2.2.2.2.2.1
  unfold wp_X8_canCome_120 at hw
  refine lv_istore_n (lv' := [(3, .int u0), (0, .ref a0), (1, .int v1), (2, .int v2), (4, .int v4)]) hx hb dX8_canCome_120 rfl hl (by decide) rfl (fun ls hl => ?_)
  obtain ⟨x1, ex1⟩ : ∃ y : Int32, y = v4 + 1 := ⟨_, rfl⟩
  replace hw := hw x1 ex1
  refine lv_iinc (v := x1) (lv' := [(4, .int x1), (3, .int u0), (0, .ref a0), (1, .int v1), (2, .int v2)]) hx hb dX8_canCome_121 hl (k := 4) rfl (by rw [ex1]; rfl) (by decide) rfl (fun ls hl => ?_)
  refine lv_goto (tgt := 5) hx hb dX8_canCome_124 (by decide) ?_
  exact hK5 a0 v1 v2 u0 x1 h _ _ ls hw hM (lv_sub hl [2, 3, 4, 1, 0] rfl)
set_option maxHeartbeats 4000000 in
theorem wk_X8_canCome_119 {p : Program} {l : Launch} {e : Env} {s : State} {m : MethodId} {args : Array Value} {below : List Frame} {meth : Method} {c : Code} {D : va_G} {dA : Nat → ClassId} {ev : Nat → Nat} {h0 : Hp} {sz : Nat} (C : CxM p s m meth c args (AX dA h0 sz) "LeastSolutions$Seeker" cX8_canCome 8 (some .boolean)) {Qr : Int32 → Hp → Prop} {K5 : Nat → Int32 → Int32 → Int32 → Int32 → Hp → Prop} (hK5 : ∀ (a0 : Nat) (v1 : Int32) (v2 : Int32) (v3 : Int32) (v4 : Int32) (h : Hp) (H : Heap) (locs : List Loc) (ls : Array Slot), K5 a0 v1 v2 v3 v4 h → wX D dA ev (AX dA h0 sz) s h H locs → lv_has ls 8 [(0, .ref a0), (1, .int v1), (2, .int v2), (3, .int v3), (4, .int v4)] → W p l e rm_X8_canCome s m args below meth c H locs 0 0 (MQ below (va_Qi Qr (BX D dA (AX dA h0 sz)) (AX dA h0 sz)) args s 0 0 (AX dA h0 sz)) (F0 m 5 ls [])) : ∀ (a0 : Nat) (v1 : Int32) (v2 : Int32) (v4 : Int32) (h : Hp) (H : Heap) (locs : List Loc) (ls : Array Slot), wp_X8_canCome_119 ev Qr K5 a0 v1 v2 v4 h → wX D dA ev (AX dA h0 sz) s h H locs → lv_has ls 8 [(0, .ref a0), (1, .int v1), (2, .int v2), (4, .int v4)] → W p l e rm_X8_canCome s m args below meth c H locs 0 0 (MQ below (va_Qi Qr (BX D dA (AX dA h0 sz)) (AX dA h0 sz)) args s 0 0 (AX dA h0 sz)) (F0 m 119 ls []) := by
  intro a0 v1 v2 v4 h H locs ls hw hM hl
  have hx := C.1
  have hb := C.2.1
  have hown := C.2.2.2.2.2.1
  have hts := C.2.2.2.2.2.2.1
  unfold wp_X8_canCome_119 at hw
  refine lv_iconst (v := 0) hx hb dX8_canCome_119 (by decide) ?_
  exact wk_X8_canCome_120 C hK5 a0 v1 v2 v4 0 h _ _ ls hw hM (lv_sub hl [0, 1, 2, 3] rfl)
set_option maxHeartbeats 4000000 in
theorem wk_X8_canCome_30 {p : Program} {l : Launch} {e : Env} {s : State} {m : MethodId} {args : Array Value} {below : List Frame} {meth : Method} {c : Code} {D : va_G} {dA : Nat → ClassId} {ev : Nat → Nat} {h0 : Hp} {sz : Nat} (C : CxM p s m meth c args (AX dA h0 sz) "LeastSolutions$Seeker" cX8_canCome 8 (some .boolean)) {Qr : Int32 → Hp → Prop} {K5 : Nat → Int32 → Int32 → Int32 → Int32 → Hp → Prop} (hK5 : ∀ (a0 : Nat) (v1 : Int32) (v2 : Int32) (v3 : Int32) (v4 : Int32) (h : Hp) (H : Heap) (locs : List Loc) (ls : Array Slot), K5 a0 v1 v2 v3 v4 h → wX D dA ev (AX dA h0 sz) s h H locs → lv_has ls 8 [(0, .ref a0), (1, .int v1), (2, .int v2), (3, .int v3), (4, .int v4)] → W p l e rm_X8_canCome s m args below meth c H locs 0 0 (MQ below (va_Qi Qr (BX D dA (AX dA h0 sz)) (AX dA h0 sz)) args s 0 0 (AX dA h0 sz)) (F0 m 5 ls [])) : ∀ (n : Nat) (a0 : Nat) (v1 : Int32) (v2 : Int32) (v4 : Int32) (v5 : Int32) (v6 : Int32) (v7 : Int32) (h : Hp) (H : Heap) (locs : List Loc) (ls : Array Slot), wp_X8_canCome_30 ev Qr K5 n a0 v1 v2 v4 v5 v6 v7 h → wX D dA ev (AX dA h0 sz) s h H locs → lv_has ls 8 [(0, .ref a0), (1, .int v1), (2, .int v2), (4, .int v4), (5, .int v5), (6, .int v6), (7, .int v7)] → W p l e rm_X8_canCome s m args below meth c H locs 0 0 (MQ below (va_Qi Qr (BX D dA (AX dA h0 sz)) (AX dA h0 sz)) args s 0 0 (AX dA h0 sz)) (F0 m 30 ls []) := by
  intro n
  induction n with
  | zero => intro a0 v1 v2 v4 v5 v6 v7 h H locs ls hw; exact hw.elim
  | succ n30 ih =>
    intro a0 v1 v2 v4 v5 v6 v7 h H locs ls hw hM hl
    have hx := C.1
    have hb := C.2.1
    have hown := C.2.2.2.2.2.1
    have hts := C.2.2.2.2.2.2.1
    unfold wp_X8_canCome_30 at hw
    refine lv_iload hx hb dX8_canCome_30 (lv_at hl 6 rfl) ?_
    refine lv_aload_n hx hb dX8_canCome_32 rfl (lv_at hl 0 rfl) ?_
    have o1 := hw.1
    replace hw := hw.2
    obtain ⟨b2, ebb2, hw⟩ := hw
    refine rX_getRs C hM 7 0 rfl in_X8 (by decide) (by decide) rfl q421 o1 ebb2 dX8_canCome_33 ?_
    have o3 := hw.1
    replace hw := hw.2
    refine rX_getIN C hM 3 1 rfl in_X4 (by decide) (by decide) rfl q275 o3 dX8_canCome_36 ?_
    refine lv_icmp_ge (tgt := 88) hx hb dX8_canCome_39 (by decide) (fun hc => ?_) (fun hc => ?_)
    · replace hw := hw.1 hc
      refine lv_aload_n hx hb dX8_canCome_88 rfl (lv_at hl 0 rfl) ?_
      refine lv_iload hx hb dX8_canCome_89 (lv_at hl 3 rfl) ?_
      refine lv_iload_n hx hb dX8_canCome_91 rfl (lv_at hl 1 rfl) ?_
      have o6 := hw.1
      replace hw := hw.2
      refine rX_goi C hM (runX_V C hM hl.1 7 2 (As := [.int v4, .int v1]) rfl (by decide) o6 (mt_X8_left l D dA ev _ h a0 v4 v1  _ hw) (lw_V q1363 q1365 qs45 q91 q1366) rfl rfl (by decide +kernel) ⟨Nat.le_of_ble_eq_true rfl, Nat.le_of_ble_eq_true rfl⟩ rfl (Nat.le_of_ble_eq_true rfl) rfl dX8_canCome_92 ⟨Nat.le_refl _, Nat.le_refl _⟩) (fun x5 h4 H locs hw hM => ?_)
      refine lv_istore (lv' := [(7, .int x5), (0, .ref a0), (1, .int v1), (2, .int v2), (4, .int v4), (5, .int v5), (6, .int v6)]) hx hb dX8_canCome_95 hl (by decide) rfl (fun ls hl => ?_)
      refine lv_iload hx hb dX8_canCome_97 (lv_at hl 0 rfl) ?_
      refine lv_iload hx hb dX8_canCome_99 (lv_at hl 5 rfl) ?_
      refine lv_iload_n hx hb dX8_canCome_101 rfl (lv_at hl 3 rfl) ?_
      refine lv_imul hx hb dX8_canCome_102 ?_
      refine lv_icmp_lt (tgt := 119) hx hb dX8_canCome_103 (by decide) (fun hc => ?_) (fun hc => ?_)
      · replace hw := hw.1 hc
        exact wk_X8_canCome_119 C hK5 a0 v1 v2 v4 h4 _ _ ls hw hM (lv_sub hl [1, 2, 3, 4] rfl)
      · replace hw := hw.2 hc
        refine lv_iload hx hb dX8_canCome_106 (lv_at hl 0 rfl) ?_
        refine lv_iload hx hb dX8_canCome_108 (lv_at hl 6 rfl) ?_
        refine lv_iload_n hx hb dX8_canCome_110 rfl (lv_at hl 3 rfl) ?_
        refine lv_imul hx hb dX8_canCome_111 ?_
        refine lv_icmp_gt (tgt := 119) hx hb dX8_canCome_112 (by decide) (fun hc => ?_) (fun hc => ?_)
        · replace hw := hw.1 hc
          exact wk_X8_canCome_119 C hK5 a0 v1 v2 v4 h4 _ _ ls hw hM (lv_sub hl [1, 2, 3, 4] rfl)
        · replace hw := hw.2 hc
          refine lv_iconst (v := 1) hx hb dX8_canCome_115 (by decide) ?_
          refine lv_goto (tgt := 120) hx hb dX8_canCome_116 (by decide) ?_
          exact wk_X8_canCome_120 C hK5 a0 v1 v2 v4 1 h4 _ _ ls hw hM (lv_sub hl [1, 2, 3, 4] rfl)
    · replace hw := hw.2 hc
      refine lv_iload hx hb dX8_canCome_42 (lv_at hl 4 rfl) ?_
      refine lv_aload_n hx hb dX8_canCome_44 rfl (lv_at hl 0 rfl) ?_
      have o7 := hw.1
      replace hw := hw.2
      obtain ⟨b8, ebb8, hw⟩ := hw
      refine rX_getRs C hM 7 0 rfl in_X8 (by decide) (by decide) rfl q421 o7 ebb8 dX8_canCome_45 ?_
      have o9 := hw.1
      replace hw := hw.2
      obtain ⟨b10, ebb10, hw⟩ := hw
      refine rX_getRsN C hM 3 4 rfl in_X4 (by decide) (by decide) rfl q286 o9 ebb10 dX8_canCome_48 ?_
      refine lv_iload hx hb dX8_canCome_51 (lv_at hl 3 rfl) ?_
      have o11 := hw.1
      replace hw := hw.2
      have o12 := hw.1
      replace hw := hw.2
      obtain ⟨b13, ebb13, hw⟩ := hw
      refine rX_aalds C hM 4 (by decide) (by decide) o11 o12 ebb13 dX8_canCome_53 ?_
      refine lv_iload hx hb dX8_canCome_54 (lv_at hl 6 rfl) ?_
      have o14 := hw.1
      replace hw := hw.2
      have o15 := hw.1
      replace hw := hw.2
      refine rX_iald C hM o14 o15 dX8_canCome_56 ?_
      refine rX_goi C hM (runX_S C hM hl.1 2 (As := [.int v5, .int (hA h b13 v7)]) (mt_J7_min l D dA ev _ h v5 (hA h b13 v7)  _ hw) (lw_S q1361 q754 q94 q755) rfl rfl (by decide +kernel) ⟨Nat.le_of_ble_eq_true rfl, Nat.le_of_ble_eq_true rfl⟩ rfl (Nat.le_of_ble_eq_true rfl) rfl dX8_canCome_57 ⟨Nat.le_refl _, Nat.le_refl _⟩) (fun x17 h16 H locs hw hM => ?_)
      refine lv_istore (lv' := [(5, .int x17), (0, .ref a0), (1, .int v1), (2, .int v2), (4, .int v4), (6, .int v6), (7, .int v7)]) hx hb dX8_canCome_60 hl (by decide) rfl (fun ls hl => ?_)
      refine lv_iload hx hb dX8_canCome_62 (lv_at hl 5 rfl) ?_
      refine lv_aload_n hx hb dX8_canCome_64 rfl (lv_at hl 1 rfl) ?_
      have o18 := hw.1
      replace hw := hw.2
      obtain ⟨b19, ebb19, hw⟩ := hw
      refine rX_getRs C hM 7 0 rfl in_X8 (by decide) (by decide) rfl q421 o18 ebb19 dX8_canCome_65 ?_
      have o20 := hw.1
      replace hw := hw.2
      obtain ⟨b21, ebb21, hw⟩ := hw
      refine rX_getRsN C hM 3 4 rfl in_X4 (by decide) (by decide) rfl q286 o20 ebb21 dX8_canCome_68 ?_
      refine lv_iload hx hb dX8_canCome_71 (lv_at hl 4 rfl) ?_
      have o22 := hw.1
      replace hw := hw.2
      have o23 := hw.1
      replace hw := hw.2
      obtain ⟨b24, ebb24, hw⟩ := hw
      refine rX_aalds C hM 4 (by decide) (by decide) o22 o23 ebb24 dX8_canCome_73 ?_
      refine lv_iload hx hb dX8_canCome_74 (lv_at hl 6 rfl) ?_
      have o25 := hw.1
      replace hw := hw.2
      have o26 := hw.1
      replace hw := hw.2
      refine rX_iald C hM o25 o26 dX8_canCome_76 ?_
      refine rX_goi C hM (runX_S C hM hl.1 2 (As := [.int v6, .int (hA h16 b24 v7)]) (mt_J7_max l D dA ev _ h16 v6 (hA h16 b24 v7)  _ hw) (lw_S q1362 q714 q94 q715) rfl rfl (by decide +kernel) ⟨Nat.le_of_ble_eq_true rfl, Nat.le_of_ble_eq_true rfl⟩ rfl (Nat.le_of_ble_eq_true rfl) rfl dX8_canCome_77 ⟨Nat.le_refl _, Nat.le_refl _⟩) (fun x28 h27 H locs hw hM => ?_)
      refine lv_istore (lv' := [(6, .int x28), (5, .int x17), (0, .ref a0), (1, .int v1), (2, .int v2), (4, .int v4), (7, .int v7)]) hx hb dX8_canCome_80 hl (by decide) rfl (fun ls hl => ?_)
      obtain ⟨x29, ex29⟩ : ∃ y : Int32, y = v7 + 1 := ⟨_, rfl⟩
      replace hw := hw x29 ex29
      refine lv_iinc (v := x29) (lv' := [(7, .int x29), (6, .int x28), (5, .int x17), (0, .ref a0), (1, .int v1), (2, .int v2), (4, .int v4)]) hx hb dX8_canCome_82 hl (k := 6) rfl (by rw [ex29]; rfl) (by decide) rfl (fun ls hl => ?_)
      refine lv_goto (tgt := 30) hx hb dX8_canCome_85 (by decide) ?_
      exact ih a0 v1 v2 v4 x17 x28 x29 h27 _ _ ls hw hM (lv_sub hl [3, 4, 5, 6, 2, 1, 0] rfl)
set_option maxHeartbeats 4000000 in
theorem wk_X8_canCome_5 {p : Program} {l : Launch} {e : Env} {s : State} {m : MethodId} {args : Array Value} {below : List Frame} {meth : Method} {c : Code} {D : va_G} {dA : Nat → ClassId} {ev : Nat → Nat} {h0 : Hp} {sz : Nat} (C : CxM p s m meth c args (AX dA h0 sz) "LeastSolutions$Seeker" cX8_canCome 8 (some .boolean)) {Qr : Int32 → Hp → Prop} : ∀ (n : Nat) (a0 : Nat) (v1 : Int32) (v2 : Int32) (v3 : Int32) (v4 : Int32) (h : Hp) (H : Heap) (locs : List Loc) (ls : Array Slot), wp_X8_canCome_5 ev Qr n a0 v1 v2 v3 v4 h → wX D dA ev (AX dA h0 sz) s h H locs → lv_has ls 8 [(0, .ref a0), (1, .int v1), (2, .int v2), (3, .int v3), (4, .int v4)] → W p l e rm_X8_canCome s m args below meth c H locs 0 0 (MQ below (va_Qi Qr (BX D dA (AX dA h0 sz)) (AX dA h0 sz)) args s 0 0 (AX dA h0 sz)) (F0 m 5 ls []) := by
  intro n
  induction n with
  | zero => intro a0 v1 v2 v3 v4 h H locs ls hw; exact hw.elim
  | succ n5 ih =>
    intro a0 v1 v2 v3 v4 h H locs ls hw hM hl
    have hx := C.1
    have hb := C.2.1
    have hown := C.2.2.2.2.2.1
    have hts := C.2.2.2.2.2.2.1
    unfold wp_X8_canCome_5 at hw
    refine lv_iload hx hb dX8_canCome_5 (lv_at hl 4 rfl) ?_
    refine lv_aload_n hx hb dX8_canCome_7 rfl (lv_at hl 0 rfl) ?_
    have o1 := hw.1
    replace hw := hw.2
    obtain ⟨b2, ebb2, hw⟩ := hw
    refine rX_getRs C hM 7 0 rfl in_X8 (by decide) (by decide) rfl q421 o1 ebb2 dX8_canCome_8 ?_
    have o3 := hw.1
    replace hw := hw.2
    refine rX_getIN C hM 3 0 rfl in_X4 (by decide) (by decide) rfl q268 o3 dX8_canCome_11 ?_
    refine lv_icmp_ge (tgt := 127) hx hb dX8_canCome_14 (by decide) (fun hc => ?_) (fun hc => ?_)
    · replace hw := hw.1 hc
      exact wk_X8_canCome_127 C  a0 v3 h _ _ ls hw hM (lv_sub hl [0, 3] rfl)
    · replace hw := hw.2 hc
      refine lv_iload_n hx hb dX8_canCome_17 rfl (lv_at hl 3 rfl) ?_
      refine lv_if_eq (tgt := 127) hx hb dX8_canCome_18 (by decide) (fun hc => ?_) (fun hc => ?_)
      · replace hw := hw.1 hc
        exact wk_X8_canCome_127 C  a0 v3 h _ _ ls hw hM (lv_sub hl [0, 3] rfl)
      · replace hw := hw.2 hc
        refine lv_iconst (v := 0) hx hb dX8_canCome_21 (by decide) ?_
        refine lv_istore (lv' := [(5, .int 0), (0, .ref a0), (1, .int v1), (2, .int v2), (3, .int v3), (4, .int v4)]) hx hb dX8_canCome_22 hl (by decide) rfl (fun ls hl => ?_)
        refine lv_iconst (v := 0) hx hb dX8_canCome_24 (by decide) ?_
        refine lv_istore (lv' := [(6, .int 0), (5, .int 0), (0, .ref a0), (1, .int v1), (2, .int v2), (3, .int v3), (4, .int v4)]) hx hb dX8_canCome_25 hl (by decide) rfl (fun ls hl => ?_)
        refine lv_iload_n hx hb dX8_canCome_27 rfl (lv_at hl 3 rfl) ?_
        refine lv_istore (lv' := [(7, .int v1), (6, .int 0), (5, .int 0), (0, .ref a0), (1, .int v1), (2, .int v2), (3, .int v3), (4, .int v4)]) hx hb dX8_canCome_28 hl (by decide) rfl (fun ls hl => ?_)
        obtain ⟨n30, hw⟩ := hw
        exact wk_X8_canCome_30 C ih n30 a0 v1 v2 v4 0 0 v1 h _ _ ls hw hM (lv_sub hl [3, 4, 5, 7, 2, 1, 0] rfl)
set_option maxHeartbeats 4000000 in
/-- LeastSolutions$Seeker.canCome(II)Z -/
theorem mt_X8_canCome (l : Launch) (D : va_G) (dA : Nat → ClassId) (ev : Nat → Nat) (sz : Nat) (h : Hp) (a0 : Nat) (p1 : Int32) (p2 : Int32) (Qr : Int32 → Hp → Prop) (hw : wp_X8_canCome ev h a0 p1 p2 Qr) : Met l yX8_canCome (ws_ yX8_canCome cX8_canCome 8 (some .boolean)) rm_X8_canCome (PcX D dA ev h sz [.ref a0, .int p1, .int p2]) (va_Qi Qr (BX D dA (AX dA h sz)) (AX dA h sz)) 0 0 (AX dA h sz) := by
  refine Met.ofW (cc := cX8_canCome) (maxL := 8) (ret := (some .boolean)) (by decide) rfl ?_
  intro p e s m args below meth c s₁ B hml hv
  obtain ⟨rfl, hsz, hP, hK, hD0, hE⟩ := hv
  subst hsz
  have hts0 := atoms_spec (ws := ws_ yX8_canCome cX8_canCome 8 (some .boolean)) B.pre
  have C : CxM p s m meth c _ (AX dA h s.heap.size) "LeastSolutions$Seeker" cX8_canCome 8 (some .boolean) := ⟨B.exec, B.bytes, B.returns, B.notSynchronized, hml, findClass_of_methodNamed B.named, fun w h => hts0 w (List.mem_cons_of_mem _ h), fun q h => Or.inr h⟩
  have hM : wX D dA ev (AX dA h s.heap.size) s h s.heap [] := ⟨hK, hP, hD0.self, va_S.rf, hE⟩
  have hx := C.1
  have hb := C.2.1
  have hown := C.2.2.2.2.2.1
  have hts := C.2.2.2.2.2.2.1
  have hl := lv_entry ([.ref a0, .int p1, .int p2]) (n := 8) (Nat.le_of_ble_eq_true rfl)
  rw [lg_entry_eq]
  generalize (lg_sl ([.ref a0, .int p1, .int p2]) ++ List.replicate (8 - (lg_sl ([.ref a0, .int p1, .int p2])).length) Slot.unset).toArray = ls at hl ⊢
  have hl : lv_has ls 8 [(0, .ref a0), (1, .int p1), (2, .int p2)] := hl
  unfold wp_X8_canCome at hw
  refine lv_iconst (v := 1) hx hb dX8_canCome_0 (by decide) ?_
  refine lv_istore_n (lv' := [(3, .int 1), (0, .ref a0), (1, .int p1), (2, .int p2)]) hx hb dX8_canCome_1 rfl hl (by decide) rfl (fun ls hl => ?_)
  refine lv_iconst (v := 0) hx hb dX8_canCome_2 (by decide) ?_
  refine lv_istore (lv' := [(4, .int 0), (3, .int 1), (0, .ref a0), (1, .int p1), (2, .int p2)]) hx hb dX8_canCome_3 hl (by decide) rfl (fun ls hl => ?_)
  obtain ⟨n5, hw⟩ := hw
  exact wk_X8_canCome_5 C  n5 a0 p1 p2 1 0 h _ _ ls hw hM (lv_sub hl [2, 3, 4, 1, 0] rfl)
abbrev rm_X1_type : Room := { frames := 0, cells := 0, slots := 0, locals := 0 }
set_option maxHeartbeats 4000000 in
theorem wk_X1_type_99 {p : Program} {l : Launch} {e : Env} {s : State} {m : MethodId} {args : Array Value} {below : List Frame} {meth : Method} {c : Code} {D : va_G} {dA : Nat → ClassId} {ev : Nat → Nat} {h0 : Hp} {sz : Nat} (C : CxM p s m meth c args (AX dA h0 sz) "LeastSolutions" cX1_type 8 (some .int)) {Qr : Int32 → Hp → Prop} : ∀ (n : Nat) (a0 : Nat) (v1 : Int64) (v5 : Int32) (h : Hp) (H : Heap) (locs : List Loc) (ls : Array Slot), wp_X1_type_99 ev Qr n a0 v1 v5 h → wX D dA ev (AX dA h0 sz) s h H locs → lv_has ls 8 [(0, .ref a0), (1, .long v1), (5, .int v5)] → W p l e rm_X1_type s m args below meth c H locs 0 0 (MQ below (va_Qi Qr (BX D dA (AX dA h0 sz)) (AX dA h0 sz)) args s 0 0 (AX dA h0 sz)) (F0 m 99 ls []) := by
  intro n
  induction n with
  | zero => intro a0 v1 v5 h H locs ls hw; exact hw.elim
  | succ n99 ih =>
    intro a0 v1 v5 h H locs ls hw hM hl
    have hx := C.1
    have hb := C.2.1
    have hown := C.2.2.2.2.2.1
    have hts := C.2.2.2.2.2.2.1
    unfold wp_X1_type_99 at hw
    refine lv_iload hx hb dX1_type_99 (lv_at hl 2 rfl) ?_
    refine lv_if_lt (tgt := 145) hx hb dX1_type_101 (by decide) (fun hc => ?_) (fun hc => ?_)
    · replace hw := hw.1 hc
      refine lv_aload_n hx hb dX1_type_145 rfl (lv_at hl 0 rfl) ?_
      have o1 := hw.1
      replace hw := hw.2
      obtain ⟨b2, ebb2, hw⟩ := hw
      refine rX_getRs C hM 0 0 rfl in_X1 (by decide) (by decide) rfl q463 o1 ebb2 dX1_type_146 ?_
      have o3 := hw.1
      replace hw := hw.2
      refine rX_getIN C hM 1 1 rfl in_X2 (by decide) (by decide) rfl q131 o3 dX1_type_149 ?_
      exact rX_iret C hM ⟨Nat.le_refl _, Nat.le_refl _⟩ hw dX1_type_152
    · replace hw := hw.2 hc
      refine lv_aload_n hx hb dX1_type_104 rfl (lv_at hl 0 rfl) ?_
      have o4 := hw.1
      replace hw := hw.2
      obtain ⟨b5, ebb5, hw⟩ := hw
      refine rX_getRs C hM 0 0 rfl in_X1 (by decide) (by decide) rfl q463 o4 ebb5 dX1_type_105 ?_
      have o6 := hw.1
      replace hw := hw.2
      obtain ⟨b7, ebb7, hw⟩ := hw
      refine rX_getRsN C hM 1 0 rfl in_X2 (by decide) (by decide) rfl q129 o6 ebb7 dX1_type_108 ?_
      refine lv_aload_n hx hb dX1_type_111 rfl (lv_at hl 0 rfl) ?_
      have o8 := hw.1
      replace hw := hw.2
      obtain ⟨b9, ebb9, hw⟩ := hw
      refine rX_getRs C hM 0 0 rfl in_X1 (by decide) (by decide) rfl q463 o8 ebb9 dX1_type_112 ?_
      refine lv_dup hx hb dX1_type_115 rfl ?_
      have o10 := hw.1
      replace hw := hw.2
      refine rX_getIN C hM 1 1 rfl in_X2 (by decide) (by decide) rfl q131 o10 dX1_type_116 ?_
      refine lv_topi (fun x11 ex11 => ?_)
      replace hw := hw x11 ex11
      refine lv_dup_x1 hx hb dX1_type_119 rfl rfl ?_
      refine lv_iconst (v := 1) hx hb dX1_type_120 (by decide) ?_
      refine lv_iadd hx hb dX1_type_121 ?_
      have o13 := hw.1
      replace hw := hw.2
      refine rX_putIN C hM 1 1 rfl in_X2 (by decide) (by decide) rfl rfl q131 o13 tyX2 tyX2_ok nmX2 rfl rfl rfl dX1_type_122 (fun h12 H locs eσ hM => ?_)
      replace hw := hw h12 eσ
      clear eσ
      refine lv_lload_n hx hb dX1_type_125 rfl (lv_at hl 1 rfl) ?_
      refine lv_bipush (v := 8) hx hb dX1_type_126 (by decide) ?_
      refine lv_iload hx hb dX1_type_128 (lv_at hl 2 rfl) ?_
      refine lv_imul hx hb dX1_type_130 ?_
      refine lv_lshr hx hb dX1_type_131 rfl ?_
      refine lv_ldc2 hx hb hown (hts _ q516) dX1_type_132 ?_
      refine lv_land hx hb dX1_type_135 ?_
      refine lv_l2i hx hb dX1_type_136 rfl ?_
      refine lv_i2b hx hb dX1_type_137 rfl ?_
      have o15 := hw.1
      replace hw := hw.2
      have o16 := hw.1
      replace hw := hw.2
      refine rX_bast C hM o15 o16 dX1_type_138 (fun h14 H locs eσ hM => ?_)
      replace hw := hw h14 eσ
      clear eσ
      obtain ⟨x17, ex17⟩ : ∃ y : Int32, y = v5 + (-1) := ⟨_, rfl⟩
      replace hw := hw x17 ex17
      refine lv_iinc (v := x17) (lv' := [(5, .int x17), (0, .ref a0), (1, .long v1)]) hx hb dX1_type_139 hl (k := 2) rfl (by rw [ex17]; rfl) (by decide) rfl (fun ls hl => ?_)
      refine lv_goto (tgt := 99) hx hb dX1_type_142 (by decide) ?_
      exact ih a0 v1 x17 h14 _ _ ls hw hM (lv_sub hl [1, 2, 0] rfl)
set_option maxHeartbeats 4000000 in
theorem wk_X1_type_78 {p : Program} {l : Launch} {e : Env} {s : State} {m : MethodId} {args : Array Value} {below : List Frame} {meth : Method} {c : Code} {D : va_G} {dA : Nat → ClassId} {ev : Nat → Nat} {h0 : Hp} {sz : Nat} (C : CxM p s m meth c args (AX dA h0 sz) "LeastSolutions" cX1_type 8 (some .int)) {Qr : Int32 → Hp → Prop} {K34 : Nat → Int64 → Int32 → Int32 → Int32 → Hp → Prop} (hK34 : ∀ (a0 : Nat) (v1 : Int64) (v3 : Int32) (v4 : Int32) (v5 : Int32) (h : Hp) (H : Heap) (locs : List Loc) (ls : Array Slot), K34 a0 v1 v3 v4 v5 h → wX D dA ev (AX dA h0 sz) s h H locs → lv_has ls 8 [(0, .ref a0), (1, .long v1), (3, .int v3), (4, .int v4), (5, .int v5)] → W p l e rm_X1_type s m args below meth c H locs 0 0 (MQ below (va_Qi Qr (BX D dA (AX dA h0 sz)) (AX dA h0 sz)) args s 0 0 (AX dA h0 sz)) (F0 m 34 ls [])) : ∀ (a0 : Nat) (v1 : Int64) (v3 : Int32) (v5 : Int32) (u0 : Int32) (u1 : Int32) (h : Hp) (H : Heap) (locs : List Loc) (ls : Array Slot), wp_X1_type_78 ev Qr K34 a0 v1 v3 v5 u0 u1 h → wX D dA ev (AX dA h0 sz) s h H locs → lv_has ls 8 [(0, .ref a0), (1, .long v1), (3, .int v3), (5, .int v5)] → W p l e rm_X1_type s m args below meth c H locs 0 0 (MQ below (va_Qi Qr (BX D dA (AX dA h0 sz)) (AX dA h0 sz)) args s 0 0 (AX dA h0 sz)) (F0 m 78 ls [.int u1, .int u0]) := by
  intro a0 v1 v3 v5 u0 u1 h H locs ls hw hM hl
  have hx := C.1
  have hb := C.2.1
  have hown := C.2.2.2.2.2.1
  have hts := C.2.2.2.2.2.2.1
  unfold wp_X1_type_78 at hw
  refine lv_iand hx hb dX1_type_78 ?_
  refine lv_topi (fun x1 ex1 => ?_)
  replace hw := hw x1 ex1
  refine lv_istore (lv' := [(4, .int x1), (0, .ref a0), (1, .long v1), (3, .int v3), (5, .int v5)]) hx hb dX1_type_79 hl (by decide) rfl (fun ls hl => ?_)
  obtain ⟨x2, ex2⟩ : ∃ y : Int32, y = v5 + 1 := ⟨_, rfl⟩
  replace hw := hw x2 ex2
  refine lv_iinc (v := x2) (lv' := [(5, .int x2), (4, .int x1), (0, .ref a0), (1, .long v1), (3, .int v3)]) hx hb dX1_type_81 hl (k := 4) rfl (by rw [ex2]; rfl) (by decide) rfl (fun ls hl => ?_)
  refine lv_goto (tgt := 34) hx hb dX1_type_84 (by decide) ?_
  exact hK34 a0 v1 v3 x1 x2 h _ _ ls hw hM (lv_sub hl [2, 3, 4, 1, 0] rfl)
set_option maxHeartbeats 4000000 in
theorem wk_X1_type_77 {p : Program} {l : Launch} {e : Env} {s : State} {m : MethodId} {args : Array Value} {below : List Frame} {meth : Method} {c : Code} {D : va_G} {dA : Nat → ClassId} {ev : Nat → Nat} {h0 : Hp} {sz : Nat} (C : CxM p s m meth c args (AX dA h0 sz) "LeastSolutions" cX1_type 8 (some .int)) {Qr : Int32 → Hp → Prop} {K34 : Nat → Int64 → Int32 → Int32 → Int32 → Hp → Prop} (hK34 : ∀ (a0 : Nat) (v1 : Int64) (v3 : Int32) (v4 : Int32) (v5 : Int32) (h : Hp) (H : Heap) (locs : List Loc) (ls : Array Slot), K34 a0 v1 v3 v4 v5 h → wX D dA ev (AX dA h0 sz) s h H locs → lv_has ls 8 [(0, .ref a0), (1, .long v1), (3, .int v3), (4, .int v4), (5, .int v5)] → W p l e rm_X1_type s m args below meth c H locs 0 0 (MQ below (va_Qi Qr (BX D dA (AX dA h0 sz)) (AX dA h0 sz)) args s 0 0 (AX dA h0 sz)) (F0 m 34 ls [])) : ∀ (a0 : Nat) (v1 : Int64) (v3 : Int32) (v5 : Int32) (u0 : Int32) (h : Hp) (H : Heap) (locs : List Loc) (ls : Array Slot), wp_X1_type_77 ev Qr K34 a0 v1 v3 v5 u0 h → wX D dA ev (AX dA h0 sz) s h H locs → lv_has ls 8 [(0, .ref a0), (1, .long v1), (3, .int v3), (5, .int v5)] → W p l e rm_X1_type s m args below meth c H locs 0 0 (MQ below (va_Qi Qr (BX D dA (AX dA h0 sz)) (AX dA h0 sz)) args s 0 0 (AX dA h0 sz)) (F0 m 77 ls [.int u0]) := by
  intro a0 v1 v3 v5 u0 h H locs ls hw hM hl
  have hx := C.1
  have hb := C.2.1
  have hown := C.2.2.2.2.2.1
  have hts := C.2.2.2.2.2.2.1
  unfold wp_X1_type_77 at hw
  refine lv_iconst (v := 0) hx hb dX1_type_77 (by decide) ?_
  exact wk_X1_type_78 C hK34 a0 v1 v3 v5 u0 0 h _ _ ls hw hM (lv_sub hl [0, 1, 2, 3] rfl)
set_option maxHeartbeats 4000000 in
theorem wk_X1_type_34 {p : Program} {l : Launch} {e : Env} {s : State} {m : MethodId} {args : Array Value} {below : List Frame} {meth : Method} {c : Code} {D : va_G} {dA : Nat → ClassId} {ev : Nat → Nat} {h0 : Hp} {sz : Nat} (C : CxM p s m meth c args (AX dA h0 sz) "LeastSolutions" cX1_type 8 (some .int)) {Qr : Int32 → Hp → Prop} : ∀ (n : Nat) (a0 : Nat) (v1 : Int64) (v3 : Int32) (v4 : Int32) (v5 : Int32) (h : Hp) (H : Heap) (locs : List Loc) (ls : Array Slot), wp_X1_type_34 ev Qr n a0 v1 v3 v4 v5 h → wX D dA ev (AX dA h0 sz) s h H locs → lv_has ls 8 [(0, .ref a0), (1, .long v1), (3, .int v3), (4, .int v4), (5, .int v5)] → W p l e rm_X1_type s m args below meth c H locs 0 0 (MQ below (va_Qi Qr (BX D dA (AX dA h0 sz)) (AX dA h0 sz)) args s 0 0 (AX dA h0 sz)) (F0 m 34 ls []) := by
  intro n
  induction n with
  | zero => intro a0 v1 v3 v4 v5 h H locs ls hw; exact hw.elim
  | succ n34 ih =>
    intro a0 v1 v3 v4 v5 h H locs ls hw hM hl
    have hx := C.1
    have hb := C.2.1
    have hown := C.2.2.2.2.2.1
    have hts := C.2.2.2.2.2.2.1
    unfold wp_X1_type_34 at hw
    refine lv_iload hx hb dX1_type_34 (lv_at hl 4 rfl) ?_
    refine lv_iload_n hx hb dX1_type_36 rfl (lv_at hl 2 rfl) ?_
    refine lv_icmp_ge (tgt := 87) hx hb dX1_type_37 (by decide) (fun hc => ?_) (fun hc => ?_)
    · replace hw := hw.1 hc
      refine lv_iload hx hb dX1_type_87 (lv_at hl 3 rfl) ?_
      refine lv_if_ne (tgt := 94) hx hb dX1_type_89 (by decide) (fun hc => ?_) (fun hc => ?_)
      · replace hw := hw.1 hc
        refine lv_iload_n hx hb dX1_type_94 rfl (lv_at hl 2 rfl) ?_
        refine lv_iconst (v := 1) hx hb dX1_type_95 (by decide) ?_
        refine lv_isub hx hb dX1_type_96 ?_
        refine lv_topi (fun x1 ex1 => ?_)
        replace hw := hw x1 ex1
        refine lv_istore (lv' := [(5, .int x1), (0, .ref a0), (1, .long v1), (3, .int v3), (4, .int v4)]) hx hb dX1_type_97 hl (by decide) rfl (fun ls hl => ?_)
        obtain ⟨n99, hw⟩ := hw
        exact wk_X1_type_99 C  n99 a0 v1 x1 h _ _ ls hw hM (lv_sub hl [1, 2, 0] rfl)
      · replace hw := hw.2 hc
        refine lv_iconst (v := (-1)) hx hb dX1_type_92 (by decide) ?_
        exact rX_iret C hM ⟨Nat.le_refl _, Nat.le_refl _⟩ hw dX1_type_93
    · replace hw := hw.2 hc
      refine lv_lload_n hx hb dX1_type_40 rfl (lv_at hl 1 rfl) ?_
      refine lv_bipush (v := 8) hx hb dX1_type_41 (by decide) ?_
      refine lv_iload hx hb dX1_type_43 (lv_at hl 4 rfl) ?_
      refine lv_imul hx hb dX1_type_45 ?_
      refine lv_lshr hx hb dX1_type_46 rfl ?_
      refine lv_ldc2 hx hb hown (hts _ q516) dX1_type_47 ?_
      refine lv_land hx hb dX1_type_50 ?_
      refine lv_topl (fun y2 ey2 => ?_)
      replace hw := hw y2 ey2
      refine lv_lstore (lv' := [(6, .long y2), (0, .ref a0), (1, .long v1), (3, .int v3), (4, .int v4), (5, .int v5)]) hx hb dX1_type_51 hl (by decide) rfl (fun ls hl => ?_)
      refine lv_iload hx hb dX1_type_53 (lv_at hl 4 rfl) ?_
      refine lv_lload hx hb dX1_type_55 (lv_at hl 0 rfl) ?_
      refine lv_ldc2 hx hb hown (hts _ q517) dX1_type_57 ?_
      refine W.lcmp hx hb dX1_type_60 ?_
      refine lv_if_le (tgt := 77) hx hb dX1_type_61 (by decide) (fun hc => ?_) (fun hc => ?_)
      · replace hw := hw.1 hc
        exact wk_X1_type_77 C ih a0 v1 v3 v5 v4 h _ _ ls hw hM (lv_sub hl [1, 2, 3, 5] rfl)
      · replace hw := hw.2 hc
        refine lv_lload hx hb dX1_type_64 (lv_at hl 0 rfl) ?_
        refine lv_ldc2 hx hb hown (hts _ q518) dX1_type_66 ?_
        refine W.lcmp hx hb dX1_type_69 ?_
        refine lv_if_ge (tgt := 77) hx hb dX1_type_70 (by decide) (fun hc => ?_) (fun hc => ?_)
        · replace hw := hw.1 hc
          exact wk_X1_type_77 C ih a0 v1 v3 v5 v4 h _ _ ls hw hM (lv_sub hl [1, 2, 3, 5] rfl)
        · replace hw := hw.2 hc
          refine lv_iconst (v := 1) hx hb dX1_type_73 (by decide) ?_
          refine lv_goto (tgt := 78) hx hb dX1_type_74 (by decide) ?_
          exact wk_X1_type_78 C ih a0 v1 v3 v5 v4 1 h _ _ ls hw hM (lv_sub hl [1, 2, 3, 5] rfl)
set_option maxHeartbeats 4000000 in
theorem wk_X1_type_26 {p : Program} {l : Launch} {e : Env} {s : State} {m : MethodId} {args : Array Value} {below : List Frame} {meth : Method} {c : Code} {D : va_G} {dA : Nat → ClassId} {ev : Nat → Nat} {h0 : Hp} {sz : Nat} (C : CxM p s m meth c args (AX dA h0 sz) "LeastSolutions" cX1_type 8 (some .int)) {Qr : Int32 → Hp → Prop} : ∀ (a0 : Nat) (h : Hp) (H : Heap) (locs : List Loc) (ls : Array Slot), wp_X1_type_26 ev Qr a0 h → wX D dA ev (AX dA h0 sz) s h H locs → lv_has ls 8 [(0, .ref a0)] → W p l e rm_X1_type s m args below meth c H locs 0 0 (MQ below (va_Qi Qr (BX D dA (AX dA h0 sz)) (AX dA h0 sz)) args s 0 0 (AX dA h0 sz)) (F0 m 26 ls []) := by
  intro a0 h H locs ls hw hM hl
  have hx := C.1
  have hb := C.2.1
  have hown := C.2.2.2.2.2.1
  have hts := C.2.2.2.2.2.2.1
  unfold wp_X1_type_26 at hw
  refine lv_iconst (v := (-1)) hx hb dX1_type_26 (by decide) ?_
  exact rX_iret C hM ⟨Nat.le_refl _, Nat.le_refl _⟩ hw dX1_type_27
set_option maxHeartbeats 4000000 in
/-- LeastSolutions.type(JI)I -/
theorem mt_X1_type (l : Launch) (D : va_G) (dA : Nat → ClassId) (ev : Nat → Nat) (sz : Nat) (h : Hp) (a0 : Nat) (p1 : Int64) (p3 : Int32) (Qr : Int32 → Hp → Prop) (hw : wp_X1_type ev h a0 p1 p3 Qr) : Met l yX1_type (ws_ yX1_type cX1_type 8 (some .int)) rm_X1_type (PcX D dA ev h sz [.ref a0, .long p1, .int p3]) (va_Qi Qr (BX D dA (AX dA h sz)) (AX dA h sz)) 0 0 (AX dA h sz) := by
  refine Met.ofW (cc := cX1_type) (maxL := 8) (ret := (some .int)) (by decide) rfl ?_
  intro p e s m args below meth c s₁ B hml hv
  obtain ⟨rfl, hsz, hP, hK, hD0, hE⟩ := hv
  subst hsz
  have hts0 := atoms_spec (ws := ws_ yX1_type cX1_type 8 (some .int)) B.pre
  have C : CxM p s m meth c _ (AX dA h s.heap.size) "LeastSolutions" cX1_type 8 (some .int) := ⟨B.exec, B.bytes, B.returns, B.notSynchronized, hml, findClass_of_methodNamed B.named, fun w h => hts0 w (List.mem_cons_of_mem _ h), fun q h => Or.inr h⟩
  have hM : wX D dA ev (AX dA h s.heap.size) s h s.heap [] := ⟨hK, hP, hD0.self, va_S.rf, hE⟩
  have hx := C.1
  have hb := C.2.1
  have hown := C.2.2.2.2.2.1
  have hts := C.2.2.2.2.2.2.1
  have hl := lv_entry ([.ref a0, .long p1, .int p3]) (n := 8) (Nat.le_of_ble_eq_true rfl)
  rw [lg_entry_eq]
  generalize (lg_sl ([.ref a0, .long p1, .int p3]) ++ List.replicate (8 - (lg_sl ([.ref a0, .long p1, .int p3])).length) Slot.unset).toArray = ls at hl ⊢
  have hl : lv_has ls 8 [(0, .ref a0), (1, .long p1), (3, .int p3)] := hl
  unfold wp_X1_type at hw
  refine lv_iload_n hx hb dX1_type_0 rfl (lv_at hl 2 rfl) ?_
  refine lv_iconst (v := 1) hx hb dX1_type_1 (by decide) ?_
  refine lv_icmp_lt (tgt := 26) hx hb dX1_type_2 (by decide) (fun hc => ?_) (fun hc => ?_)
  · replace hw := hw.1 hc
    exact wk_X1_type_26 C  a0 h _ _ ls hw hM (lv_sub hl [0] rfl)
  · replace hw := hw.2 hc
    refine lv_iload_n hx hb dX1_type_5 rfl (lv_at hl 2 rfl) ?_
    refine lv_bipush (v := 8) hx hb dX1_type_6 (by decide) ?_
    refine lv_icmp_gt (tgt := 26) hx hb dX1_type_8 (by decide) (fun hc => ?_) (fun hc => ?_)
    · replace hw := hw.1 hc
      exact wk_X1_type_26 C  a0 h _ _ ls hw hM (lv_sub hl [0] rfl)
    · replace hw := hw.2 hc
      refine lv_aload_n hx hb dX1_type_11 rfl (lv_at hl 0 rfl) ?_
      have o1 := hw.1
      replace hw := hw.2
      obtain ⟨b2, ebb2, hw⟩ := hw
      refine rX_getRs C hM 0 0 rfl in_X1 (by decide) (by decide) rfl q463 o1 ebb2 dX1_type_12 ?_
      have o3 := hw.1
      replace hw := hw.2
      refine rX_getIN C hM 1 1 rfl in_X2 (by decide) (by decide) rfl q131 o3 dX1_type_15 ?_
      refine lv_iload_n hx hb dX1_type_18 rfl (lv_at hl 2 rfl) ?_
      refine lv_iadd hx hb dX1_type_19 ?_
      refine lv_sipush (v := 300) hx hb dX1_type_20 (by decide) ?_
      refine lv_icmp_le (tgt := 28) hx hb dX1_type_23 (by decide) (fun hc => ?_) (fun hc => ?_)
      · replace hw := hw.1 hc
        refine lv_iconst (v := 1) hx hb dX1_type_28 (by decide) ?_
        refine lv_istore (lv' := [(4, .int 1), (0, .ref a0), (1, .long p1), (3, .int p3)]) hx hb dX1_type_29 hl (by decide) rfl (fun ls hl => ?_)
        refine lv_iconst (v := 0) hx hb dX1_type_31 (by decide) ?_
        refine lv_istore (lv' := [(5, .int 0), (4, .int 1), (0, .ref a0), (1, .long p1), (3, .int p3)]) hx hb dX1_type_32 hl (by decide) rfl (fun ls hl => ?_)
        obtain ⟨n34, hw⟩ := hw
        exact wk_X1_type_34 C  n34 a0 p1 p3 1 0 h _ _ ls hw hM (lv_sub hl [2, 3, 4, 1, 0] rfl)
      · replace hw := hw.2 hc
        exact wk_X1_type_26 C  a0 h _ _ ls hw hM (lv_sub hl [0] rfl)
abbrev rm_X1_place : Room := { frames := 0, cells := 0, slots := 0, locals := 0 }
set_option maxHeartbeats 4000000 in
/-- LeastSolutions.place()I -/
theorem mt_X1_place (l : Launch) (D : va_G) (dA : Nat → ClassId) (ev : Nat → Nat) (sz : Nat) (h : Hp) (a0 : Nat) (Qr : Int32 → Hp → Prop) (hw : wp_X1_place ev h a0 Qr) : Met l yX1_place (ws_ yX1_place cX1_place 1 (some .int)) rm_X1_place (PcX D dA ev h sz [.ref a0]) (va_Qi Qr (BX D dA (AX dA h sz)) (AX dA h sz)) 0 0 (AX dA h sz) := by
  refine Met.ofW (cc := cX1_place) (maxL := 1) (ret := (some .int)) (by decide) rfl ?_
  intro p e s m args below meth c s₁ B hml hv
  obtain ⟨rfl, hsz, hP, hK, hD0, hE⟩ := hv
  subst hsz
  have hts0 := atoms_spec (ws := ws_ yX1_place cX1_place 1 (some .int)) B.pre
  have C : CxM p s m meth c _ (AX dA h s.heap.size) "LeastSolutions" cX1_place 1 (some .int) := ⟨B.exec, B.bytes, B.returns, B.notSynchronized, hml, findClass_of_methodNamed B.named, fun w h => hts0 w (List.mem_cons_of_mem _ h), fun q h => Or.inr h⟩
  have hM : wX D dA ev (AX dA h s.heap.size) s h s.heap [] := ⟨hK, hP, hD0.self, va_S.rf, hE⟩
  have hx := C.1
  have hb := C.2.1
  have hown := C.2.2.2.2.2.1
  have hts := C.2.2.2.2.2.2.1
  have hl := lv_entry ([.ref a0]) (n := 1) (Nat.le_of_ble_eq_true rfl)
  rw [lg_entry_eq]
  generalize (lg_sl ([.ref a0]) ++ List.replicate (1 - (lg_sl ([.ref a0])).length) Slot.unset).toArray = ls at hl ⊢
  have hl : lv_has ls 1 [(0, .ref a0)] := hl
  unfold wp_X1_place at hw
  refine lv_aload_n hx hb dX1_place_0 rfl (lv_at hl 0 rfl) ?_
  have o1 := hw.1
  replace hw := hw.2
  refine rX_getI C hM 0 9 rfl in_X1 (by decide) (by decide) rfl q472 o1 dX1_place_1 ?_
  exact rX_iret C hM ⟨Nat.le_refl _, Nat.le_refl _⟩ hw dX1_place_4
abbrev rm_X1_count : Room := { frames := 0, cells := 0, slots := 0, locals := 0 }
set_option maxHeartbeats 4000000 in
/-- LeastSolutions.count(I)I -/
theorem mt_X1_count (l : Launch) (D : va_G) (dA : Nat → ClassId) (ev : Nat → Nat) (sz : Nat) (h : Hp) (a0 : Nat) (p1 : Int32) (Qr : Int32 → Hp → Prop) (hw : wp_X1_count ev h a0 p1 Qr) : Met l yX1_count (ws_ yX1_count cX1_count 2 (some .int)) rm_X1_count (PcX D dA ev h sz [.ref a0, .int p1]) (va_Qi Qr (BX D dA (AX dA h sz)) (AX dA h sz)) 0 0 (AX dA h sz) := by
  refine Met.ofW (cc := cX1_count) (maxL := 2) (ret := (some .int)) (by decide) rfl ?_
  intro p e s m args below meth c s₁ B hml hv
  obtain ⟨rfl, hsz, hP, hK, hD0, hE⟩ := hv
  subst hsz
  have hts0 := atoms_spec (ws := ws_ yX1_count cX1_count 2 (some .int)) B.pre
  have C : CxM p s m meth c _ (AX dA h s.heap.size) "LeastSolutions" cX1_count 2 (some .int) := ⟨B.exec, B.bytes, B.returns, B.notSynchronized, hml, findClass_of_methodNamed B.named, fun w h => hts0 w (List.mem_cons_of_mem _ h), fun q h => Or.inr h⟩
  have hM : wX D dA ev (AX dA h s.heap.size) s h s.heap [] := ⟨hK, hP, hD0.self, va_S.rf, hE⟩
  have hx := C.1
  have hb := C.2.1
  have hown := C.2.2.2.2.2.1
  have hts := C.2.2.2.2.2.2.1
  have hl := lv_entry ([.ref a0, .int p1]) (n := 2) (Nat.le_of_ble_eq_true rfl)
  rw [lg_entry_eq]
  generalize (lg_sl ([.ref a0, .int p1]) ++ List.replicate (2 - (lg_sl ([.ref a0, .int p1])).length) Slot.unset).toArray = ls at hl ⊢
  have hl : lv_has ls 2 [(0, .ref a0), (1, .int p1)] := hl
  unfold wp_X1_count at hw
  refine lv_aload_n hx hb dX1_count_0 rfl (lv_at hl 0 rfl) ?_
  have o1 := hw.1
  replace hw := hw.2
  refine rX_getI C hM 0 8 rfl in_X1 (by decide) (by decide) rfl q471 o1 dX1_count_1 ?_
  refine lv_if_ne (tgt := 9) hx hb dX1_count_4 (by decide) (fun hc => ?_) (fun hc => ?_)
  · replace hw := hw.1 hc
    refine lv_iload_n hx hb dX1_count_9 rfl (lv_at hl 1 rfl) ?_
    by_cases hc0 : p1 = 0
    · replace hw := hw.1 hc0
      refine lv_tableIn (tgt := 36) hx hb dX1_count_10 (by rw [hc0]; decide) (by rw [hc0]; decide) (by rw [hc0]; rfl) (by decide) ?_
      refine lv_aload_n hx hb dX1_count_36 rfl (lv_at hl 0 rfl) ?_
      have o2 := hw.1
      replace hw := hw.2
      obtain ⟨b3, ebb3, hw⟩ := hw
      refine rX_getRs C hM 0 2 rfl in_X1 (by decide) (by decide) rfl q465 o2 ebb3 dX1_count_37 ?_
      have o4 := hw.1
      replace hw := hw.2
      refine rX_getIN C hM 3 0 rfl in_X4 (by decide) (by decide) rfl q271 o4 dX1_count_40 ?_
      exact rX_iret C hM ⟨Nat.le_refl _, Nat.le_refl _⟩ hw dX1_count_43
    · replace hw := hw.2 hc0
      by_cases hc1 : p1 = 1
      · replace hw := hw.1 hc1
        refine lv_tableIn (tgt := 44) hx hb dX1_count_10 (by rw [hc1]; decide) (by rw [hc1]; decide) (by rw [hc1]; rfl) (by decide) ?_
        refine lv_aload_n hx hb dX1_count_44 rfl (lv_at hl 0 rfl) ?_
        have o5 := hw.1
        replace hw := hw.2
        obtain ⟨b6, ebb6, hw⟩ := hw
        refine rX_getRs C hM 0 2 rfl in_X1 (by decide) (by decide) rfl q465 o5 ebb6 dX1_count_45 ?_
        have o7 := hw.1
        replace hw := hw.2
        refine rX_getIN C hM 3 1 rfl in_X4 (by decide) (by decide) rfl q277 o7 dX1_count_48 ?_
        exact rX_iret C hM ⟨Nat.le_refl _, Nat.le_refl _⟩ hw dX1_count_51
      · replace hw := hw.2 hc1
        by_cases hc2 : p1 = 2
        · replace hw := hw.1 hc2
          refine lv_tableIn (tgt := 52) hx hb dX1_count_10 (by rw [hc2]; decide) (by rw [hc2]; decide) (by rw [hc2]; rfl) (by decide) ?_
          refine lv_aload_n hx hb dX1_count_52 rfl (lv_at hl 0 rfl) ?_
          have o8 := hw.1
          replace hw := hw.2
          obtain ⟨b9, ebb9, hw⟩ := hw
          refine rX_getRs C hM 0 2 rfl in_X1 (by decide) (by decide) rfl q465 o8 ebb9 dX1_count_53 ?_
          have o10 := hw.1
          replace hw := hw.2
          refine rX_getIN C hM 3 2 rfl in_X4 (by decide) (by decide) rfl q280 o10 dX1_count_56 ?_
          exact rX_iret C hM ⟨Nat.le_refl _, Nat.le_refl _⟩ hw dX1_count_59
        · replace hw := hw.2 hc2
          refine lv_tableOut (tgt := 60) hx hb dX1_count_10 (by have n0 := lv_neT hc0 (a := 0) (by decide); have n1 := lv_neT hc1 (a := 1) (by decide); have n2 := lv_neT hc2 (a := 2) (by decide); omega) (by decide) ?_
          refine lv_iconst (v := (-1)) hx hb dX1_count_60 (by decide) ?_
          exact rX_iret C hM ⟨Nat.le_refl _, Nat.le_refl _⟩ hw dX1_count_61
  · replace hw := hw.2 hc
    refine lv_iconst (v := (-1)) hx hb dX1_count_7 (by decide) ?_
    exact rX_iret C hM ⟨Nat.le_refl _, Nat.le_refl _⟩ hw dX1_count_8
abbrev rm_X1_letter : Room := { frames := 0, cells := 0, slots := 0, locals := 0 }
set_option maxHeartbeats 4000000 in
theorem wk_X1_letter_35 {p : Program} {l : Launch} {e : Env} {s : State} {m : MethodId} {args : Array Value} {below : List Frame} {meth : Method} {c : Code} {D : va_G} {dA : Nat → ClassId} {ev : Nat → Nat} {h0 : Hp} {sz : Nat} (C : CxM p s m meth c args (AX dA h0 sz) "LeastSolutions" cX1_letter 2 (some .int)) {Qr : Int32 → Hp → Prop} : ∀ (a0 : Nat) (u0 : Int32) (h : Hp) (H : Heap) (locs : List Loc) (ls : Array Slot), wp_X1_letter_35 ev Qr a0 u0 h → wX D dA ev (AX dA h0 sz) s h H locs → lv_has ls 2 [(0, .ref a0)] → W p l e rm_X1_letter s m args below meth c H locs 0 0 (MQ below (va_Qi Qr (BX D dA (AX dA h0 sz)) (AX dA h0 sz)) args s 0 0 (AX dA h0 sz)) (F0 m 35 ls [.int u0]) := by
  intro a0 u0 h H locs ls hw hM hl
  have hx := C.1
  have hb := C.2.1
  have hown := C.2.2.2.2.2.1
  have hts := C.2.2.2.2.2.2.1
  unfold wp_X1_letter_35 at hw
  exact rX_iret C hM ⟨Nat.le_refl _, Nat.le_refl _⟩ hw dX1_letter_35
set_option maxHeartbeats 4000000 in
theorem wk_X1_letter_34 {p : Program} {l : Launch} {e : Env} {s : State} {m : MethodId} {args : Array Value} {below : List Frame} {meth : Method} {c : Code} {D : va_G} {dA : Nat → ClassId} {ev : Nat → Nat} {h0 : Hp} {sz : Nat} (C : CxM p s m meth c args (AX dA h0 sz) "LeastSolutions" cX1_letter 2 (some .int)) {Qr : Int32 → Hp → Prop} : ∀ (a0 : Nat) (h : Hp) (H : Heap) (locs : List Loc) (ls : Array Slot), wp_X1_letter_34 ev Qr a0 h → wX D dA ev (AX dA h0 sz) s h H locs → lv_has ls 2 [(0, .ref a0)] → W p l e rm_X1_letter s m args below meth c H locs 0 0 (MQ below (va_Qi Qr (BX D dA (AX dA h0 sz)) (AX dA h0 sz)) args s 0 0 (AX dA h0 sz)) (F0 m 34 ls []) := by
  intro a0 h H locs ls hw hM hl
  have hx := C.1
  have hb := C.2.1
  have hown := C.2.2.2.2.2.1
  have hts := C.2.2.2.2.2.2.1
  unfold wp_X1_letter_34 at hw
  refine lv_iconst (v := (-1)) hx hb dX1_letter_34 (by decide) ?_
  exact wk_X1_letter_35 C  a0 (-1) h _ _ ls hw hM (lv_sub hl [0] rfl)
set_option maxHeartbeats 4000000 in
/-- LeastSolutions.letter(I)I -/
theorem mt_X1_letter (l : Launch) (D : va_G) (dA : Nat → ClassId) (ev : Nat → Nat) (sz : Nat) (h : Hp) (a0 : Nat) (p1 : Int32) (Qr : Int32 → Hp → Prop) (hw : wp_X1_letter ev h a0 p1 Qr) : Met l yX1_letter (ws_ yX1_letter cX1_letter 2 (some .int)) rm_X1_letter (PcX D dA ev h sz [.ref a0, .int p1]) (va_Qi Qr (BX D dA (AX dA h sz)) (AX dA h sz)) 0 0 (AX dA h sz) := by
  refine Met.ofW (cc := cX1_letter) (maxL := 2) (ret := (some .int)) (by decide) rfl ?_
  intro p e s m args below meth c s₁ B hml hv
  obtain ⟨rfl, hsz, hP, hK, hD0, hE⟩ := hv
  subst hsz
  have hts0 := atoms_spec (ws := ws_ yX1_letter cX1_letter 2 (some .int)) B.pre
  have C : CxM p s m meth c _ (AX dA h s.heap.size) "LeastSolutions" cX1_letter 2 (some .int) := ⟨B.exec, B.bytes, B.returns, B.notSynchronized, hml, findClass_of_methodNamed B.named, fun w h => hts0 w (List.mem_cons_of_mem _ h), fun q h => Or.inr h⟩
  have hM : wX D dA ev (AX dA h s.heap.size) s h s.heap [] := ⟨hK, hP, hD0.self, va_S.rf, hE⟩
  have hx := C.1
  have hb := C.2.1
  have hown := C.2.2.2.2.2.1
  have hts := C.2.2.2.2.2.2.1
  have hl := lv_entry ([.ref a0, .int p1]) (n := 2) (Nat.le_of_ble_eq_true rfl)
  rw [lg_entry_eq]
  generalize (lg_sl ([.ref a0, .int p1]) ++ List.replicate (2 - (lg_sl ([.ref a0, .int p1])).length) Slot.unset).toArray = ls at hl ⊢
  have hl : lv_has ls 2 [(0, .ref a0), (1, .int p1)] := hl
  unfold wp_X1_letter at hw
  refine lv_aload_n hx hb dX1_letter_0 rfl (lv_at hl 0 rfl) ?_
  have o1 := hw.1
  replace hw := hw.2
  refine rX_getI C hM 0 8 rfl in_X1 (by decide) (by decide) rfl q471 o1 dX1_letter_1 ?_
  refine lv_if_eq (tgt := 34) hx hb dX1_letter_4 (by decide) (fun hc => ?_) (fun hc => ?_)
  · replace hw := hw.1 hc
    exact wk_X1_letter_34 C  a0 h _ _ ls hw hM (lv_sub hl [0] rfl)
  · replace hw := hw.2 hc
    refine lv_iload_n hx hb dX1_letter_7 rfl (lv_at hl 1 rfl) ?_
    refine lv_if_lt (tgt := 34) hx hb dX1_letter_8 (by decide) (fun hc => ?_) (fun hc => ?_)
    · replace hw := hw.1 hc
      exact wk_X1_letter_34 C  a0 h _ _ ls hw hM (lv_sub hl [0] rfl)
    · replace hw := hw.2 hc
      refine lv_iload_n hx hb dX1_letter_11 rfl (lv_at hl 1 rfl) ?_
      refine lv_aload_n hx hb dX1_letter_12 rfl (lv_at hl 0 rfl) ?_
      have o2 := hw.1
      replace hw := hw.2
      obtain ⟨b3, ebb3, hw⟩ := hw
      refine rX_getRs C hM 0 2 rfl in_X1 (by decide) (by decide) rfl q465 o2 ebb3 dX1_letter_13 ?_
      have o4 := hw.1
      replace hw := hw.2
      refine rX_getIN C hM 3 2 rfl in_X4 (by decide) (by decide) rfl q280 o4 dX1_letter_16 ?_
      refine lv_icmp_ge (tgt := 34) hx hb dX1_letter_19 (by decide) (fun hc => ?_) (fun hc => ?_)
      · replace hw := hw.1 hc
        exact wk_X1_letter_34 C  a0 h _ _ ls hw hM (lv_sub hl [0] rfl)
      · replace hw := hw.2 hc
        refine lv_aload_n hx hb dX1_letter_22 rfl (lv_at hl 0 rfl) ?_
        have o5 := hw.1
        replace hw := hw.2
        obtain ⟨b6, ebb6, hw⟩ := hw
        refine rX_getRs C hM 0 2 rfl in_X1 (by decide) (by decide) rfl q465 o5 ebb6 dX1_letter_23 ?_
        have o7 := hw.1
        replace hw := hw.2
        obtain ⟨b8, ebb8, hw⟩ := hw
        refine rX_getRsN C hM 3 3 rfl in_X4 (by decide) (by decide) rfl q282 o7 ebb8 dX1_letter_26 ?_
        refine lv_iload_n hx hb dX1_letter_29 rfl (lv_at hl 1 rfl) ?_
        have o9 := hw.1
        replace hw := hw.2
        have o10 := hw.1
        replace hw := hw.2
        refine rX_iald C hM o9 o10 dX1_letter_30 ?_
        refine lv_goto (tgt := 35) hx hb dX1_letter_31 (by decide) ?_
        exact wk_X1_letter_35 C  a0 ((hA h b8 p1)) h _ _ ls hw hM (lv_sub hl [0] rfl)
abbrev rm_X1_isColumn : Room := { frames := 0, cells := 0, slots := 0, locals := 0 }
set_option maxHeartbeats 4000000 in
theorem wk_X1_isColumn_20 {p : Program} {l : Launch} {e : Env} {s : State} {m : MethodId} {args : Array Value} {below : List Frame} {meth : Method} {c : Code} {D : va_G} {dA : Nat → ClassId} {ev : Nat → Nat} {h0 : Hp} {sz : Nat} (C : CxM p s m meth c args (AX dA h0 sz) "LeastSolutions" cX1_isColumn 2 (some .boolean)) {Qr : Int32 → Hp → Prop} : ∀ (a0 : Nat) (u0 : Int32) (h : Hp) (H : Heap) (locs : List Loc) (ls : Array Slot), wp_X1_isColumn_20 ev Qr a0 u0 h → wX D dA ev (AX dA h0 sz) s h H locs → lv_has ls 2 [(0, .ref a0)] → W p l e rm_X1_isColumn s m args below meth c H locs 0 0 (MQ below (va_Qi Qr (BX D dA (AX dA h0 sz)) (AX dA h0 sz)) args s 0 0 (AX dA h0 sz)) (F0 m 20 ls [.int u0]) := by
  intro a0 u0 h H locs ls hw hM hl
  have hx := C.1
  have hb := C.2.1
  have hown := C.2.2.2.2.2.1
  have hts := C.2.2.2.2.2.2.1
  unfold wp_X1_isColumn_20 at hw
  exact rX_zret C hM ⟨Nat.le_refl _, Nat.le_refl _⟩ hw dX1_isColumn_20
set_option maxHeartbeats 4000000 in
theorem wk_X1_isColumn_19 {p : Program} {l : Launch} {e : Env} {s : State} {m : MethodId} {args : Array Value} {below : List Frame} {meth : Method} {c : Code} {D : va_G} {dA : Nat → ClassId} {ev : Nat → Nat} {h0 : Hp} {sz : Nat} (C : CxM p s m meth c args (AX dA h0 sz) "LeastSolutions" cX1_isColumn 2 (some .boolean)) {Qr : Int32 → Hp → Prop} : ∀ (a0 : Nat) (h : Hp) (H : Heap) (locs : List Loc) (ls : Array Slot), wp_X1_isColumn_19 ev Qr a0 h → wX D dA ev (AX dA h0 sz) s h H locs → lv_has ls 2 [(0, .ref a0)] → W p l e rm_X1_isColumn s m args below meth c H locs 0 0 (MQ below (va_Qi Qr (BX D dA (AX dA h0 sz)) (AX dA h0 sz)) args s 0 0 (AX dA h0 sz)) (F0 m 19 ls []) := by
  intro a0 h H locs ls hw hM hl
  have hx := C.1
  have hb := C.2.1
  have hown := C.2.2.2.2.2.1
  have hts := C.2.2.2.2.2.2.1
  unfold wp_X1_isColumn_19 at hw
  refine lv_iconst (v := 0) hx hb dX1_isColumn_19 (by decide) ?_
  exact wk_X1_isColumn_20 C  a0 0 h _ _ ls hw hM (lv_sub hl [0] rfl)
set_option maxHeartbeats 4000000 in
/-- LeastSolutions.isColumn(I)Z -/
theorem mt_X1_isColumn (l : Launch) (D : va_G) (dA : Nat → ClassId) (ev : Nat → Nat) (sz : Nat) (h : Hp) (a0 : Nat) (p1 : Int32) (Qr : Int32 → Hp → Prop) (hw : wp_X1_isColumn ev h a0 p1 Qr) : Met l yX1_isColumn (ws_ yX1_isColumn cX1_isColumn 2 (some .boolean)) rm_X1_isColumn (PcX D dA ev h sz [.ref a0, .int p1]) (va_Qi Qr (BX D dA (AX dA h sz)) (AX dA h sz)) 0 0 (AX dA h sz) := by
  refine Met.ofW (cc := cX1_isColumn) (maxL := 2) (ret := (some .boolean)) (by decide) rfl ?_
  intro p e s m args below meth c s₁ B hml hv
  obtain ⟨rfl, hsz, hP, hK, hD0, hE⟩ := hv
  subst hsz
  have hts0 := atoms_spec (ws := ws_ yX1_isColumn cX1_isColumn 2 (some .boolean)) B.pre
  have C : CxM p s m meth c _ (AX dA h s.heap.size) "LeastSolutions" cX1_isColumn 2 (some .boolean) := ⟨B.exec, B.bytes, B.returns, B.notSynchronized, hml, findClass_of_methodNamed B.named, fun w h => hts0 w (List.mem_cons_of_mem _ h), fun q h => Or.inr h⟩
  have hM : wX D dA ev (AX dA h s.heap.size) s h s.heap [] := ⟨hK, hP, hD0.self, va_S.rf, hE⟩
  have hx := C.1
  have hb := C.2.1
  have hown := C.2.2.2.2.2.1
  have hts := C.2.2.2.2.2.2.1
  have hl := lv_entry ([.ref a0, .int p1]) (n := 2) (Nat.le_of_ble_eq_true rfl)
  rw [lg_entry_eq]
  generalize (lg_sl ([.ref a0, .int p1]) ++ List.replicate (2 - (lg_sl ([.ref a0, .int p1])).length) Slot.unset).toArray = ls at hl ⊢
  have hl : lv_has ls 2 [(0, .ref a0), (1, .int p1)] := hl
  unfold wp_X1_isColumn at hw
  refine lv_iload_n hx hb dX1_isColumn_0 rfl (lv_at hl 1 rfl) ?_
  refine lv_if_lt (tgt := 19) hx hb dX1_isColumn_1 (by decide) (fun hc => ?_) (fun hc => ?_)
  · replace hw := hw.1 hc
    exact wk_X1_isColumn_19 C  a0 h _ _ ls hw hM (lv_sub hl [0] rfl)
  · replace hw := hw.2 hc
    refine lv_iload_n hx hb dX1_isColumn_4 rfl (lv_at hl 1 rfl) ?_
    refine lv_aload_n hx hb dX1_isColumn_5 rfl (lv_at hl 0 rfl) ?_
    have o1 := hw.1
    replace hw := hw.2
    obtain ⟨b2, ebb2, hw⟩ := hw
    refine rX_getRs C hM 0 2 rfl in_X1 (by decide) (by decide) rfl q465 o1 ebb2 dX1_isColumn_6 ?_
    have o3 := hw.1
    replace hw := hw.2
    refine rX_getIN C hM 3 1 rfl in_X4 (by decide) (by decide) rfl q277 o3 dX1_isColumn_9 ?_
    refine lv_icmp_ge (tgt := 19) hx hb dX1_isColumn_12 (by decide) (fun hc => ?_) (fun hc => ?_)
    · replace hw := hw.1 hc
      exact wk_X1_isColumn_19 C  a0 h _ _ ls hw hM (lv_sub hl [0] rfl)
    · replace hw := hw.2 hc
      refine lv_iconst (v := 1) hx hb dX1_isColumn_15 (by decide) ?_
      refine lv_goto (tgt := 20) hx hb dX1_isColumn_16 (by decide) ?_
      exact wk_X1_isColumn_20 C  a0 1 h _ _ ls hw hM (lv_sub hl [0] rfl)
abbrev rm_X1_times : Room := { frames := 2, cells := 0, slots := 0, locals := 40 }
set_option maxHeartbeats 4000000 in
theorem wk_X1_times_37 {p : Program} {l : Launch} {e : Env} {s : State} {m : MethodId} {args : Array Value} {below : List Frame} {meth : Method} {c : Code} {D : va_G} {dA : Nat → ClassId} {ev : Nat → Nat} {h0 : Hp} {sz : Nat} (C : CxM p s m meth c args (AX dA h0 sz) "LeastSolutions" cX1_times 2 (some .int)) {Qr : Int32 → Hp → Prop} : ∀ (a0 : Nat) (u0 : Int32) (h : Hp) (H : Heap) (locs : List Loc) (ls : Array Slot), wp_X1_times_37 ev Qr a0 u0 h → wX D dA ev (AX dA h0 sz) s h H locs → lv_has ls 2 [(0, .ref a0)] → W p l e rm_X1_times s m args below meth c H locs 0 0 (MQ below (va_Qi Qr (BX D dA (AX dA h0 sz)) (AX dA h0 sz)) args s 0 0 (AX dA h0 sz)) (F0 m 37 ls [.int u0]) := by
  intro a0 u0 h H locs ls hw hM hl
  have hx := C.1
  have hb := C.2.1
  have hown := C.2.2.2.2.2.1
  have hts := C.2.2.2.2.2.2.1
  unfold wp_X1_times_37 at hw
  exact rX_iret C hM ⟨Nat.le_refl _, Nat.le_refl _⟩ hw dX1_times_37
set_option maxHeartbeats 4000000 in
theorem wk_X1_times_36 {p : Program} {l : Launch} {e : Env} {s : State} {m : MethodId} {args : Array Value} {below : List Frame} {meth : Method} {c : Code} {D : va_G} {dA : Nat → ClassId} {ev : Nat → Nat} {h0 : Hp} {sz : Nat} (C : CxM p s m meth c args (AX dA h0 sz) "LeastSolutions" cX1_times 2 (some .int)) {Qr : Int32 → Hp → Prop} : ∀ (a0 : Nat) (h : Hp) (H : Heap) (locs : List Loc) (ls : Array Slot), wp_X1_times_36 ev Qr a0 h → wX D dA ev (AX dA h0 sz) s h H locs → lv_has ls 2 [(0, .ref a0)] → W p l e rm_X1_times s m args below meth c H locs 0 0 (MQ below (va_Qi Qr (BX D dA (AX dA h0 sz)) (AX dA h0 sz)) args s 0 0 (AX dA h0 sz)) (F0 m 36 ls []) := by
  intro a0 h H locs ls hw hM hl
  have hx := C.1
  have hb := C.2.1
  have hown := C.2.2.2.2.2.1
  have hts := C.2.2.2.2.2.2.1
  unfold wp_X1_times_36 at hw
  refine lv_iconst (v := (-1)) hx hb dX1_times_36 (by decide) ?_
  exact wk_X1_times_37 C  a0 (-1) h _ _ ls hw hM (lv_sub hl [0] rfl)
set_option maxHeartbeats 4000000 in
/-- LeastSolutions.times(I)I -/
theorem mt_X1_times (l : Launch) (D : va_G) (dA : Nat → ClassId) (ev : Nat → Nat) (sz : Nat) (h : Hp) (a0 : Nat) (p1 : Int32) (Qr : Int32 → Hp → Prop) (hw : wp_X1_times ev h a0 p1 Qr) : Met l yX1_times (ws_ yX1_times cX1_times 2 (some .int)) rm_X1_times (PcX D dA ev h sz [.ref a0, .int p1]) (va_Qi Qr (BX D dA (AX dA h sz)) (AX dA h sz)) 0 0 (AX dA h sz) := by
  refine Met.ofW (cc := cX1_times) (maxL := 2) (ret := (some .int)) (by decide) rfl ?_
  intro p e s m args below meth c s₁ B hml hv
  obtain ⟨rfl, hsz, hP, hK, hD0, hE⟩ := hv
  subst hsz
  have hts0 := atoms_spec (ws := ws_ yX1_times cX1_times 2 (some .int)) B.pre
  have C : CxM p s m meth c _ (AX dA h s.heap.size) "LeastSolutions" cX1_times 2 (some .int) := ⟨B.exec, B.bytes, B.returns, B.notSynchronized, hml, findClass_of_methodNamed B.named, fun w h => hts0 w (List.mem_cons_of_mem _ h), fun q h => Or.inr h⟩
  have hM : wX D dA ev (AX dA h s.heap.size) s h s.heap [] := ⟨hK, hP, hD0.self, va_S.rf, hE⟩
  have hx := C.1
  have hb := C.2.1
  have hown := C.2.2.2.2.2.1
  have hts := C.2.2.2.2.2.2.1
  have hl := lv_entry ([.ref a0, .int p1]) (n := 2) (Nat.le_of_ble_eq_true rfl)
  rw [lg_entry_eq]
  generalize (lg_sl ([.ref a0, .int p1]) ++ List.replicate (2 - (lg_sl ([.ref a0, .int p1])).length) Slot.unset).toArray = ls at hl ⊢
  have hl : lv_has ls 2 [(0, .ref a0), (1, .int p1)] := hl
  unfold wp_X1_times at hw
  refine lv_aload_n hx hb dX1_times_0 rfl (lv_at hl 0 rfl) ?_
  have o1 := hw.1
  replace hw := hw.2
  refine rX_getI C hM 0 12 rfl in_X1 (by decide) (by decide) rfl q475 o1 dX1_times_1 ?_
  refine lv_if_eq (tgt := 36) hx hb dX1_times_4 (by decide) (fun hc => ?_) (fun hc => ?_)
  · replace hw := hw.1 hc
    exact wk_X1_times_36 C  a0 h _ _ ls hw hM (lv_sub hl [0] rfl)
  · replace hw := hw.2 hc
    refine lv_iload_n hx hb dX1_times_7 rfl (lv_at hl 1 rfl) ?_
    refine lv_if_lt (tgt := 36) hx hb dX1_times_8 (by decide) (fun hc => ?_) (fun hc => ?_)
    · replace hw := hw.1 hc
      exact wk_X1_times_36 C  a0 h _ _ ls hw hM (lv_sub hl [0] rfl)
    · replace hw := hw.2 hc
      refine lv_iload_n hx hb dX1_times_11 rfl (lv_at hl 1 rfl) ?_
      refine lv_aload_n hx hb dX1_times_12 rfl (lv_at hl 0 rfl) ?_
      have o2 := hw.1
      replace hw := hw.2
      obtain ⟨b3, ebb3, hw⟩ := hw
      refine rX_getRs C hM 0 7 rfl in_X1 (by decide) (by decide) rfl q470 o2 ebb3 dX1_times_13 ?_
      refine lv_iconst (v := 0) hx hb dX1_times_16 (by decide) ?_
      have o4 := hw.1
      replace hw := hw.2
      have o5 := hw.1
      replace hw := hw.2
      obtain ⟨b6, ebb6, hw⟩ := hw
      refine rX_aalds C hM 7 (by decide) (by decide) o4 o5 ebb6 dX1_times_17 ?_
      have o7 := hw.1
      replace hw := hw.2
      obtain ⟨b8, ebb8, hw⟩ := hw
      refine rX_getRsN C hM 8 0 rfl in_X9 (by decide) (by decide) rfl q453 o7 ebb8 dX1_times_18 ?_
      have o11 := hw.1
      replace hw := hw.2
      refine rX_goi C hM (runX_V C hM hl.1 6 0 (As := []) rfl (by decide) o11 (mt_X7_size l D dA ev _ h b8  _ hw) (lw_V q821 q822 q823 q87 q824) rfl rfl (by decide +kernel) ⟨Nat.le_of_ble_eq_true rfl, Nat.le_of_ble_eq_true rfl⟩ rfl (Nat.le_of_ble_eq_true rfl) rfl dX1_times_21 ⟨Nat.le_refl _, Nat.le_refl _⟩) (fun x10 h9 H locs hw hM => ?_)
      refine lv_icmp_ge (tgt := 36) hx hb dX1_times_24 (by decide) (fun hc => ?_) (fun hc => ?_)
      · replace hw := hw.1 hc
        exact wk_X1_times_36 C  a0 h9 _ _ ls hw hM (lv_sub hl [0] rfl)
      · replace hw := hw.2 hc
        refine lv_aload_n hx hb dX1_times_27 rfl (lv_at hl 0 rfl) ?_
        have o12 := hw.1
        replace hw := hw.2
        obtain ⟨b13, ebb13, hw⟩ := hw
        refine rX_getRs C hM 0 11 rfl in_X1 (by decide) (by decide) rfl q474 o12 ebb13 dX1_times_28 ?_
        refine lv_iload_n hx hb dX1_times_31 rfl (lv_at hl 1 rfl) ?_
        have o14 := hw.1
        replace hw := hw.2
        have o15 := hw.1
        replace hw := hw.2
        refine rX_iald C hM o14 o15 dX1_times_32 ?_
        refine lv_goto (tgt := 37) hx hb dX1_times_33 (by decide) ?_
        exact wk_X1_times_37 C  a0 ((hA h9 b13 p1)) h9 _ _ ls hw hM (lv_sub hl [0] rfl)
abbrev rm_X1_bestAt : Room := { frames := 1, cells := 0, slots := 0, locals := 21 }
set_option maxHeartbeats 4000000 in
theorem wk_X1_bestAt_28 {p : Program} {l : Launch} {e : Env} {s : State} {m : MethodId} {args : Array Value} {below : List Frame} {meth : Method} {c : Code} {D : va_G} {dA : Nat → ClassId} {ev : Nat → Nat} {h0 : Hp} {sz : Nat} (C : CxM p s m meth c args (AX dA h0 sz) "LeastSolutions" cX1_bestAt 2 (some .int)) {Qr : Int32 → Hp → Prop} : ∀ (a0 : Nat) (u0 : Int32) (h : Hp) (H : Heap) (locs : List Loc) (ls : Array Slot), wp_X1_bestAt_28 ev Qr a0 u0 h → wX D dA ev (AX dA h0 sz) s h H locs → lv_has ls 2 [(0, .ref a0)] → W p l e rm_X1_bestAt s m args below meth c H locs 0 0 (MQ below (va_Qi Qr (BX D dA (AX dA h0 sz)) (AX dA h0 sz)) args s 0 0 (AX dA h0 sz)) (F0 m 28 ls [.int u0]) := by
  intro a0 u0 h H locs ls hw hM hl
  have hx := C.1
  have hb := C.2.1
  have hown := C.2.2.2.2.2.1
  have hts := C.2.2.2.2.2.2.1
  unfold wp_X1_bestAt_28 at hw
  exact rX_iret C hM ⟨Nat.le_refl _, Nat.le_refl _⟩ hw dX1_bestAt_28
set_option maxHeartbeats 4000000 in
theorem wk_X1_bestAt_27 {p : Program} {l : Launch} {e : Env} {s : State} {m : MethodId} {args : Array Value} {below : List Frame} {meth : Method} {c : Code} {D : va_G} {dA : Nat → ClassId} {ev : Nat → Nat} {h0 : Hp} {sz : Nat} (C : CxM p s m meth c args (AX dA h0 sz) "LeastSolutions" cX1_bestAt 2 (some .int)) {Qr : Int32 → Hp → Prop} : ∀ (a0 : Nat) (h : Hp) (H : Heap) (locs : List Loc) (ls : Array Slot), wp_X1_bestAt_27 ev Qr a0 h → wX D dA ev (AX dA h0 sz) s h H locs → lv_has ls 2 [(0, .ref a0)] → W p l e rm_X1_bestAt s m args below meth c H locs 0 0 (MQ below (va_Qi Qr (BX D dA (AX dA h0 sz)) (AX dA h0 sz)) args s 0 0 (AX dA h0 sz)) (F0 m 27 ls []) := by
  intro a0 h H locs ls hw hM hl
  have hx := C.1
  have hb := C.2.1
  have hown := C.2.2.2.2.2.1
  have hts := C.2.2.2.2.2.2.1
  unfold wp_X1_bestAt_27 at hw
  refine lv_iconst (v := (-1)) hx hb dX1_bestAt_27 (by decide) ?_
  exact wk_X1_bestAt_28 C  a0 (-1) h _ _ ls hw hM (lv_sub hl [0] rfl)
set_option maxHeartbeats 4000000 in
/-- LeastSolutions.bestAt(I)I -/
theorem mt_X1_bestAt (l : Launch) (D : va_G) (dA : Nat → ClassId) (ev : Nat → Nat) (sz : Nat) (h : Hp) (a0 : Nat) (p1 : Int32) (Qr : Int32 → Hp → Prop) (hw : wp_X1_bestAt ev h a0 p1 Qr) : Met l yX1_bestAt (ws_ yX1_bestAt cX1_bestAt 2 (some .int)) rm_X1_bestAt (PcX D dA ev h sz [.ref a0, .int p1]) (va_Qi Qr (BX D dA (AX dA h sz)) (AX dA h sz)) 0 0 (AX dA h sz) := by
  refine Met.ofW (cc := cX1_bestAt) (maxL := 2) (ret := (some .int)) (by decide) rfl ?_
  intro p e s m args below meth c s₁ B hml hv
  obtain ⟨rfl, hsz, hP, hK, hD0, hE⟩ := hv
  subst hsz
  have hts0 := atoms_spec (ws := ws_ yX1_bestAt cX1_bestAt 2 (some .int)) B.pre
  have C : CxM p s m meth c _ (AX dA h s.heap.size) "LeastSolutions" cX1_bestAt 2 (some .int) := ⟨B.exec, B.bytes, B.returns, B.notSynchronized, hml, findClass_of_methodNamed B.named, fun w h => hts0 w (List.mem_cons_of_mem _ h), fun q h => Or.inr h⟩
  have hM : wX D dA ev (AX dA h s.heap.size) s h s.heap [] := ⟨hK, hP, hD0.self, va_S.rf, hE⟩
  have hx := C.1
  have hb := C.2.1
  have hown := C.2.2.2.2.2.1
  have hts := C.2.2.2.2.2.2.1
  have hl := lv_entry ([.ref a0, .int p1]) (n := 2) (Nat.le_of_ble_eq_true rfl)
  rw [lg_entry_eq]
  generalize (lg_sl ([.ref a0, .int p1]) ++ List.replicate (2 - (lg_sl ([.ref a0, .int p1])).length) Slot.unset).toArray = ls at hl ⊢
  have hl : lv_has ls 2 [(0, .ref a0), (1, .int p1)] := hl
  unfold wp_X1_bestAt at hw
  refine lv_aload_n hx hb dX1_bestAt_0 rfl (lv_at hl 0 rfl) ?_
  have o1 := hw.1
  replace hw := hw.2
  refine rX_getI C hM 0 13 rfl in_X1 (by decide) (by decide) rfl q476 o1 dX1_bestAt_1 ?_
  refine lv_if_eq (tgt := 27) hx hb dX1_bestAt_4 (by decide) (fun hc => ?_) (fun hc => ?_)
  · replace hw := hw.1 hc
    exact wk_X1_bestAt_27 C  a0 h _ _ ls hw hM (lv_sub hl [0] rfl)
  · replace hw := hw.2 hc
    refine lv_aload_n hx hb dX1_bestAt_7 rfl (lv_at hl 0 rfl) ?_
    refine lv_iload_n hx hb dX1_bestAt_8 rfl (lv_at hl 1 rfl) ?_
    have o4 := hw.1
    replace hw := hw.2
    refine rX_goi C hM (runX_V C hM hl.1 0 1 (As := [.int p1]) rfl (by decide) o4 (mt_X1_isColumn l D dA ev _ h a0 p1  _ hw) (lw_V q833 q835 qs26 q75 q836) rfl rfl (by decide +kernel) ⟨Nat.le_of_ble_eq_true rfl, Nat.le_of_ble_eq_true rfl⟩ rfl (Nat.le_of_ble_eq_true rfl) rfl dX1_bestAt_9 ⟨Nat.le_refl _, Nat.le_refl _⟩) (fun x3 h2 H locs hw hM => ?_)
    refine lv_if_eq (tgt := 27) hx hb dX1_bestAt_12 (by decide) (fun hc => ?_) (fun hc => ?_)
    · replace hw := hw.1 hc
      exact wk_X1_bestAt_27 C  a0 h2 _ _ ls hw hM (lv_sub hl [0] rfl)
    · replace hw := hw.2 hc
      refine lv_aload_n hx hb dX1_bestAt_15 rfl (lv_at hl 0 rfl) ?_
      have o5 := hw.1
      replace hw := hw.2
      obtain ⟨b6, ebb6, hw⟩ := hw
      refine rX_getRs C hM 0 6 rfl in_X1 (by decide) (by decide) rfl q469 o5 ebb6 dX1_bestAt_16 ?_
      have o7 := hw.1
      replace hw := hw.2
      obtain ⟨b8, ebb8, hw⟩ := hw
      refine rX_getRsN C hM 7 3 rfl in_X8 (by decide) (by decide) rfl q426 o7 ebb8 dX1_bestAt_19 ?_
      refine lv_iload_n hx hb dX1_bestAt_22 rfl (lv_at hl 1 rfl) ?_
      have o9 := hw.1
      replace hw := hw.2
      have o10 := hw.1
      replace hw := hw.2
      refine rX_iald C hM o9 o10 dX1_bestAt_23 ?_
      refine lv_goto (tgt := 28) hx hb dX1_bestAt_24 (by decide) ?_
      exact wk_X1_bestAt_28 C  a0 ((hA h2 b8 p1)) h2 _ _ ls hw hM (lv_sub hl [0] rfl)
abbrev rm_X1_belongs : Room := { frames := 0, cells := 0, slots := 0, locals := 0 }
set_option maxHeartbeats 4000000 in
theorem wk_X1_belongs_68 {p : Program} {l : Launch} {e : Env} {s : State} {m : MethodId} {args : Array Value} {below : List Frame} {meth : Method} {c : Code} {D : va_G} {dA : Nat → ClassId} {ev : Nat → Nat} {h0 : Hp} {sz : Nat} (C : CxM p s m meth c args (AX dA h0 sz) "LeastSolutions" cX1_belongs 6 (some .boolean)) {Qr : Int32 → Hp → Prop} {K7 : Nat → Int32 → Int32 → Int32 → Int32 → Hp → Prop} (hK7 : ∀ (v0 : Nat) (v1 : Int32) (v2 : Int32) (v3 : Int32) (v4 : Int32) (h : Hp) (H : Heap) (locs : List Loc) (ls : Array Slot), K7 v0 v1 v2 v3 v4 h → wX D dA ev (AX dA h0 sz) s h H locs → lv_has ls 6 [(0, .ref v0), (1, .int v1), (2, .int v2), (3, .int v3), (4, .int v4)] → W p l e rm_X1_belongs s m args below meth c H locs 0 0 (MQ below (va_Qi Qr (BX D dA (AX dA h0 sz)) (AX dA h0 sz)) args s 0 0 (AX dA h0 sz)) (F0 m 7 ls [])) : ∀ (v0 : Nat) (v1 : Int32) (v2 : Int32) (v4 : Int32) (u0 : Int32) (u1 : Int32) (h : Hp) (H : Heap) (locs : List Loc) (ls : Array Slot), wp_X1_belongs_68 ev Qr K7 v0 v1 v2 v4 u0 u1 h → wX D dA ev (AX dA h0 sz) s h H locs → lv_has ls 6 [(0, .ref v0), (1, .int v1), (2, .int v2), (4, .int v4)] → W p l e rm_X1_belongs s m args below meth c H locs 0 0 (MQ below (va_Qi Qr (BX D dA (AX dA h0 sz)) (AX dA h0 sz)) args s 0 0 (AX dA h0 sz)) (F0 m 68 ls [.int u1, .int u0]) := by
  intro v0 v1 v2 v4 u0 u1 h H locs ls hw hM hl
  have hx := C.1
  have hb := C.2.1
  have hown := C.2.2.2.2.2.1
  have hts := C.2.2.2.2.2.2.1
  unfold wp_X1_belongs_68 at hw
  refine lv_iand hx hb dX1_belongs_68 ?_
  refine lv_topi (fun x1 ex1 => ?_)
  replace hw := hw x1 ex1
  refine lv_istore_n (lv' := [(3, .int x1), (0, .ref v0), (1, .int v1), (2, .int v2), (4, .int v4)]) hx hb dX1_belongs_69 rfl hl (by decide) rfl (fun ls hl => ?_)
  obtain ⟨x2, ex2⟩ : ∃ y : Int32, y = v4 + 1 := ⟨_, rfl⟩
  replace hw := hw x2 ex2
  refine lv_iinc (v := x2) (lv' := [(4, .int x2), (3, .int x1), (0, .ref v0), (1, .int v1), (2, .int v2)]) hx hb dX1_belongs_70 hl (k := 4) rfl (by rw [ex2]; rfl) (by decide) rfl (fun ls hl => ?_)
  refine lv_goto (tgt := 7) hx hb dX1_belongs_73 (by decide) ?_
  exact hK7 v0 v1 v2 x1 x2 h _ _ ls hw hM (lv_sub hl [2, 3, 4, 1, 0] rfl)
set_option maxHeartbeats 4000000 in
theorem wk_X1_belongs_53 {p : Program} {l : Launch} {e : Env} {s : State} {m : MethodId} {args : Array Value} {below : List Frame} {meth : Method} {c : Code} {D : va_G} {dA : Nat → ClassId} {ev : Nat → Nat} {h0 : Hp} {sz : Nat} (C : CxM p s m meth c args (AX dA h0 sz) "LeastSolutions" cX1_belongs 6 (some .boolean)) {Qr : Int32 → Hp → Prop} {K7 : Nat → Int32 → Int32 → Int32 → Int32 → Hp → Prop} (hK7 : ∀ (v0 : Nat) (v1 : Int32) (v2 : Int32) (v3 : Int32) (v4 : Int32) (h : Hp) (H : Heap) (locs : List Loc) (ls : Array Slot), K7 v0 v1 v2 v3 v4 h → wX D dA ev (AX dA h0 sz) s h H locs → lv_has ls 6 [(0, .ref v0), (1, .int v1), (2, .int v2), (3, .int v3), (4, .int v4)] → W p l e rm_X1_belongs s m args below meth c H locs 0 0 (MQ below (va_Qi Qr (BX D dA (AX dA h0 sz)) (AX dA h0 sz)) args s 0 0 (AX dA h0 sz)) (F0 m 7 ls [])) : ∀ (v0 : Nat) (v1 : Int32) (v3 : Int32) (v4 : Int32) (u0 : Int32) (u1 : Int32) (h : Hp) (H : Heap) (locs : List Loc) (ls : Array Slot), wp_X1_belongs_53 ev Qr K7 v0 v1 v3 v4 u0 u1 h → wX D dA ev (AX dA h0 sz) s h H locs → lv_has ls 6 [(0, .ref v0), (1, .int v1), (3, .int v3), (4, .int v4)] → W p l e rm_X1_belongs s m args below meth c H locs 0 0 (MQ below (va_Qi Qr (BX D dA (AX dA h0 sz)) (AX dA h0 sz)) args s 0 0 (AX dA h0 sz)) (F0 m 53 ls [.int u1, .int u0]) := by
  intro v0 v1 v3 v4 u0 u1 h H locs ls hw hM hl
  have hx := C.1
  have hb := C.2.1
  have hown := C.2.2.2.2.2.1
  have hts := C.2.2.2.2.2.2.1
  unfold wp_X1_belongs_53 at hw
  refine lv_iand hx hb dX1_belongs_53 ?_
  refine lv_topi (fun x1 ex1 => ?_)
  replace hw := hw x1 ex1
  refine lv_istore_n (lv' := [(2, .int x1), (0, .ref v0), (1, .int v1), (3, .int v3), (4, .int v4)]) hx hb dX1_belongs_54 rfl hl (by decide) rfl (fun ls hl => ?_)
  refine lv_iload_n hx hb dX1_belongs_55 rfl (lv_at hl 3 rfl) ?_
  refine lv_aload_n hx hb dX1_belongs_56 rfl (lv_at hl 1 rfl) ?_
  refine lv_iload hx hb dX1_belongs_57 (lv_at hl 4 rfl) ?_
  have o2 := hw.1
  replace hw := hw.2
  have o3 := hw.1
  replace hw := hw.2
  refine rX_bald C hM o2 o3 dX1_belongs_59 ?_
  refine lv_if_ne (tgt := 67) hx hb dX1_belongs_60 (by decide) (fun hc => ?_) (fun hc => ?_)
  · replace hw := hw.1 hc
    refine lv_iconst (v := 0) hx hb dX1_belongs_67 (by decide) ?_
    exact wk_X1_belongs_68 C hK7 v0 v1 x1 v4 v3 0 h _ _ ls hw hM (lv_sub hl [1, 2, 0, 4] rfl)
  · replace hw := hw.2 hc
    refine lv_iconst (v := 1) hx hb dX1_belongs_63 (by decide) ?_
    refine lv_goto (tgt := 68) hx hb dX1_belongs_64 (by decide) ?_
    exact wk_X1_belongs_68 C hK7 v0 v1 x1 v4 v3 1 h _ _ ls hw hM (lv_sub hl [1, 2, 0, 4] rfl)
set_option maxHeartbeats 4000000 in
theorem wk_X1_belongs_52 {p : Program} {l : Launch} {e : Env} {s : State} {m : MethodId} {args : Array Value} {below : List Frame} {meth : Method} {c : Code} {D : va_G} {dA : Nat → ClassId} {ev : Nat → Nat} {h0 : Hp} {sz : Nat} (C : CxM p s m meth c args (AX dA h0 sz) "LeastSolutions" cX1_belongs 6 (some .boolean)) {Qr : Int32 → Hp → Prop} {K7 : Nat → Int32 → Int32 → Int32 → Int32 → Hp → Prop} (hK7 : ∀ (v0 : Nat) (v1 : Int32) (v2 : Int32) (v3 : Int32) (v4 : Int32) (h : Hp) (H : Heap) (locs : List Loc) (ls : Array Slot), K7 v0 v1 v2 v3 v4 h → wX D dA ev (AX dA h0 sz) s h H locs → lv_has ls 6 [(0, .ref v0), (1, .int v1), (2, .int v2), (3, .int v3), (4, .int v4)] → W p l e rm_X1_belongs s m args below meth c H locs 0 0 (MQ below (va_Qi Qr (BX D dA (AX dA h0 sz)) (AX dA h0 sz)) args s 0 0 (AX dA h0 sz)) (F0 m 7 ls [])) : ∀ (v0 : Nat) (v1 : Int32) (v3 : Int32) (v4 : Int32) (u0 : Int32) (h : Hp) (H : Heap) (locs : List Loc) (ls : Array Slot), wp_X1_belongs_52 ev Qr K7 v0 v1 v3 v4 u0 h → wX D dA ev (AX dA h0 sz) s h H locs → lv_has ls 6 [(0, .ref v0), (1, .int v1), (3, .int v3), (4, .int v4)] → W p l e rm_X1_belongs s m args below meth c H locs 0 0 (MQ below (va_Qi Qr (BX D dA (AX dA h0 sz)) (AX dA h0 sz)) args s 0 0 (AX dA h0 sz)) (F0 m 52 ls [.int u0]) := by
  intro v0 v1 v3 v4 u0 h H locs ls hw hM hl
  have hx := C.1
  have hb := C.2.1
  have hown := C.2.2.2.2.2.1
  have hts := C.2.2.2.2.2.2.1
  unfold wp_X1_belongs_52 at hw
  refine lv_iconst (v := 0) hx hb dX1_belongs_52 (by decide) ?_
  exact wk_X1_belongs_53 C hK7 v0 v1 v3 v4 u0 0 h _ _ ls hw hM (lv_sub hl [0, 1, 2, 3] rfl)
set_option maxHeartbeats 4000000 in
theorem wk_X1_belongs_48 {p : Program} {l : Launch} {e : Env} {s : State} {m : MethodId} {args : Array Value} {below : List Frame} {meth : Method} {c : Code} {D : va_G} {dA : Nat → ClassId} {ev : Nat → Nat} {h0 : Hp} {sz : Nat} (C : CxM p s m meth c args (AX dA h0 sz) "LeastSolutions" cX1_belongs 6 (some .boolean)) {Qr : Int32 → Hp → Prop} {K7 : Nat → Int32 → Int32 → Int32 → Int32 → Hp → Prop} (hK7 : ∀ (v0 : Nat) (v1 : Int32) (v2 : Int32) (v3 : Int32) (v4 : Int32) (h : Hp) (H : Heap) (locs : List Loc) (ls : Array Slot), K7 v0 v1 v2 v3 v4 h → wX D dA ev (AX dA h0 sz) s h H locs → lv_has ls 6 [(0, .ref v0), (1, .int v1), (2, .int v2), (3, .int v3), (4, .int v4)] → W p l e rm_X1_belongs s m args below meth c H locs 0 0 (MQ below (va_Qi Qr (BX D dA (AX dA h0 sz)) (AX dA h0 sz)) args s 0 0 (AX dA h0 sz)) (F0 m 7 ls [])) : ∀ (v0 : Nat) (v1 : Int32) (v3 : Int32) (v4 : Int32) (u0 : Int32) (h : Hp) (H : Heap) (locs : List Loc) (ls : Array Slot), wp_X1_belongs_48 ev Qr K7 v0 v1 v3 v4 u0 h → wX D dA ev (AX dA h0 sz) s h H locs → lv_has ls 6 [(0, .ref v0), (1, .int v1), (3, .int v3), (4, .int v4)] → W p l e rm_X1_belongs s m args below meth c H locs 0 0 (MQ below (va_Qi Qr (BX D dA (AX dA h0 sz)) (AX dA h0 sz)) args s 0 0 (AX dA h0 sz)) (F0 m 48 ls [.int u0]) := by
  intro v0 v1 v3 v4 u0 h H locs ls hw hM hl
  have hx := C.1
  have hb := C.2.1
  have hown := C.2.2.2.2.2.1
  have hts := C.2.2.2.2.2.2.1
  unfold wp_X1_belongs_48 at hw
  refine lv_iconst (v := 1) hx hb dX1_belongs_48 (by decide) ?_
  refine lv_goto (tgt := 53) hx hb dX1_belongs_49 (by decide) ?_
  exact wk_X1_belongs_53 C hK7 v0 v1 v3 v4 u0 1 h _ _ ls hw hM (lv_sub hl [0, 1, 2, 3] rfl)
set_option maxHeartbeats 4000000 in
theorem wk_X1_belongs_29 {p : Program} {l : Launch} {e : Env} {s : State} {m : MethodId} {args : Array Value} {below : List Frame} {meth : Method} {c : Code} {D : va_G} {dA : Nat → ClassId} {ev : Nat → Nat} {h0 : Hp} {sz : Nat} (C : CxM p s m meth c args (AX dA h0 sz) "LeastSolutions" cX1_belongs 6 (some .boolean)) {Qr : Int32 → Hp → Prop} {K7 : Nat → Int32 → Int32 → Int32 → Int32 → Hp → Prop} (hK7 : ∀ (v0 : Nat) (v1 : Int32) (v2 : Int32) (v3 : Int32) (v4 : Int32) (h : Hp) (H : Heap) (locs : List Loc) (ls : Array Slot), K7 v0 v1 v2 v3 v4 h → wX D dA ev (AX dA h0 sz) s h H locs → lv_has ls 6 [(0, .ref v0), (1, .int v1), (2, .int v2), (3, .int v3), (4, .int v4)] → W p l e rm_X1_belongs s m args below meth c H locs 0 0 (MQ below (va_Qi Qr (BX D dA (AX dA h0 sz)) (AX dA h0 sz)) args s 0 0 (AX dA h0 sz)) (F0 m 7 ls [])) : ∀ (v0 : Nat) (v1 : Int32) (v2 : Int32) (v3 : Int32) (v4 : Int32) (u0 : Int32) (h : Hp) (H : Heap) (locs : List Loc) (ls : Array Slot), wp_X1_belongs_29 ev Qr K7 v0 v1 v2 v3 v4 u0 h → wX D dA ev (AX dA h0 sz) s h H locs → lv_has ls 6 [(0, .ref v0), (1, .int v1), (2, .int v2), (3, .int v3), (4, .int v4)] → W p l e rm_X1_belongs s m args below meth c H locs 0 0 (MQ below (va_Qi Qr (BX D dA (AX dA h0 sz)) (AX dA h0 sz)) args s 0 0 (AX dA h0 sz)) (F0 m 29 ls [.int u0]) := by
  intro v0 v1 v2 v3 v4 u0 h H locs ls hw hM hl
  have hx := C.1
  have hb := C.2.1
  have hown := C.2.2.2.2.2.1
  have hts := C.2.2.2.2.2.2.1
  unfold wp_X1_belongs_29 at hw
  refine lv_istore (lv' := [(5, .int u0), (0, .ref v0), (1, .int v1), (2, .int v2), (3, .int v3), (4, .int v4)]) hx hb dX1_belongs_29 hl (by decide) rfl (fun ls hl => ?_)
  refine lv_iload_n hx hb dX1_belongs_31 rfl (lv_at hl 3 rfl) ?_
  refine lv_iload hx hb dX1_belongs_32 (lv_at hl 0 rfl) ?_
  refine lv_if_eq (tgt := 48) hx hb dX1_belongs_34 (by decide) (fun hc => ?_) (fun hc => ?_)
  · replace hw := hw.1 hc
    exact wk_X1_belongs_48 C hK7 v0 v1 v3 v4 v2 h _ _ ls hw hM (lv_sub hl [1, 2, 4, 5] rfl)
  · replace hw := hw.2 hc
    refine lv_aload_n hx hb dX1_belongs_37 rfl (lv_at hl 1 rfl) ?_
    refine lv_iload hx hb dX1_belongs_38 (lv_at hl 5 rfl) ?_
    have o1 := hw.1
    replace hw := hw.2
    have o2 := hw.1
    replace hw := hw.2
    refine rX_bald C hM o1 o2 dX1_belongs_40 ?_
    refine lv_if_eq (tgt := 52) hx hb dX1_belongs_41 (by decide) (fun hc => ?_) (fun hc => ?_)
    · replace hw := hw.1 hc
      exact wk_X1_belongs_52 C hK7 v0 v1 v3 v4 v2 h _ _ ls hw hM (lv_sub hl [1, 2, 4, 5] rfl)
    · replace hw := hw.2 hc
      refine lv_iload_n hx hb dX1_belongs_44 rfl (lv_at hl 4 rfl) ?_
      refine lv_if_ne (tgt := 52) hx hb dX1_belongs_45 (by decide) (fun hc => ?_) (fun hc => ?_)
      · replace hw := hw.1 hc
        exact wk_X1_belongs_52 C hK7 v0 v1 v3 v4 v2 h _ _ ls hw hM (lv_sub hl [1, 2, 4, 5] rfl)
      · replace hw := hw.2 hc
        exact wk_X1_belongs_48 C hK7 v0 v1 v3 v4 v2 h _ _ ls hw hM (lv_sub hl [1, 2, 4, 5] rfl)
set_option maxHeartbeats 4000000 in
theorem wk_X1_belongs_7 {p : Program} {l : Launch} {e : Env} {s : State} {m : MethodId} {args : Array Value} {below : List Frame} {meth : Method} {c : Code} {D : va_G} {dA : Nat → ClassId} {ev : Nat → Nat} {h0 : Hp} {sz : Nat} (C : CxM p s m meth c args (AX dA h0 sz) "LeastSolutions" cX1_belongs 6 (some .boolean)) {Qr : Int32 → Hp → Prop} : ∀ (n : Nat) (v0 : Nat) (v1 : Int32) (v2 : Int32) (v3 : Int32) (v4 : Int32) (h : Hp) (H : Heap) (locs : List Loc) (ls : Array Slot), wp_X1_belongs_7 ev Qr n v0 v1 v2 v3 v4 h → wX D dA ev (AX dA h0 sz) s h H locs → lv_has ls 6 [(0, .ref v0), (1, .int v1), (2, .int v2), (3, .int v3), (4, .int v4)] → W p l e rm_X1_belongs s m args below meth c H locs 0 0 (MQ below (va_Qi Qr (BX D dA (AX dA h0 sz)) (AX dA h0 sz)) args s 0 0 (AX dA h0 sz)) (F0 m 7 ls []) := by
  intro n
  induction n with
  | zero => intro v0 v1 v2 v3 v4 h H locs ls hw; exact hw.elim
  | succ n7 ih =>
    intro v0 v1 v2 v3 v4 h H locs ls hw hM hl
    have hx := C.1
    have hb := C.2.1
    have hown := C.2.2.2.2.2.1
    have hts := C.2.2.2.2.2.2.1
    unfold wp_X1_belongs_7 at hw
    refine lv_iload hx hb dX1_belongs_7 (lv_at hl 4 rfl) ?_
    refine lv_bipush (v := 6) hx hb dX1_belongs_9 (by decide) ?_
    refine lv_icmp_ge (tgt := 76) hx hb dX1_belongs_11 (by decide) (fun hc => ?_) (fun hc => ?_)
    · replace hw := hw.1 hc
      refine lv_iload_n hx hb dX1_belongs_76 rfl (lv_at hl 2 rfl) ?_
      exact rX_zret C hM ⟨Nat.le_refl _, Nat.le_refl _⟩ hw dX1_belongs_77
    · replace hw := hw.2 hc
      refine lv_iload_n hx hb dX1_belongs_14 rfl (lv_at hl 1 rfl) ?_
      refine lv_iload hx hb dX1_belongs_15 (lv_at hl 4 rfl) ?_
      refine lv_ishr hx hb dX1_belongs_17 ?_
      refine lv_iconst (v := 1) hx hb dX1_belongs_18 (by decide) ?_
      refine lv_iand hx hb dX1_belongs_19 ?_
      refine lv_iconst (v := 1) hx hb dX1_belongs_20 (by decide) ?_
      refine lv_icmp_ne (tgt := 28) hx hb dX1_belongs_21 (by decide) (fun hc => ?_) (fun hc => ?_)
      · replace hw := hw.1 hc
        refine lv_iconst (v := 0) hx hb dX1_belongs_28 (by decide) ?_
        exact wk_X1_belongs_29 C ih v0 v1 v2 v3 v4 0 h _ _ ls hw hM (lv_sub hl [0, 1, 2, 3, 4] rfl)
      · replace hw := hw.2 hc
        refine lv_iconst (v := 1) hx hb dX1_belongs_24 (by decide) ?_
        refine lv_goto (tgt := 29) hx hb dX1_belongs_25 (by decide) ?_
        exact wk_X1_belongs_29 C ih v0 v1 v2 v3 v4 1 h _ _ ls hw hM (lv_sub hl [0, 1, 2, 3, 4] rfl)
set_option maxHeartbeats 4000000 in
/-- LeastSolutions.belongs([BI)Z -/
theorem mt_X1_belongs (l : Launch) (D : va_G) (dA : Nat → ClassId) (ev : Nat → Nat) (sz : Nat) (h : Hp) (p0 : Nat) (p1 : Int32) (Qr : Int32 → Hp → Prop) (hw : wp_X1_belongs ev h p0 p1 Qr) : Met l yX1_belongs (ws_ yX1_belongs cX1_belongs 6 (some .boolean)) rm_X1_belongs (PcX D dA ev h sz [.ref p0, .int p1]) (va_Qi Qr (BX D dA (AX dA h sz)) (AX dA h sz)) 0 0 (AX dA h sz) := by
  refine Met.ofW (cc := cX1_belongs) (maxL := 6) (ret := (some .boolean)) (by decide) rfl ?_
  intro p e s m args below meth c s₁ B hml hv
  obtain ⟨rfl, hsz, hP, hK, hD0, hE⟩ := hv
  subst hsz
  have hts0 := atoms_spec (ws := ws_ yX1_belongs cX1_belongs 6 (some .boolean)) B.pre
  have C : CxM p s m meth c _ (AX dA h s.heap.size) "LeastSolutions" cX1_belongs 6 (some .boolean) := ⟨B.exec, B.bytes, B.returns, B.notSynchronized, hml, findClass_of_methodNamed B.named, fun w h => hts0 w (List.mem_cons_of_mem _ h), fun q h => Or.inr h⟩
  have hM : wX D dA ev (AX dA h s.heap.size) s h s.heap [] := ⟨hK, hP, hD0.self, va_S.rf, hE⟩
  have hx := C.1
  have hb := C.2.1
  have hown := C.2.2.2.2.2.1
  have hts := C.2.2.2.2.2.2.1
  have hl := lv_entry ([.ref p0, .int p1]) (n := 6) (Nat.le_of_ble_eq_true rfl)
  rw [lg_entry_eq]
  generalize (lg_sl ([.ref p0, .int p1]) ++ List.replicate (6 - (lg_sl ([.ref p0, .int p1])).length) Slot.unset).toArray = ls at hl ⊢
  have hl : lv_has ls 6 [(0, .ref p0), (1, .int p1)] := hl
  unfold wp_X1_belongs at hw
  refine lv_iconst (v := 1) hx hb dX1_belongs_0 (by decide) ?_
  refine lv_istore_n (lv' := [(2, .int 1), (0, .ref p0), (1, .int p1)]) hx hb dX1_belongs_1 rfl hl (by decide) rfl (fun ls hl => ?_)
  refine lv_iconst (v := 1) hx hb dX1_belongs_2 (by decide) ?_
  refine lv_istore_n (lv' := [(3, .int 1), (2, .int 1), (0, .ref p0), (1, .int p1)]) hx hb dX1_belongs_3 rfl hl (by decide) rfl (fun ls hl => ?_)
  refine lv_iconst (v := 0) hx hb dX1_belongs_4 (by decide) ?_
  refine lv_istore (lv' := [(4, .int 0), (3, .int 1), (2, .int 1), (0, .ref p0), (1, .int p1)]) hx hb dX1_belongs_5 hl (by decide) rfl (fun ls hl => ?_)
  obtain ⟨n7, hw⟩ := hw
  exact wk_X1_belongs_7 C  n7 p0 p1 1 1 0 h _ _ ls hw hM (lv_sub hl [3, 4, 2, 1, 0] rfl)
abbrev rm_X1_take : Room := { frames := 0, cells := 0, slots := 0, locals := 0 }
set_option maxHeartbeats 4000000 in
theorem wk_X1_take_2 {p : Program} {l : Launch} {e : Env} {s : State} {m : MethodId} {args : Array Value} {below : List Frame} {meth : Method} {c : Code} {D : va_G} {dA : Nat → ClassId} {ev : Nat → Nat} {h0 : Hp} {sz : Nat} (C : CxM p s m meth c args (AX dA h0 sz) "LeastSolutions" cX1_take 3 none) {Qr : Hp → Prop} : ∀ (n : Nat) (v0 : Nat) (v1 : Nat) (v2 : Int32) (h : Hp) (H : Heap) (locs : List Loc) (ls : Array Slot), wp_X1_take_2 ev Qr n v0 v1 v2 h → wX D dA ev (AX dA h0 sz) s h H locs → lv_has ls 3 [(0, .ref v0), (1, .ref v1), (2, .int v2)] → W p l e rm_X1_take s m args below meth c H locs 0 0 (MQ below (va_Qv Qr (BX D dA (AX dA h0 sz)) (AX dA h0 sz)) args s 0 0 (AX dA h0 sz)) (F0 m 2 ls []) := by
  intro n
  induction n with
  | zero => intro v0 v1 v2 h H locs ls hw; exact hw.elim
  | succ n2 ih =>
    intro v0 v1 v2 h H locs ls hw hM hl
    have hx := C.1
    have hb := C.2.1
    have hown := C.2.2.2.2.2.1
    have hts := C.2.2.2.2.2.2.1
    unfold wp_X1_take_2 at hw
    refine lv_iload_n hx hb dX1_take_2 rfl (lv_at hl 2 rfl) ?_
    refine lv_bipush (v := 6) hx hb dX1_take_3 (by decide) ?_
    refine lv_icmp_ge (tgt := 26) hx hb dX1_take_5 (by decide) (fun hc => ?_) (fun hc => ?_)
    · replace hw := hw.1 hc
      exact rX_vret C hM ⟨Nat.le_refl _, Nat.le_refl _⟩ hw dX1_take_26
    · replace hw := hw.2 hc
      refine lv_aload_n hx hb dX1_take_8 rfl (lv_at hl 1 rfl) ?_
      refine lv_iload_n hx hb dX1_take_9 rfl (lv_at hl 2 rfl) ?_
      refine lv_dup2_11 hx hb dX1_take_10 rfl rfl ?_
      have o1 := hw.1
      replace hw := hw.2
      have o2 := hw.1
      replace hw := hw.2
      refine rX_iald C hM o1 o2 dX1_take_11 ?_
      refine lv_aload_n hx hb dX1_take_12 rfl (lv_at hl 0 rfl) ?_
      have o3 := hw.1
      replace hw := hw.2
      obtain ⟨b4, ebb4, hw⟩ := hw
      refine rX_getRsN C hM 10 0 rfl in_X11 (by decide) (by decide) rfl q999 o3 ebb4 dX1_take_13 ?_
      refine lv_iload_n hx hb dX1_take_16 rfl (lv_at hl 2 rfl) ?_
      have o5 := hw.1
      replace hw := hw.2
      have o6 := hw.1
      replace hw := hw.2
      refine rX_bald C hM o5 o6 dX1_take_17 ?_
      refine lv_isub hx hb dX1_take_18 ?_
      have o8 := hw.1
      replace hw := hw.2
      have o9 := hw.1
      replace hw := hw.2
      refine rX_iast C hM o8 o9 dX1_take_19 (fun h7 H locs eσ hM => ?_)
      replace hw := hw h7 eσ
      clear eσ
      obtain ⟨x10, ex10⟩ : ∃ y : Int32, y = v2 + 1 := ⟨_, rfl⟩
      replace hw := hw x10 ex10
      refine lv_iinc (v := x10) (lv' := [(2, .int x10), (0, .ref v0), (1, .ref v1)]) hx hb dX1_take_20 hl (k := 2) rfl (by rw [ex10]; rfl) (by decide) rfl (fun ls hl => ?_)
      refine lv_goto (tgt := 2) hx hb dX1_take_23 (by decide) ?_
      exact ih v0 v1 x10 h7 _ _ ls hw hM (lv_sub hl [1, 2, 0] rfl)
set_option maxHeartbeats 4000000 in
/-- LeastSolutions.take(LLeastSolutions$Vector;[I)V -/
theorem mt_X1_take (l : Launch) (D : va_G) (dA : Nat → ClassId) (ev : Nat → Nat) (sz : Nat) (h : Hp) (p0 : Nat) (p1 : Nat) (Qr : Hp → Prop) (hw : wp_X1_take ev h p0 p1 Qr) : Met l yX1_take (ws_ yX1_take cX1_take 3 none) rm_X1_take (PcX D dA ev h sz [.ref p0, .ref p1]) (va_Qv Qr (BX D dA (AX dA h sz)) (AX dA h sz)) 0 0 (AX dA h sz) := by
  refine Met.ofW (cc := cX1_take) (maxL := 3) (ret := none) (by decide) rfl ?_
  intro p e s m args below meth c s₁ B hml hv
  obtain ⟨rfl, hsz, hP, hK, hD0, hE⟩ := hv
  subst hsz
  have hts0 := atoms_spec (ws := ws_ yX1_take cX1_take 3 none) B.pre
  have C : CxM p s m meth c _ (AX dA h s.heap.size) "LeastSolutions" cX1_take 3 none := ⟨B.exec, B.bytes, B.returns, B.notSynchronized, hml, findClass_of_methodNamed B.named, fun w h => hts0 w (List.mem_cons_of_mem _ h), fun q h => Or.inr h⟩
  have hM : wX D dA ev (AX dA h s.heap.size) s h s.heap [] := ⟨hK, hP, hD0.self, va_S.rf, hE⟩
  have hx := C.1
  have hb := C.2.1
  have hown := C.2.2.2.2.2.1
  have hts := C.2.2.2.2.2.2.1
  have hl := lv_entry ([.ref p0, .ref p1]) (n := 3) (Nat.le_of_ble_eq_true rfl)
  rw [lg_entry_eq]
  generalize (lg_sl ([.ref p0, .ref p1]) ++ List.replicate (3 - (lg_sl ([.ref p0, .ref p1])).length) Slot.unset).toArray = ls at hl ⊢
  have hl : lv_has ls 3 [(0, .ref p0), (1, .ref p1)] := hl
  unfold wp_X1_take at hw
  refine lv_iconst (v := 0) hx hb dX1_take_0 (by decide) ?_
  refine lv_istore_n (lv' := [(2, .int 0), (0, .ref p0), (1, .ref p1)]) hx hb dX1_take_1 rfl hl (by decide) rfl (fun ls hl => ?_)
  obtain ⟨n2, hw⟩ := hw
  exact wk_X1_take_2 C  n2 p0 p1 0 h _ _ ls hw hM (lv_sub hl [1, 2, 0] rfl)
