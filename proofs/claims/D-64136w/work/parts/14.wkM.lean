set_option maxRecDepth 100000
abbrev rm_thrown : Room := { frames := 0, cells := 0, slots := 0, locals := 0 }
set_option maxHeartbeats 4000000 in
/-- public int thrown(); -/
theorem mt_thrown (l : Launch) (D : va_G) (dA : Nat → ClassId) (ad : Nat → Nat) (sz : Nat) (σ : St) (Qr : Int32 → St → Prop) (hw : wp_thrown  σ Qr) : Met l yX10_thrown (ws_ yX10_thrown cX10_thrown 1 (some .int)) rm_thrown (PcM D dA ad σ sz [.ref (ad 0)]) (va_Qi Qr (BM D dA ad (AM dA ad σ sz)) (AM dA ad σ sz)) 0 0 (AM dA ad σ sz) := by
  refine Met.ofW (cc := cX10_thrown) (maxL := 1) (ret := (some .int)) (by decide) rfl ?_
  intro p e s m args below meth c s₁ B hml hv
  obtain ⟨rfl, hsz, hP, hK, hD0⟩ := hv
  subst hsz
  have hts0 := atoms_spec (ws := ws_ yX10_thrown cX10_thrown 1 (some .int)) B.pre
  have C : CxM p s m meth c _ (AM dA ad σ s.heap.size) RX10 cX10_thrown 1 (some .int) := ⟨B.exec, B.bytes, B.returns, B.notSynchronized, hml, findClass_of_methodNamed B.named, fun w h => hts0 w (List.mem_cons_of_mem _ h), fun q h => Or.inr h⟩
  have hM : wM D dA ad (AM dA ad σ s.heap.size) s σ s.heap [] := ⟨hK, hP, hD0.self, va_S.rf⟩
  have hx := C.1
  have hb := C.2.1
  have hown := C.2.2.2.2.2.1
  have hts := C.2.2.2.2.2.2.1
  have hl := lv_entry ([.ref (ad 0)]) (n := 1) (Nat.le_of_ble_eq_true rfl)
  rw [lg_entry_eq]
  generalize (lg_sl ([.ref (ad 0)]) ++ List.replicate (1 - (lg_sl ([.ref (ad 0)])).length) Slot.unset).toArray = ls at hl ⊢
  have hl : lv_has ls 1 [(0, .ref (ad 0))] := hl
  unfold wp_thrown at hw
  refine lv_aload_n hx hb dX10_thrown_0 rfl (lv_at hl 0 rfl) ?_
  refine rM_get C hM 0 (by decide) (fM_0 ad σ) q1390 rfl dX10_thrown_1 ?_
  exact rM_iret C hM hw dX10_thrown_4
abbrev rm_type : Room := { frames := 0, cells := 0, slots := 0, locals := 0 }
set_option maxHeartbeats 4000000 in
theorem wk_type_105 {p : Program} {l : Launch} {e : Env} {s : State} {m : MethodId} {args : Array Value} {below : List Frame} {meth : Method} {c : Code} {D : va_G} {dA : Nat → ClassId} {ad : Nat → Nat} {σ0 : St} {sz : Nat} (C : CxM p s m meth c args (AM dA ad σ0 sz) RX10 cX10_type 8 (some .int)) {Qr : Int32 → St → Prop} : ∀ (n : Nat) (v1 : Int64) (v5 : Int32) (σ : St) (H : Heap) (locs : List Loc) (ls : Array Slot), wp_type_105 Qr n v1 v5 σ → wM D dA ad (AM dA ad σ0 sz) s σ H locs → lv_has ls 8 [(0, .ref (ad 0)), (1, .long v1), (5, .int v5)] → W p l e rm_type s m args below meth c H locs 0 0 (MQ below (va_Qi Qr (BM D dA ad (AM dA ad σ0 sz)) (AM dA ad σ0 sz)) args s 0 0 (AM dA ad σ0 sz)) (F0 m 105 ls []) := by
  intro n
  induction n with
  | zero => intro v1 v5 σ H locs ls hw; exact hw.elim
  | succ n105 ih =>
    intro v1 v5 σ H locs ls hw hM hl
    have hx := C.1
    have hb := C.2.1
    have hown := C.2.2.2.2.2.1
    have hts := C.2.2.2.2.2.2.1
    unfold wp_type_105 at hw
    refine lv_iload hx hb dX10_type_105 (lv_at hl 2 rfl) ?_
    refine lv_if_lt (tgt := 147) hx hb dX10_type_107 (by decide) (fun hc => ?_) (fun hc => ?_)
    · have hw := hw.1 hc
      refine lv_aload_n hx hb dX10_type_147 rfl (lv_at hl 0 rfl) ?_
      refine rM_get C hM 2 (by decide) (fM_2 ad σ) q1392 rfl dX10_type_148 ?_
      exact rM_iret C hM hw dX10_type_151
    · have hw := hw.2 hc
      refine lv_aload_n hx hb dX10_type_110 rfl (lv_at hl 0 rfl) ?_
      refine rM_get C hM 1 (by decide) (fM_1 ad σ) q1391 rfl dX10_type_111 ?_
      refine lv_aload_n hx hb dX10_type_114 rfl (lv_at hl 0 rfl) ?_
      refine rM_get C hM 2 (by decide) (fM_2 ad σ) q1392 rfl dX10_type_115 ?_
      refine lv_lload_n hx hb dX10_type_118 rfl (lv_at hl 1 rfl) ?_
      refine lv_bipush (v := 8) hx hb dX10_type_119 (by decide) ?_
      refine lv_iload hx hb dX10_type_121 (lv_at hl 2 rfl) ?_
      refine lv_imul hx hb dX10_type_123 ?_
      refine lv_lshr hx hb dX10_type_124 rfl ?_
      refine lv_ldc2 hx hb hown (hts _ q1508) dX10_type_125 ?_
      refine lv_land hx hb dX10_type_128 ?_
      refine lv_l2i hx hb dX10_type_129 rfl ?_
      refine rM_iast C hM 1 1 (wM_1 dA ad σ) (wM_s1 dA ad σ _ _) hw.1 dX10_type_130 (fun σ1 H locs eσ hM => ?_)
      have hw := hw.2 σ1 eσ
      clear eσ
      refine lv_aload_n hx hb dX10_type_131 rfl (lv_at hl 0 rfl) ?_
      refine lv_dup hx hb dX10_type_132 rfl ?_
      refine rM_get C hM 2 (by decide) (fM_2 ad σ1) q1392 rfl dX10_type_133 ?_
      refine lv_iconst (v := 1) hx hb dX10_type_136 (by decide) ?_
      refine lv_iadd hx hb dX10_type_137 ?_
      refine rM_putI C hM 2 (by decide) (fM_s2 dA ad σ1 _) q1392 rfl rfl (tyX10_ok 2 (by decide)) rfl rfl dX10_type_138 (fun σ2 H locs eσ hM => ?_)
      have hw := hw σ2 eσ
      clear eσ
      obtain ⟨x3, ex3⟩ : ∃ y : Int32, y = v5 + (-1) := ⟨_, rfl⟩
      have hw := hw x3 ex3
      refine lv_iinc (v := x3) (lv' := [(5, .int x3), (0, .ref (ad 0)), (1, .long v1)]) hx hb dX10_type_141 hl (k := 2) rfl (by rw [ex3]; rfl) (by decide) rfl (fun ls hl => ?_)
      refine lv_goto (tgt := 105) hx hb dX10_type_144 (by decide) ?_
      exact ih v1 x3 σ2 _ _ ls hw hM (lv_sub hl [1, 2, 0] rfl)
set_option maxHeartbeats 4000000 in
theorem wk_type_93 {p : Program} {l : Launch} {e : Env} {s : State} {m : MethodId} {args : Array Value} {below : List Frame} {meth : Method} {c : Code} {D : va_G} {dA : Nat → ClassId} {ad : Nat → Nat} {σ0 : St} {sz : Nat} (C : CxM p s m meth c args (AM dA ad σ0 sz) RX10 cX10_type 8 (some .int)) {Qr : Int32 → St → Prop} : ∀ (v1 : Int64) (v3 : Int32) (v4 : Int32) (σ : St) (H : Heap) (locs : List Loc) (ls : Array Slot), wp_type_93 Qr v1 v3 v4 σ → wM D dA ad (AM dA ad σ0 sz) s σ H locs → lv_has ls 8 [(0, .ref (ad 0)), (1, .long v1), (3, .int v3), (4, .int v4)] → W p l e rm_type s m args below meth c H locs 0 0 (MQ below (va_Qi Qr (BM D dA ad (AM dA ad σ0 sz)) (AM dA ad σ0 sz)) args s 0 0 (AM dA ad σ0 sz)) (F0 m 93 ls []) := by
  intro v1 v3 v4 σ H locs ls hw hM hl
  have hx := C.1
  have hb := C.2.1
  have hown := C.2.2.2.2.2.1
  have hts := C.2.2.2.2.2.2.1
  unfold wp_type_93 at hw
  refine lv_iload hx hb dX10_type_93 (lv_at hl 3 rfl) ?_
  refine lv_if_ne (tgt := 100) hx hb dX10_type_95 (by decide) (fun hc => ?_) (fun hc => ?_)
  · have hw := hw.1 hc
    refine lv_iload_n hx hb dX10_type_100 rfl (lv_at hl 2 rfl) ?_
    refine lv_iconst (v := 1) hx hb dX10_type_101 (by decide) ?_
    refine lv_isub hx hb dX10_type_102 ?_
    refine lv_topi (fun x1 ex1 => ?_)
    have hw := hw x1 ex1
    refine lv_istore (lv' := [(5, .int x1), (0, .ref (ad 0)), (1, .long v1), (3, .int v3), (4, .int v4)]) hx hb dX10_type_103 hl (by decide) rfl (fun ls hl => ?_)
    obtain ⟨n105, hw⟩ := hw
    exact wk_type_105 C  n105 v1 x1 σ _ _ ls hw hM (lv_sub hl [1, 2, 0] rfl)
  · have hw := hw.2 hc
    refine lv_iconst (v := (-1)) hx hb dX10_type_98 (by decide) ?_
    exact rM_iret C hM hw dX10_type_99
set_option maxHeartbeats 4000000 in
theorem wk_type_85 {p : Program} {l : Launch} {e : Env} {s : State} {m : MethodId} {args : Array Value} {below : List Frame} {meth : Method} {c : Code} {D : va_G} {dA : Nat → ClassId} {ad : Nat → Nat} {σ0 : St} {sz : Nat} (C : CxM p s m meth c args (AM dA ad σ0 sz) RX10 cX10_type 8 (some .int)) {Qr : Int32 → St → Prop} {K38 : Int64 → Int32 → Int32 → Int32 → St → Prop} (hK38 : ∀ (v1 : Int64) (v3 : Int32) (v4 : Int32) (v5 : Int32) (σ : St) (H : Heap) (locs : List Loc) (ls : Array Slot), K38 v1 v3 v4 v5 σ → wM D dA ad (AM dA ad σ0 sz) s σ H locs → lv_has ls 8 [(0, .ref (ad 0)), (1, .long v1), (3, .int v3), (4, .int v4), (5, .int v5)] → W p l e rm_type s m args below meth c H locs 0 0 (MQ below (va_Qi Qr (BM D dA ad (AM dA ad σ0 sz)) (AM dA ad σ0 sz)) args s 0 0 (AM dA ad σ0 sz)) (F0 m 38 ls [])) : ∀ (v1 : Int64) (v3 : Int32) (v5 : Int32) (u0 : Int32) (σ : St) (H : Heap) (locs : List Loc) (ls : Array Slot), wp_type_85 Qr K38 v1 v3 v5 u0 σ → wM D dA ad (AM dA ad σ0 sz) s σ H locs → lv_has ls 8 [(0, .ref (ad 0)), (1, .long v1), (3, .int v3), (5, .int v5)] → W p l e rm_type s m args below meth c H locs 0 0 (MQ below (va_Qi Qr (BM D dA ad (AM dA ad σ0 sz)) (AM dA ad σ0 sz)) args s 0 0 (AM dA ad σ0 sz)) (F0 m 85 ls [.int u0]) := by
  intro v1 v3 v5 u0 σ H locs ls hw hM hl
  have hx := C.1
  have hb := C.2.1
  have hown := C.2.2.2.2.2.1
  have hts := C.2.2.2.2.2.2.1
  unfold wp_type_85 at hw
  refine lv_istore (lv' := [(4, .int u0), (0, .ref (ad 0)), (1, .long v1), (3, .int v3), (5, .int v5)]) hx hb dX10_type_85 hl (by decide) rfl (fun ls hl => ?_)
  obtain ⟨x1, ex1⟩ : ∃ y : Int32, y = v5 + 1 := ⟨_, rfl⟩
  have hw := hw x1 ex1
  refine lv_iinc (v := x1) (lv' := [(5, .int x1), (4, .int u0), (0, .ref (ad 0)), (1, .long v1), (3, .int v3)]) hx hb dX10_type_87 hl (k := 4) rfl (by rw [ex1]; rfl) (by decide) rfl (fun ls hl => ?_)
  refine lv_goto (tgt := 38) hx hb dX10_type_90 (by decide) ?_
  exact hK38 v1 v3 u0 x1 σ _ _ ls hw hM (lv_sub hl [2, 3, 4, 1, 0] rfl)
set_option maxHeartbeats 4000000 in
theorem wk_type_84 {p : Program} {l : Launch} {e : Env} {s : State} {m : MethodId} {args : Array Value} {below : List Frame} {meth : Method} {c : Code} {D : va_G} {dA : Nat → ClassId} {ad : Nat → Nat} {σ0 : St} {sz : Nat} (C : CxM p s m meth c args (AM dA ad σ0 sz) RX10 cX10_type 8 (some .int)) {Qr : Int32 → St → Prop} {K38 : Int64 → Int32 → Int32 → Int32 → St → Prop} (hK38 : ∀ (v1 : Int64) (v3 : Int32) (v4 : Int32) (v5 : Int32) (σ : St) (H : Heap) (locs : List Loc) (ls : Array Slot), K38 v1 v3 v4 v5 σ → wM D dA ad (AM dA ad σ0 sz) s σ H locs → lv_has ls 8 [(0, .ref (ad 0)), (1, .long v1), (3, .int v3), (4, .int v4), (5, .int v5)] → W p l e rm_type s m args below meth c H locs 0 0 (MQ below (va_Qi Qr (BM D dA ad (AM dA ad σ0 sz)) (AM dA ad σ0 sz)) args s 0 0 (AM dA ad σ0 sz)) (F0 m 38 ls [])) : ∀ (v1 : Int64) (v3 : Int32) (v5 : Int32) (σ : St) (H : Heap) (locs : List Loc) (ls : Array Slot), wp_type_84 Qr K38 v1 v3 v5 σ → wM D dA ad (AM dA ad σ0 sz) s σ H locs → lv_has ls 8 [(0, .ref (ad 0)), (1, .long v1), (3, .int v3), (5, .int v5)] → W p l e rm_type s m args below meth c H locs 0 0 (MQ below (va_Qi Qr (BM D dA ad (AM dA ad σ0 sz)) (AM dA ad σ0 sz)) args s 0 0 (AM dA ad σ0 sz)) (F0 m 84 ls []) := by
  intro v1 v3 v5 σ H locs ls hw hM hl
  have hx := C.1
  have hb := C.2.1
  have hown := C.2.2.2.2.2.1
  have hts := C.2.2.2.2.2.2.1
  unfold wp_type_84 at hw
  refine lv_iconst (v := 0) hx hb dX10_type_84 (by decide) ?_
  exact wk_type_85 C hK38 v1 v3 v5 0 σ _ _ ls hw hM (lv_sub hl [0, 1, 2, 3] rfl)
set_option maxHeartbeats 4000000 in
theorem wk_type_38 {p : Program} {l : Launch} {e : Env} {s : State} {m : MethodId} {args : Array Value} {below : List Frame} {meth : Method} {c : Code} {D : va_G} {dA : Nat → ClassId} {ad : Nat → Nat} {σ0 : St} {sz : Nat} (C : CxM p s m meth c args (AM dA ad σ0 sz) RX10 cX10_type 8 (some .int)) {Qr : Int32 → St → Prop} : ∀ (n : Nat) (v1 : Int64) (v3 : Int32) (v4 : Int32) (v5 : Int32) (σ : St) (H : Heap) (locs : List Loc) (ls : Array Slot), wp_type_38 Qr n v1 v3 v4 v5 σ → wM D dA ad (AM dA ad σ0 sz) s σ H locs → lv_has ls 8 [(0, .ref (ad 0)), (1, .long v1), (3, .int v3), (4, .int v4), (5, .int v5)] → W p l e rm_type s m args below meth c H locs 0 0 (MQ below (va_Qi Qr (BM D dA ad (AM dA ad σ0 sz)) (AM dA ad σ0 sz)) args s 0 0 (AM dA ad σ0 sz)) (F0 m 38 ls []) := by
  intro n
  induction n with
  | zero => intro v1 v3 v4 v5 σ H locs ls hw; exact hw.elim
  | succ n38 ih =>
    intro v1 v3 v4 v5 σ H locs ls hw hM hl
    have hx := C.1
    have hb := C.2.1
    have hown := C.2.2.2.2.2.1
    have hts := C.2.2.2.2.2.2.1
    unfold wp_type_38 at hw
    refine lv_iload hx hb dX10_type_38 (lv_at hl 3 rfl) ?_
    refine lv_if_eq (tgt := 93) hx hb dX10_type_40 (by decide) (fun hc => ?_) (fun hc => ?_)
    · have hw := hw.1 hc
      exact wk_type_93 C  v1 v3 v4 σ _ _ ls hw hM (lv_sub hl [0, 1, 2, 3] rfl)
    · have hw := hw.2 hc
      refine lv_iload hx hb dX10_type_43 (lv_at hl 4 rfl) ?_
      refine lv_iload_n hx hb dX10_type_45 rfl (lv_at hl 2 rfl) ?_
      refine lv_icmp_ge (tgt := 93) hx hb dX10_type_46 (by decide) (fun hc => ?_) (fun hc => ?_)
      · have hw := hw.1 hc
        exact wk_type_93 C  v1 v3 v4 σ _ _ ls hw hM (lv_sub hl [0, 1, 2, 3] rfl)
      · have hw := hw.2 hc
        refine lv_lload_n hx hb dX10_type_49 rfl (lv_at hl 1 rfl) ?_
        refine lv_bipush (v := 8) hx hb dX10_type_50 (by decide) ?_
        refine lv_iload hx hb dX10_type_52 (lv_at hl 4 rfl) ?_
        refine lv_imul hx hb dX10_type_54 ?_
        refine lv_lshr hx hb dX10_type_55 rfl ?_
        refine lv_ldc2 hx hb hown (hts _ q1508) dX10_type_56 ?_
        refine lv_land hx hb dX10_type_59 ?_
        refine lv_topl (fun y1 ey1 => ?_)
        have hw := hw y1 ey1
        refine lv_lstore (lv' := [(6, .long y1), (0, .ref (ad 0)), (1, .long v1), (3, .int v3), (4, .int v4), (5, .int v5)]) hx hb dX10_type_60 hl (by decide) rfl (fun ls hl => ?_)
        refine lv_lload hx hb dX10_type_62 (lv_at hl 0 rfl) ?_
        refine lv_ldc2 hx hb hown (hts _ q1509) dX10_type_64 ?_
        refine W.lcmp hx hb dX10_type_67 ?_
        refine lv_if_lt (tgt := 84) hx hb dX10_type_68 (by decide) (fun hc => ?_) (fun hc => ?_)
        · have hw := hw.1 hc
          exact wk_type_84 C ih v1 v3 v5 σ _ _ ls hw hM (lv_sub hl [1, 2, 3, 5] rfl)
        · have hw := hw.2 hc
          refine lv_lload hx hb dX10_type_71 (lv_at hl 0 rfl) ?_
          refine lv_ldc2 hx hb hown (hts _ q1510) dX10_type_73 ?_
          refine W.lcmp hx hb dX10_type_76 ?_
          refine lv_if_gt (tgt := 84) hx hb dX10_type_77 (by decide) (fun hc => ?_) (fun hc => ?_)
          · have hw := hw.1 hc
            exact wk_type_84 C ih v1 v3 v5 σ _ _ ls hw hM (lv_sub hl [1, 2, 3, 5] rfl)
          · have hw := hw.2 hc
            refine lv_iconst (v := 1) hx hb dX10_type_80 (by decide) ?_
            refine lv_goto (tgt := 85) hx hb dX10_type_81 (by decide) ?_
            exact wk_type_85 C ih v1 v3 v5 1 σ _ _ ls hw hM (lv_sub hl [1, 2, 3, 5] rfl)
set_option maxHeartbeats 4000000 in
theorem wk_type_33 {p : Program} {l : Launch} {e : Env} {s : State} {m : MethodId} {args : Array Value} {below : List Frame} {meth : Method} {c : Code} {D : va_G} {dA : Nat → ClassId} {ad : Nat → Nat} {σ0 : St} {sz : Nat} (C : CxM p s m meth c args (AM dA ad σ0 sz) RX10 cX10_type 8 (some .int)) {Qr : Int32 → St → Prop} : ∀ (v1 : Int64) (v3 : Int32) (u0 : Int32) (σ : St) (H : Heap) (locs : List Loc) (ls : Array Slot), wp_type_33 Qr v1 v3 u0 σ → wM D dA ad (AM dA ad σ0 sz) s σ H locs → lv_has ls 8 [(0, .ref (ad 0)), (1, .long v1), (3, .int v3)] → W p l e rm_type s m args below meth c H locs 0 0 (MQ below (va_Qi Qr (BM D dA ad (AM dA ad σ0 sz)) (AM dA ad σ0 sz)) args s 0 0 (AM dA ad σ0 sz)) (F0 m 33 ls [.int u0]) := by
  intro v1 v3 u0 σ H locs ls hw hM hl
  have hx := C.1
  have hb := C.2.1
  have hown := C.2.2.2.2.2.1
  have hts := C.2.2.2.2.2.2.1
  unfold wp_type_33 at hw
  refine lv_istore (lv' := [(4, .int u0), (0, .ref (ad 0)), (1, .long v1), (3, .int v3)]) hx hb dX10_type_33 hl (by decide) rfl (fun ls hl => ?_)
  refine lv_iconst (v := 0) hx hb dX10_type_35 (by decide) ?_
  refine lv_istore (lv' := [(5, .int 0), (4, .int u0), (0, .ref (ad 0)), (1, .long v1), (3, .int v3)]) hx hb dX10_type_36 hl (by decide) rfl (fun ls hl => ?_)
  obtain ⟨n38, hw⟩ := hw
  exact wk_type_38 C  n38 v1 v3 u0 0 σ _ _ ls hw hM (lv_sub hl [2, 3, 4, 1, 0] rfl)
set_option maxHeartbeats 4000000 in
theorem wk_type_32 {p : Program} {l : Launch} {e : Env} {s : State} {m : MethodId} {args : Array Value} {below : List Frame} {meth : Method} {c : Code} {D : va_G} {dA : Nat → ClassId} {ad : Nat → Nat} {σ0 : St} {sz : Nat} (C : CxM p s m meth c args (AM dA ad σ0 sz) RX10 cX10_type 8 (some .int)) {Qr : Int32 → St → Prop} : ∀ (v1 : Int64) (v3 : Int32) (σ : St) (H : Heap) (locs : List Loc) (ls : Array Slot), wp_type_32 Qr v1 v3 σ → wM D dA ad (AM dA ad σ0 sz) s σ H locs → lv_has ls 8 [(0, .ref (ad 0)), (1, .long v1), (3, .int v3)] → W p l e rm_type s m args below meth c H locs 0 0 (MQ below (va_Qi Qr (BM D dA ad (AM dA ad σ0 sz)) (AM dA ad σ0 sz)) args s 0 0 (AM dA ad σ0 sz)) (F0 m 32 ls []) := by
  intro v1 v3 σ H locs ls hw hM hl
  have hx := C.1
  have hb := C.2.1
  have hown := C.2.2.2.2.2.1
  have hts := C.2.2.2.2.2.2.1
  unfold wp_type_32 at hw
  refine lv_iconst (v := 0) hx hb dX10_type_32 (by decide) ?_
  exact wk_type_33 C  v1 v3 0 σ _ _ ls hw hM (lv_sub hl [0, 1, 2] rfl)
set_option maxHeartbeats 4000000 in
/-- public int type(long, int); -/
theorem mt_type (l : Launch) (D : va_G) (dA : Nat → ClassId) (ad : Nat → Nat) (sz : Nat) (σ : St) (p1 : Int64) (p3 : Int32) (Qr : Int32 → St → Prop) (hw : wp_type p1 p3 σ Qr) : Met l yX10_type (ws_ yX10_type cX10_type 8 (some .int)) rm_type (PcM D dA ad σ sz [.ref (ad 0), .long p1, .int p3]) (va_Qi Qr (BM D dA ad (AM dA ad σ sz)) (AM dA ad σ sz)) 0 0 (AM dA ad σ sz) := by
  refine Met.ofW (cc := cX10_type) (maxL := 8) (ret := (some .int)) (by decide) rfl ?_
  intro p e s m args below meth c s₁ B hml hv
  obtain ⟨rfl, hsz, hP, hK, hD0⟩ := hv
  subst hsz
  have hts0 := atoms_spec (ws := ws_ yX10_type cX10_type 8 (some .int)) B.pre
  have C : CxM p s m meth c _ (AM dA ad σ s.heap.size) RX10 cX10_type 8 (some .int) := ⟨B.exec, B.bytes, B.returns, B.notSynchronized, hml, findClass_of_methodNamed B.named, fun w h => hts0 w (List.mem_cons_of_mem _ h), fun q h => Or.inr h⟩
  have hM : wM D dA ad (AM dA ad σ s.heap.size) s σ s.heap [] := ⟨hK, hP, hD0.self, va_S.rf⟩
  have hx := C.1
  have hb := C.2.1
  have hown := C.2.2.2.2.2.1
  have hts := C.2.2.2.2.2.2.1
  have hl := lv_entry ([.ref (ad 0), .long p1, .int p3]) (n := 8) (Nat.le_of_ble_eq_true rfl)
  rw [lg_entry_eq]
  generalize (lg_sl ([.ref (ad 0), .long p1, .int p3]) ++ List.replicate (8 - (lg_sl ([.ref (ad 0), .long p1, .int p3])).length) Slot.unset).toArray = ls at hl ⊢
  have hl : lv_has ls 8 [(0, .ref (ad 0)), (1, .long p1), (3, .int p3)] := hl
  unfold wp_type at hw
  refine lv_aload_n hx hb dX10_type_0 rfl (lv_at hl 0 rfl) ?_
  refine lv_iconst (v := 0) hx hb dX10_type_1 (by decide) ?_
  refine rM_putI C hM 0 (by decide) (fM_s0 dA ad σ _) q1390 rfl rfl (tyX10_ok 0 (by decide)) rfl rfl dX10_type_2 (fun σ1 H locs eσ hM => ?_)
  have hw := hw σ1 eσ
  clear eσ
  refine lv_iload_n hx hb dX10_type_5 rfl (lv_at hl 2 rfl) ?_
  refine lv_iconst (v := 1) hx hb dX10_type_6 (by decide) ?_
  refine lv_icmp_lt (tgt := 32) hx hb dX10_type_7 (by decide) (fun hc => ?_) (fun hc => ?_)
  · have hw := hw.1 hc
    exact wk_type_32 C  p1 p3 σ1 _ _ ls hw hM (lv_sub hl [0, 1, 2] rfl)
  · have hw := hw.2 hc
    refine lv_iload_n hx hb dX10_type_10 rfl (lv_at hl 2 rfl) ?_
    refine lv_bipush (v := 8) hx hb dX10_type_11 (by decide) ?_
    refine lv_icmp_gt (tgt := 32) hx hb dX10_type_13 (by decide) (fun hc => ?_) (fun hc => ?_)
    · have hw := hw.1 hc
      exact wk_type_32 C  p1 p3 σ1 _ _ ls hw hM (lv_sub hl [0, 1, 2] rfl)
    · have hw := hw.2 hc
      refine lv_aload_n hx hb dX10_type_16 rfl (lv_at hl 0 rfl) ?_
      refine rM_get C hM 2 (by decide) (fM_2 ad σ1) q1392 rfl dX10_type_17 ?_
      refine lv_iload_n hx hb dX10_type_20 rfl (lv_at hl 2 rfl) ?_
      refine lv_iadd hx hb dX10_type_21 ?_
      refine lv_sipush (v := 300) hx hb dX10_type_22 (by decide) ?_
      refine lv_icmp_gt (tgt := 32) hx hb dX10_type_25 (by decide) (fun hc => ?_) (fun hc => ?_)
      · have hw := hw.1 hc
        exact wk_type_32 C  p1 p3 σ1 _ _ ls hw hM (lv_sub hl [0, 1, 2] rfl)
      · have hw := hw.2 hc
        refine lv_iconst (v := 1) hx hb dX10_type_28 (by decide) ?_
        refine lv_goto (tgt := 33) hx hb dX10_type_29 (by decide) ?_
        exact wk_type_33 C  p1 p3 1 σ1 _ _ ls hw hM (lv_sub hl [0, 1, 2] rfl)
abbrev rm_letter0 : Room := { frames := 0, cells := 0, slots := 0, locals := 0 }
set_option maxHeartbeats 4000000 in
theorem wk_letter0_18 {p : Program} {l : Launch} {e : Env} {s : State} {m : MethodId} {args : Array Value} {below : List Frame} {meth : Method} {c : Code} {D : va_G} {dA : Nat → ClassId} {ad : Nat → Nat} {σ0 : St} {sz : Nat} (C : CxM p s m meth c args (AM dA ad σ0 sz) RX10 cX10_letter0 2 (some .int)) {Qr : Int32 → St → Prop} : ∀ (u0 : Int32) (σ : St) (H : Heap) (locs : List Loc) (ls : Array Slot), wp_letter0_18 Qr u0 σ → wM D dA ad (AM dA ad σ0 sz) s σ H locs → lv_has ls 2 [(0, .ref (ad 0))] → W p l e rm_letter0 s m args below meth c H locs 0 0 (MQ below (va_Qi Qr (BM D dA ad (AM dA ad σ0 sz)) (AM dA ad σ0 sz)) args s 0 0 (AM dA ad σ0 sz)) (F0 m 18 ls [.int u0]) := by
  intro u0 σ H locs ls hw hM hl
  have hx := C.1
  have hb := C.2.1
  have hown := C.2.2.2.2.2.1
  have hts := C.2.2.2.2.2.2.1
  unfold wp_letter0_18 at hw
  exact rM_iret C hM hw dX10_letter0_18
set_option maxHeartbeats 4000000 in
/-- private int letter0(int); -/
theorem mt_letter0 (l : Launch) (D : va_G) (dA : Nat → ClassId) (ad : Nat → Nat) (sz : Nat) (σ : St) (p1 : Int32) (Qr : Int32 → St → Prop) (hw : wp_letter0 p1 σ Qr) : Met l yX10_letter0 (ws_ yX10_letter0 cX10_letter0 2 (some .int)) rm_letter0 (PcM D dA ad σ sz [.ref (ad 0), .int p1]) (va_Qi Qr (BM D dA ad (AM dA ad σ sz)) (AM dA ad σ sz)) 0 0 (AM dA ad σ sz) := by
  refine Met.ofW (cc := cX10_letter0) (maxL := 2) (ret := (some .int)) (by decide) rfl ?_
  intro p e s m args below meth c s₁ B hml hv
  obtain ⟨rfl, hsz, hP, hK, hD0⟩ := hv
  subst hsz
  have hts0 := atoms_spec (ws := ws_ yX10_letter0 cX10_letter0 2 (some .int)) B.pre
  have C : CxM p s m meth c _ (AM dA ad σ s.heap.size) RX10 cX10_letter0 2 (some .int) := ⟨B.exec, B.bytes, B.returns, B.notSynchronized, hml, findClass_of_methodNamed B.named, fun w h => hts0 w (List.mem_cons_of_mem _ h), fun q h => Or.inr h⟩
  have hM : wM D dA ad (AM dA ad σ s.heap.size) s σ s.heap [] := ⟨hK, hP, hD0.self, va_S.rf⟩
  have hx := C.1
  have hb := C.2.1
  have hown := C.2.2.2.2.2.1
  have hts := C.2.2.2.2.2.2.1
  have hl := lv_entry ([.ref (ad 0), .int p1]) (n := 2) (Nat.le_of_ble_eq_true rfl)
  rw [lg_entry_eq]
  generalize (lg_sl ([.ref (ad 0), .int p1]) ++ List.replicate (2 - (lg_sl ([.ref (ad 0), .int p1])).length) Slot.unset).toArray = ls at hl ⊢
  have hl : lv_has ls 2 [(0, .ref (ad 0)), (1, .int p1)] := hl
  unfold wp_letter0 at hw
  refine lv_iload_n hx hb dX10_letter0_0 rfl (lv_at hl 1 rfl) ?_
  refine lv_aload_n hx hb dX10_letter0_1 rfl (lv_at hl 0 rfl) ?_
  refine rM_get C hM 2 (by decide) (fM_2 ad σ) q1392 rfl dX10_letter0_2 ?_
  refine lv_icmp_ge (tgt := 17) hx hb dX10_letter0_5 (by decide) (fun hc => ?_) (fun hc => ?_)
  · have hw := hw.1 hc
    refine lv_iconst (v := 0) hx hb dX10_letter0_17 (by decide) ?_
    exact wk_letter0_18 C  0 σ _ _ ls hw hM (lv_sub hl [0] rfl)
  · have hw := hw.2 hc
    refine lv_aload_n hx hb dX10_letter0_8 rfl (lv_at hl 0 rfl) ?_
    refine rM_get C hM 1 (by decide) (fM_1 ad σ) q1391 rfl dX10_letter0_9 ?_
    refine lv_iload_n hx hb dX10_letter0_12 rfl (lv_at hl 1 rfl) ?_
    refine rM_iald C hM 1 1 (wM_1 dA ad σ) hw.1 dX10_letter0_13 ?_
    have hw := hw.2
    refine lv_goto (tgt := 18) hx hb dX10_letter0_14 (by decide) ?_
    exact wk_letter0_18 C  ((gA σ 1 p1)) σ _ _ ls hw hM (lv_sub hl [0] rfl)
abbrev rm_word : Room := { frames := 0, cells := 0, slots := 0, locals := 0 }
set_option maxHeartbeats 4000000 in
/-- private void word(int, int, int); -/
theorem mt_word (l : Launch) (D : va_G) (dA : Nat → ClassId) (ad : Nat → Nat) (sz : Nat) (σ : St) (p1 : Int32) (p2 : Int32) (p3 : Int32) (Qr : St → Prop) (hw : wp_word p1 p2 p3 σ Qr) : Met l yX10_word (ws_ yX10_word cX10_word 4 none) rm_word (PcM D dA ad σ sz [.ref (ad 0), .int p1, .int p2, .int p3]) (va_Qv Qr (BM D dA ad (AM dA ad σ sz)) (AM dA ad σ sz)) 0 0 (AM dA ad σ sz) := by
  refine Met.ofW (cc := cX10_word) (maxL := 4) (ret := none) (by decide) rfl ?_
  intro p e s m args below meth c s₁ B hml hv
  obtain ⟨rfl, hsz, hP, hK, hD0⟩ := hv
  subst hsz
  have hts0 := atoms_spec (ws := ws_ yX10_word cX10_word 4 none) B.pre
  have C : CxM p s m meth c _ (AM dA ad σ s.heap.size) RX10 cX10_word 4 none := ⟨B.exec, B.bytes, B.returns, B.notSynchronized, hml, findClass_of_methodNamed B.named, fun w h => hts0 w (List.mem_cons_of_mem _ h), fun q h => Or.inr h⟩
  have hM : wM D dA ad (AM dA ad σ s.heap.size) s σ s.heap [] := ⟨hK, hP, hD0.self, va_S.rf⟩
  have hx := C.1
  have hb := C.2.1
  have hown := C.2.2.2.2.2.1
  have hts := C.2.2.2.2.2.2.1
  have hl := lv_entry ([.ref (ad 0), .int p1, .int p2, .int p3]) (n := 4) (Nat.le_of_ble_eq_true rfl)
  rw [lg_entry_eq]
  generalize (lg_sl ([.ref (ad 0), .int p1, .int p2, .int p3]) ++ List.replicate (4 - (lg_sl ([.ref (ad 0), .int p1, .int p2, .int p3])).length) Slot.unset).toArray = ls at hl ⊢
  have hl : lv_has ls 4 [(0, .ref (ad 0)), (1, .int p1), (2, .int p2), (3, .int p3)] := hl
  unfold wp_word at hw
  refine lv_aload_n hx hb dX10_word_0 rfl (lv_at hl 0 rfl) ?_
  refine rM_get C hM 4 (by decide) (fM_4 ad σ) q1394 rfl dX10_word_1 ?_
  refine lv_aload_n hx hb dX10_word_4 rfl (lv_at hl 0 rfl) ?_
  refine rM_get C hM 7 (by decide) (fM_7 ad σ) q1397 rfl dX10_word_5 ?_
  refine lv_iload_n hx hb dX10_word_8 rfl (lv_at hl 1 rfl) ?_
  refine rM_iast C hM 4 2 (wM_4 dA ad σ) (wM_s4 dA ad σ _ _) hw.1 dX10_word_9 (fun σ1 H locs eσ hM => ?_)
  have hw := hw.2 σ1 eσ
  clear eσ
  refine lv_aload_n hx hb dX10_word_10 rfl (lv_at hl 0 rfl) ?_
  refine rM_get C hM 5 (by decide) (fM_5 ad σ1) q1395 rfl dX10_word_11 ?_
  refine lv_aload_n hx hb dX10_word_14 rfl (lv_at hl 0 rfl) ?_
  refine rM_get C hM 7 (by decide) (fM_7 ad σ1) q1397 rfl dX10_word_15 ?_
  refine lv_iload_n hx hb dX10_word_18 rfl (lv_at hl 2 rfl) ?_
  refine rM_iast C hM 5 3 (wM_5 dA ad σ1) (wM_s5 dA ad σ1 _ _) hw.1 dX10_word_19 (fun σ2 H locs eσ hM => ?_)
  have hw := hw.2 σ2 eσ
  clear eσ
  refine lv_aload_n hx hb dX10_word_20 rfl (lv_at hl 0 rfl) ?_
  refine rM_get C hM 6 (by decide) (fM_6 ad σ2) q1396 rfl dX10_word_21 ?_
  refine lv_aload_n hx hb dX10_word_24 rfl (lv_at hl 0 rfl) ?_
  refine rM_get C hM 7 (by decide) (fM_7 ad σ2) q1397 rfl dX10_word_25 ?_
  refine lv_iload_n hx hb dX10_word_28 rfl (lv_at hl 3 rfl) ?_
  refine rM_iast C hM 6 4 (wM_6 dA ad σ2) (wM_s6 dA ad σ2 _ _) hw.1 dX10_word_29 (fun σ3 H locs eσ hM => ?_)
  have hw := hw.2 σ3 eσ
  clear eσ
  refine lv_aload_n hx hb dX10_word_30 rfl (lv_at hl 0 rfl) ?_
  refine lv_dup hx hb dX10_word_31 rfl ?_
  refine rM_get C hM 7 (by decide) (fM_7 ad σ3) q1397 rfl dX10_word_32 ?_
  refine lv_iconst (v := 1) hx hb dX10_word_35 (by decide) ?_
  refine lv_iadd hx hb dX10_word_36 ?_
  refine rM_putI C hM 7 (by decide) (fM_s7 dA ad σ3 _) q1397 rfl rfl (tyX10_ok 7 (by decide)) rfl rfl dX10_word_37 (fun σ4 H locs eσ hM => ?_)
  have hw := hw σ4 eσ
  clear eσ
  exact rM_vret C hM hw dX10_word_40
abbrev rm_cut : Room := { frames := 1, cells := 0, slots := 0, locals := 23 }
set_option maxHeartbeats 4000000 in
theorem wk_cut_309 {p : Program} {l : Launch} {e : Env} {s : State} {m : MethodId} {args : Array Value} {below : List Frame} {meth : Method} {c : Code} {D : va_G} {dA : Nat → ClassId} {ad : Nat → Nat} {σ0 : St} {sz : Nat} (C : CxM p s m meth c args (AM dA ad σ0 sz) RX10 cX10_cut 7 none) {Qr : St → Prop} : ∀ (σ : St) (H : Heap) (locs : List Loc) (ls : Array Slot), wp_cut_309 Qr σ → wM D dA ad (AM dA ad σ0 sz) s σ H locs → lv_has ls 7 [(0, .ref (ad 0))] → W p l e rm_cut s m args below meth c H locs 0 0 (MQ below (va_Qv Qr (BM D dA ad (AM dA ad σ0 sz)) (AM dA ad σ0 sz)) args s 0 0 (AM dA ad σ0 sz)) (F0 m 309 ls []) := by
  intro σ H locs ls hw hM hl
  have hx := C.1
  have hb := C.2.1
  have hown := C.2.2.2.2.2.1
  have hts := C.2.2.2.2.2.2.1
  unfold wp_cut_309 at hw
  exact rM_vret C hM hw dX10_cut_309
set_option maxHeartbeats 4000000 in
theorem wk_cut_295 {p : Program} {l : Launch} {e : Env} {s : State} {m : MethodId} {args : Array Value} {below : List Frame} {meth : Method} {c : Code} {D : va_G} {dA : Nat → ClassId} {ad : Nat → Nat} {σ0 : St} {sz : Nat} (C : CxM p s m meth c args (AM dA ad σ0 sz) RX10 cX10_cut 7 none) {Qr : St → Prop} : ∀ (v2 : Int32) (σ : St) (H : Heap) (locs : List Loc) (ls : Array Slot), wp_cut_295 Qr v2 σ → wM D dA ad (AM dA ad σ0 sz) s σ H locs → lv_has ls 7 [(0, .ref (ad 0)), (2, .int v2)] → W p l e rm_cut s m args below meth c H locs 0 0 (MQ below (va_Qv Qr (BM D dA ad (AM dA ad σ0 sz)) (AM dA ad σ0 sz)) args s 0 0 (AM dA ad σ0 sz)) (F0 m 295 ls []) := by
  intro v2 σ H locs ls hw hM hl
  have hx := C.1
  have hb := C.2.1
  have hown := C.2.2.2.2.2.1
  have hts := C.2.2.2.2.2.2.1
  unfold wp_cut_295 at hw
  refine lv_iload_n hx hb dX10_cut_295 rfl (lv_at hl 1 rfl) ?_
  refine lv_if_eq (tgt := 309) hx hb dX10_cut_296 (by decide) (fun hc => ?_) (fun hc => ?_)
  · have hw := hw.1 hc
    exact wk_cut_309 C   σ _ _ ls hw hM (lv_sub hl [0] rfl)
  · have hw := hw.2 hc
    refine lv_aload_n hx hb dX10_cut_299 rfl (lv_at hl 0 rfl) ?_
    refine lv_iconst (v := 0) hx hb dX10_cut_300 (by decide) ?_
    refine lv_aload_n hx hb dX10_cut_301 rfl (lv_at hl 0 rfl) ?_
    refine rM_get C hM 2 (by decide) (fM_2 ad σ) q1392 rfl dX10_cut_302 ?_
    refine lv_iconst (v := 0) hx hb dX10_cut_305 (by decide) ?_
    refine rM_callVv (n := 3) (As := [.int 0, .int (gI σ 2), .int 0]) C hM hl.1 (mt_word l D dA ad _ σ 0 (gI σ 2) 0 _ hw) (lw_V q1523 q1525 qs48 q93 q1526) rfl rfl (by decide +kernel) ⟨Nat.le_of_ble_eq_true rfl, Nat.le_of_ble_eq_true rfl⟩ rfl (Nat.le_of_ble_eq_true rfl) ⟨Nat.zero_le _, Nat.zero_le _⟩ rfl dX10_cut_306 (fun σ1 H locs hw hM => ?_)
    exact wk_cut_309 C   σ1 _ _ ls hw hM (lv_sub hl [0] rfl)
set_option maxHeartbeats 4000000 in
theorem wk_cut_289 {p : Program} {l : Launch} {e : Env} {s : State} {m : MethodId} {args : Array Value} {below : List Frame} {meth : Method} {c : Code} {D : va_G} {dA : Nat → ClassId} {ad : Nat → Nat} {σ0 : St} {sz : Nat} (C : CxM p s m meth c args (AM dA ad σ0 sz) RX10 cX10_cut 7 none) {Qr : St → Prop} {K9 : Int32 → Int32 → St → Prop} (hK9 : ∀ (v1 : Int32) (v2 : Int32) (σ : St) (H : Heap) (locs : List Loc) (ls : Array Slot), K9 v1 v2 σ → wM D dA ad (AM dA ad σ0 sz) s σ H locs → lv_has ls 7 [(0, .ref (ad 0)), (1, .int v1), (2, .int v2)] → W p l e rm_cut s m args below meth c H locs 0 0 (MQ below (va_Qv Qr (BM D dA ad (AM dA ad σ0 sz)) (AM dA ad σ0 sz)) args s 0 0 (AM dA ad σ0 sz)) (F0 m 9 ls [])) : ∀ (v2 : Int32) (v4 : Int32) (σ : St) (H : Heap) (locs : List Loc) (ls : Array Slot), wp_cut_289 Qr K9 v2 v4 σ → wM D dA ad (AM dA ad σ0 sz) s σ H locs → lv_has ls 7 [(0, .ref (ad 0)), (2, .int v2), (4, .int v4)] → W p l e rm_cut s m args below meth c H locs 0 0 (MQ below (va_Qv Qr (BM D dA ad (AM dA ad σ0 sz)) (AM dA ad σ0 sz)) args s 0 0 (AM dA ad σ0 sz)) (F0 m 289 ls []) := by
  intro v2 v4 σ H locs ls hw hM hl
  have hx := C.1
  have hb := C.2.1
  have hown := C.2.2.2.2.2.1
  have hts := C.2.2.2.2.2.2.1
  unfold wp_cut_289 at hw
  refine lv_iload hx hb dX10_cut_289 (lv_at hl 2 rfl) ?_
  refine lv_istore_n (lv' := [(1, .int v4), (0, .ref (ad 0)), (2, .int v2), (4, .int v4)]) hx hb dX10_cut_291 rfl hl (by decide) rfl (fun ls hl => ?_)
  refine lv_goto (tgt := 9) hx hb dX10_cut_292 (by decide) ?_
  exact hK9 v4 v2 σ _ _ ls hw hM (lv_sub hl [1, 0, 2] rfl)
set_option maxHeartbeats 4000000 in
theorem wk_cut_288 {p : Program} {l : Launch} {e : Env} {s : State} {m : MethodId} {args : Array Value} {below : List Frame} {meth : Method} {c : Code} {D : va_G} {dA : Nat → ClassId} {ad : Nat → Nat} {σ0 : St} {sz : Nat} (C : CxM p s m meth c args (AM dA ad σ0 sz) RX10 cX10_cut 7 none) {Qr : St → Prop} {K9 : Int32 → Int32 → St → Prop} (hK9 : ∀ (v1 : Int32) (v2 : Int32) (σ : St) (H : Heap) (locs : List Loc) (ls : Array Slot), K9 v1 v2 σ → wM D dA ad (AM dA ad σ0 sz) s σ H locs → lv_has ls 7 [(0, .ref (ad 0)), (1, .int v1), (2, .int v2)] → W p l e rm_cut s m args below meth c H locs 0 0 (MQ below (va_Qv Qr (BM D dA ad (AM dA ad σ0 sz)) (AM dA ad σ0 sz)) args s 0 0 (AM dA ad σ0 sz)) (F0 m 9 ls [])) : ∀ (v4 : Int32) (u0 : Int32) (σ : St) (H : Heap) (locs : List Loc) (ls : Array Slot), wp_cut_288 Qr K9 v4 u0 σ → wM D dA ad (AM dA ad σ0 sz) s σ H locs → lv_has ls 7 [(0, .ref (ad 0)), (4, .int v4)] → W p l e rm_cut s m args below meth c H locs 0 0 (MQ below (va_Qv Qr (BM D dA ad (AM dA ad σ0 sz)) (AM dA ad σ0 sz)) args s 0 0 (AM dA ad σ0 sz)) (F0 m 288 ls [.int u0]) := by
  intro v4 u0 σ H locs ls hw hM hl
  have hx := C.1
  have hb := C.2.1
  have hown := C.2.2.2.2.2.1
  have hts := C.2.2.2.2.2.2.1
  unfold wp_cut_288 at hw
  refine lv_istore_n (lv' := [(2, .int u0), (0, .ref (ad 0)), (4, .int v4)]) hx hb dX10_cut_288 rfl hl (by decide) rfl (fun ls hl => ?_)
  exact wk_cut_289 C hK9 u0 v4 σ _ _ ls hw hM (lv_sub hl [1, 0, 2] rfl)
set_option maxHeartbeats 4000000 in
theorem wk_cut_261 {p : Program} {l : Launch} {e : Env} {s : State} {m : MethodId} {args : Array Value} {below : List Frame} {meth : Method} {c : Code} {D : va_G} {dA : Nat → ClassId} {ad : Nat → Nat} {σ0 : St} {sz : Nat} (C : CxM p s m meth c args (AM dA ad σ0 sz) RX10 cX10_cut 7 none) {Qr : St → Prop} {K9 : Int32 → Int32 → St → Prop} (hK9 : ∀ (v1 : Int32) (v2 : Int32) (σ : St) (H : Heap) (locs : List Loc) (ls : Array Slot), K9 v1 v2 σ → wM D dA ad (AM dA ad σ0 sz) s σ H locs → lv_has ls 7 [(0, .ref (ad 0)), (1, .int v1), (2, .int v2)] → W p l e rm_cut s m args below meth c H locs 0 0 (MQ below (va_Qv Qr (BM D dA ad (AM dA ad σ0 sz)) (AM dA ad σ0 sz)) args s 0 0 (AM dA ad σ0 sz)) (F0 m 9 ls [])) : ∀ (v1 : Int32) (v2 : Int32) (v3 : Int32) (v4 : Int32) (v5 : Int32) (v6 : Int32) (σ : St) (H : Heap) (locs : List Loc) (ls : Array Slot), wp_cut_261 Qr K9 v1 v2 v3 v4 v5 v6 σ → wM D dA ad (AM dA ad σ0 sz) s σ H locs → lv_has ls 7 [(0, .ref (ad 0)), (1, .int v1), (2, .int v2), (3, .int v3), (4, .int v4), (5, .int v5), (6, .int v6)] → W p l e rm_cut s m args below meth c H locs 0 0 (MQ below (va_Qv Qr (BM D dA ad (AM dA ad σ0 sz)) (AM dA ad σ0 sz)) args s 0 0 (AM dA ad σ0 sz)) (F0 m 261 ls []) := by
  intro v1 v2 v3 v4 v5 v6 σ H locs ls hw hM hl
  have hx := C.1
  have hb := C.2.1
  have hown := C.2.2.2.2.2.1
  have hts := C.2.2.2.2.2.2.1
  unfold wp_cut_261 at hw
  refine lv_iload_n hx hb dX10_cut_261 rfl (lv_at hl 3 rfl) ?_
  refine lv_bipush (v := 32) hx hb dX10_cut_262 (by decide) ?_
  refine lv_icmp_eq (tgt := 289) hx hb dX10_cut_264 (by decide) (fun hc => ?_) (fun hc => ?_)
  · have hw := hw.1 hc
    exact wk_cut_289 C hK9 v2 v4 σ _ _ ls hw hM (lv_sub hl [0, 2, 4] rfl)
  · have hw := hw.2 hc
    refine lv_aload_n hx hb dX10_cut_267 rfl (lv_at hl 0 rfl) ?_
    refine lv_iload hx hb dX10_cut_268 (lv_at hl 6 rfl) ?_
    refine lv_iload_n hx hb dX10_cut_270 rfl (lv_at hl 1 rfl) ?_
    refine lv_iload hx hb dX10_cut_271 (lv_at hl 5 rfl) ?_
    refine rM_callVv (n := 3) (As := [.int v6, .int v1, .int v5]) C hM hl.1 (mt_word l D dA ad _ σ v6 v1 v5 _ hw) (lw_V q1523 q1525 qs48 q93 q1526) rfl rfl (by decide +kernel) ⟨Nat.le_of_ble_eq_true rfl, Nat.le_of_ble_eq_true rfl⟩ rfl (Nat.le_of_ble_eq_true rfl) ⟨Nat.zero_le _, Nat.zero_le _⟩ rfl dX10_cut_273 (fun σ1 H locs hw hM => ?_)
    refine lv_iload hx hb dX10_cut_276 (lv_at hl 6 rfl) ?_
    refine lv_bipush (v := 10) hx hb dX10_cut_278 (by decide) ?_
    refine lv_icmp_eq (tgt := 287) hx hb dX10_cut_280 (by decide) (fun hc => ?_) (fun hc => ?_)
    · have hw := hw.1 hc
      refine lv_iconst (v := 0) hx hb dX10_cut_287 (by decide) ?_
      exact wk_cut_288 C hK9 v4 0 σ1 _ _ ls hw hM (lv_sub hl [0, 4] rfl)
    · have hw := hw.2 hc
      refine lv_iconst (v := 1) hx hb dX10_cut_283 (by decide) ?_
      refine lv_goto (tgt := 288) hx hb dX10_cut_284 (by decide) ?_
      exact wk_cut_288 C hK9 v4 1 σ1 _ _ ls hw hM (lv_sub hl [0, 4] rfl)
set_option maxHeartbeats 4000000 in
theorem wk_cut_259 {p : Program} {l : Launch} {e : Env} {s : State} {m : MethodId} {args : Array Value} {below : List Frame} {meth : Method} {c : Code} {D : va_G} {dA : Nat → ClassId} {ad : Nat → Nat} {σ0 : St} {sz : Nat} (C : CxM p s m meth c args (AM dA ad σ0 sz) RX10 cX10_cut 7 none) {Qr : St → Prop} {K9 : Int32 → Int32 → St → Prop} (hK9 : ∀ (v1 : Int32) (v2 : Int32) (σ : St) (H : Heap) (locs : List Loc) (ls : Array Slot), K9 v1 v2 σ → wM D dA ad (AM dA ad σ0 sz) s σ H locs → lv_has ls 7 [(0, .ref (ad 0)), (1, .int v1), (2, .int v2)] → W p l e rm_cut s m args below meth c H locs 0 0 (MQ below (va_Qv Qr (BM D dA ad (AM dA ad σ0 sz)) (AM dA ad σ0 sz)) args s 0 0 (AM dA ad σ0 sz)) (F0 m 9 ls [])) : ∀ (v1 : Int32) (v2 : Int32) (v3 : Int32) (v4 : Int32) (v5 : Int32) (u0 : Int32) (σ : St) (H : Heap) (locs : List Loc) (ls : Array Slot), wp_cut_259 Qr K9 v1 v2 v3 v4 v5 u0 σ → wM D dA ad (AM dA ad σ0 sz) s σ H locs → lv_has ls 7 [(0, .ref (ad 0)), (1, .int v1), (2, .int v2), (3, .int v3), (4, .int v4), (5, .int v5)] → W p l e rm_cut s m args below meth c H locs 0 0 (MQ below (va_Qv Qr (BM D dA ad (AM dA ad σ0 sz)) (AM dA ad σ0 sz)) args s 0 0 (AM dA ad σ0 sz)) (F0 m 259 ls [.int u0]) := by
  intro v1 v2 v3 v4 v5 u0 σ H locs ls hw hM hl
  have hx := C.1
  have hb := C.2.1
  have hown := C.2.2.2.2.2.1
  have hts := C.2.2.2.2.2.2.1
  unfold wp_cut_259 at hw
  refine lv_istore (lv' := [(6, .int u0), (0, .ref (ad 0)), (1, .int v1), (2, .int v2), (3, .int v3), (4, .int v4), (5, .int v5)]) hx hb dX10_cut_259 hl (by decide) rfl (fun ls hl => ?_)
  exact wk_cut_261 C hK9 v1 v2 v3 v4 v5 u0 σ _ _ ls hw hM (lv_sub hl [1, 2, 3, 4, 5, 6, 0] rfl)
set_option maxHeartbeats 4000000 in
theorem wk_cut_195 {p : Program} {l : Launch} {e : Env} {s : State} {m : MethodId} {args : Array Value} {below : List Frame} {meth : Method} {c : Code} {D : va_G} {dA : Nat → ClassId} {ad : Nat → Nat} {σ0 : St} {sz : Nat} (C : CxM p s m meth c args (AM dA ad σ0 sz) RX10 cX10_cut 7 none) {Qr : St → Prop} {K9 : Int32 → Int32 → St → Prop} (hK9 : ∀ (v1 : Int32) (v2 : Int32) (σ : St) (H : Heap) (locs : List Loc) (ls : Array Slot), K9 v1 v2 σ → wM D dA ad (AM dA ad σ0 sz) s σ H locs → lv_has ls 7 [(0, .ref (ad 0)), (1, .int v1), (2, .int v2)] → W p l e rm_cut s m args below meth c H locs 0 0 (MQ below (va_Qv Qr (BM D dA ad (AM dA ad σ0 sz)) (AM dA ad σ0 sz)) args s 0 0 (AM dA ad σ0 sz)) (F0 m 9 ls [])) : ∀ (v1 : Int32) (v2 : Int32) (v3 : Int32) (v5 : Int32) (u0 : Int32) (σ : St) (H : Heap) (locs : List Loc) (ls : Array Slot), wp_cut_195 Qr K9 v1 v2 v3 v5 u0 σ → wM D dA ad (AM dA ad σ0 sz) s σ H locs → lv_has ls 7 [(0, .ref (ad 0)), (1, .int v1), (2, .int v2), (3, .int v3), (5, .int v5)] → W p l e rm_cut s m args below meth c H locs 0 0 (MQ below (va_Qv Qr (BM D dA ad (AM dA ad σ0 sz)) (AM dA ad σ0 sz)) args s 0 0 (AM dA ad σ0 sz)) (F0 m 195 ls [.int u0]) := by
  intro v1 v2 v3 v5 u0 σ H locs ls hw hM hl
  have hx := C.1
  have hb := C.2.1
  have hown := C.2.2.2.2.2.1
  have hts := C.2.2.2.2.2.2.1
  unfold wp_cut_195 at hw
  refine lv_istore (lv' := [(6, .int u0), (0, .ref (ad 0)), (1, .int v1), (2, .int v2), (3, .int v3), (5, .int v5)]) hx hb dX10_cut_195 hl (by decide) rfl (fun ls hl => ?_)
  refine lv_iload_n hx hb dX10_cut_197 rfl (lv_at hl 2 rfl) ?_
  refine lv_iconst (v := 2) hx hb dX10_cut_198 (by decide) ?_
  refine lv_iadd hx hb dX10_cut_199 ?_
  refine lv_topi (fun x1 ex1 => ?_)
  have hw := hw x1 ex1
  refine lv_istore (lv' := [(4, .int x1), (6, .int u0), (0, .ref (ad 0)), (1, .int v1), (2, .int v2), (3, .int v3), (5, .int v5)]) hx hb dX10_cut_200 hl (by decide) rfl (fun ls hl => ?_)
  refine lv_goto (tgt := 261) hx hb dX10_cut_202 (by decide) ?_
  exact wk_cut_261 C hK9 v1 v2 v3 x1 v5 u0 σ _ _ ls hw hM (lv_sub hl [2, 3, 4, 5, 0, 6, 1] rfl)
set_option maxHeartbeats 4000000 in
theorem wk_cut_165 {p : Program} {l : Launch} {e : Env} {s : State} {m : MethodId} {args : Array Value} {below : List Frame} {meth : Method} {c : Code} {D : va_G} {dA : Nat → ClassId} {ad : Nat → Nat} {σ0 : St} {sz : Nat} (C : CxM p s m meth c args (AM dA ad σ0 sz) RX10 cX10_cut 7 none) {Qr : St → Prop} {K9 : Int32 → Int32 → St → Prop} (hK9 : ∀ (v1 : Int32) (v2 : Int32) (σ : St) (H : Heap) (locs : List Loc) (ls : Array Slot), K9 v1 v2 σ → wM D dA ad (AM dA ad σ0 sz) s σ H locs → lv_has ls 7 [(0, .ref (ad 0)), (1, .int v1), (2, .int v2)] → W p l e rm_cut s m args below meth c H locs 0 0 (MQ below (va_Qv Qr (BM D dA ad (AM dA ad σ0 sz)) (AM dA ad σ0 sz)) args s 0 0 (AM dA ad σ0 sz)) (F0 m 9 ls [])) : ∀ (v1 : Int32) (v2 : Int32) (v3 : Int32) (v5 : Int32) (σ : St) (H : Heap) (locs : List Loc) (ls : Array Slot), wp_cut_165 Qr K9 v1 v2 v3 v5 σ → wM D dA ad (AM dA ad σ0 sz) s σ H locs → lv_has ls 7 [(0, .ref (ad 0)), (1, .int v1), (2, .int v2), (3, .int v3), (5, .int v5)] → W p l e rm_cut s m args below meth c H locs 0 0 (MQ below (va_Qv Qr (BM D dA ad (AM dA ad σ0 sz)) (AM dA ad σ0 sz)) args s 0 0 (AM dA ad σ0 sz)) (F0 m 165 ls []) := by
  intro v1 v2 v3 v5 σ H locs ls hw hM hl
  have hx := C.1
  have hb := C.2.1
  have hown := C.2.2.2.2.2.1
  have hts := C.2.2.2.2.2.2.1
  unfold wp_cut_165 at hw
  refine lv_aload_n hx hb dX10_cut_165 rfl (lv_at hl 0 rfl) ?_
  refine lv_iload_n hx hb dX10_cut_166 rfl (lv_at hl 1 rfl) ?_
  refine lv_iconst (v := 1) hx hb dX10_cut_167 (by decide) ?_
  refine lv_iadd hx hb dX10_cut_168 ?_
  refine rM_callVi (n := 1) (As := [.int (v1 + 1)]) C hM hl.1 (mt_letter0 l D dA ad _ σ (v1 + 1) _ hw) (lw_V q1519 q1521 qs47 q93 q1522) rfl rfl (by decide +kernel) ⟨Nat.le_of_ble_eq_true rfl, Nat.le_of_ble_eq_true rfl⟩ rfl (Nat.le_of_ble_eq_true rfl) ⟨Nat.zero_le _, Nat.zero_le _⟩ rfl dX10_cut_169 (fun x2 σ1 H locs hw hM => ?_)
  refine lv_bipush (v := 61) hx hb dX10_cut_172 (by decide) ?_
  refine lv_icmp_ne (tgt := 193) hx hb dX10_cut_174 (by decide) (fun hc => ?_) (fun hc => ?_)
  · have hw := hw.1 hc
    refine lv_bipush (v := 10) hx hb dX10_cut_193 (by decide) ?_
    exact wk_cut_195 C hK9 v1 v2 v3 v5 10 σ1 _ _ ls hw hM (lv_sub hl [0, 1, 2, 3, 4] rfl)
  · have hw := hw.2 hc
    refine lv_iload_n hx hb dX10_cut_177 rfl (lv_at hl 3 rfl) ?_
    refine lv_bipush (v := 60) hx hb dX10_cut_178 (by decide) ?_
    refine lv_icmp_ne (tgt := 188) hx hb dX10_cut_180 (by decide) (fun hc => ?_) (fun hc => ?_)
    · have hw := hw.1 hc
      refine lv_bipush (v := 9) hx hb dX10_cut_188 (by decide) ?_
      refine lv_goto (tgt := 195) hx hb dX10_cut_190 (by decide) ?_
      exact wk_cut_195 C hK9 v1 v2 v3 v5 9 σ1 _ _ ls hw hM (lv_sub hl [0, 1, 2, 3, 4] rfl)
    · have hw := hw.2 hc
      refine lv_bipush (v := 8) hx hb dX10_cut_183 (by decide) ?_
      refine lv_goto (tgt := 195) hx hb dX10_cut_185 (by decide) ?_
      exact wk_cut_195 C hK9 v1 v2 v3 v5 8 σ1 _ _ ls hw hM (lv_sub hl [0, 1, 2, 3, 4] rfl)
set_option maxHeartbeats 4000000 in
theorem wk_cut_153 {p : Program} {l : Launch} {e : Env} {s : State} {m : MethodId} {args : Array Value} {below : List Frame} {meth : Method} {c : Code} {D : va_G} {dA : Nat → ClassId} {ad : Nat → Nat} {σ0 : St} {sz : Nat} (C : CxM p s m meth c args (AM dA ad σ0 sz) RX10 cX10_cut 7 none) {Qr : St → Prop} {K9 : Int32 → Int32 → St → Prop} (hK9 : ∀ (v1 : Int32) (v2 : Int32) (σ : St) (H : Heap) (locs : List Loc) (ls : Array Slot), K9 v1 v2 σ → wM D dA ad (AM dA ad σ0 sz) s σ H locs → lv_has ls 7 [(0, .ref (ad 0)), (1, .int v1), (2, .int v2)] → W p l e rm_cut s m args below meth c H locs 0 0 (MQ below (va_Qv Qr (BM D dA ad (AM dA ad σ0 sz)) (AM dA ad σ0 sz)) args s 0 0 (AM dA ad σ0 sz)) (F0 m 9 ls [])) : ∀ (v1 : Int32) (v2 : Int32) (v3 : Int32) (v4 : Int32) (v5 : Int32) (σ : St) (H : Heap) (locs : List Loc) (ls : Array Slot), wp_cut_153 Qr K9 v1 v2 v3 v4 v5 σ → wM D dA ad (AM dA ad σ0 sz) s σ H locs → lv_has ls 7 [(0, .ref (ad 0)), (1, .int v1), (2, .int v2), (3, .int v3), (4, .int v4), (5, .int v5)] → W p l e rm_cut s m args below meth c H locs 0 0 (MQ below (va_Qv Qr (BM D dA ad (AM dA ad σ0 sz)) (AM dA ad σ0 sz)) args s 0 0 (AM dA ad σ0 sz)) (F0 m 153 ls []) := by
  intro v1 v2 v3 v4 v5 σ H locs ls hw hM hl
  have hx := C.1
  have hb := C.2.1
  have hown := C.2.2.2.2.2.1
  have hts := C.2.2.2.2.2.2.1
  unfold wp_cut_153 at hw
  refine lv_iload_n hx hb dX10_cut_153 rfl (lv_at hl 3 rfl) ?_
  refine lv_bipush (v := 60) hx hb dX10_cut_154 (by decide) ?_
  refine lv_icmp_eq (tgt := 165) hx hb dX10_cut_156 (by decide) (fun hc => ?_) (fun hc => ?_)
  · have hw := hw.1 hc
    exact wk_cut_165 C hK9 v1 v2 v3 v5 σ _ _ ls hw hM (lv_sub hl [0, 1, 2, 3, 5] rfl)
  · have hw := hw.2 hc
    refine lv_iload_n hx hb dX10_cut_159 rfl (lv_at hl 3 rfl) ?_
    refine lv_bipush (v := 62) hx hb dX10_cut_160 (by decide) ?_
    refine lv_icmp_ne (tgt := 205) hx hb dX10_cut_162 (by decide) (fun hc => ?_) (fun hc => ?_)
    · have hw := hw.1 hc
      refine lv_iload_n hx hb dX10_cut_205 rfl (lv_at hl 3 rfl) ?_
      refine lv_bipush (v := 43) hx hb dX10_cut_206 (by decide) ?_
      refine lv_icmp_ne (tgt := 215) hx hb dX10_cut_208 (by decide) (fun hc => ?_) (fun hc => ?_)
      · have hw := hw.1 hc
        refine lv_iload_n hx hb dX10_cut_215 rfl (lv_at hl 3 rfl) ?_
        refine lv_bipush (v := 45) hx hb dX10_cut_216 (by decide) ?_
        refine lv_icmp_ne (tgt := 225) hx hb dX10_cut_218 (by decide) (fun hc => ?_) (fun hc => ?_)
        · have hw := hw.1 hc
          refine lv_iload_n hx hb dX10_cut_225 rfl (lv_at hl 3 rfl) ?_
          refine lv_bipush (v := 42) hx hb dX10_cut_226 (by decide) ?_
          refine lv_icmp_ne (tgt := 235) hx hb dX10_cut_228 (by decide) (fun hc => ?_) (fun hc => ?_)
          · have hw := hw.1 hc
            refine lv_iload_n hx hb dX10_cut_235 rfl (lv_at hl 3 rfl) ?_
            refine lv_bipush (v := 59) hx hb dX10_cut_236 (by decide) ?_
            refine lv_icmp_ne (tgt := 246) hx hb dX10_cut_238 (by decide) (fun hc => ?_) (fun hc => ?_)
            · have hw := hw.1 hc
              refine lv_iload_n hx hb dX10_cut_246 rfl (lv_at hl 3 rfl) ?_
              refine lv_bipush (v := 61) hx hb dX10_cut_247 (by decide) ?_
              refine lv_icmp_ne (tgt := 257) hx hb dX10_cut_249 (by decide) (fun hc => ?_) (fun hc => ?_)
              · have hw := hw.1 hc
                refine lv_bipush (v := 10) hx hb dX10_cut_257 (by decide) ?_
                exact wk_cut_259 C hK9 v1 v2 v3 v4 v5 10 σ _ _ ls hw hM (lv_sub hl [0, 1, 2, 3, 4, 5] rfl)
              · have hw := hw.2 hc
                refine lv_bipush (v := 7) hx hb dX10_cut_252 (by decide) ?_
                refine lv_goto (tgt := 259) hx hb dX10_cut_254 (by decide) ?_
                exact wk_cut_259 C hK9 v1 v2 v3 v4 v5 7 σ _ _ ls hw hM (lv_sub hl [0, 1, 2, 3, 4, 5] rfl)
            · have hw := hw.2 hc
              refine lv_bipush (v := 6) hx hb dX10_cut_241 (by decide) ?_
              refine lv_goto (tgt := 259) hx hb dX10_cut_243 (by decide) ?_
              exact wk_cut_259 C hK9 v1 v2 v3 v4 v5 6 σ _ _ ls hw hM (lv_sub hl [0, 1, 2, 3, 4, 5] rfl)
          · have hw := hw.2 hc
            refine lv_iconst (v := 5) hx hb dX10_cut_231 (by decide) ?_
            refine lv_goto (tgt := 259) hx hb dX10_cut_232 (by decide) ?_
            exact wk_cut_259 C hK9 v1 v2 v3 v4 v5 5 σ _ _ ls hw hM (lv_sub hl [0, 1, 2, 3, 4, 5] rfl)
        · have hw := hw.2 hc
          refine lv_iconst (v := 4) hx hb dX10_cut_221 (by decide) ?_
          refine lv_goto (tgt := 259) hx hb dX10_cut_222 (by decide) ?_
          exact wk_cut_259 C hK9 v1 v2 v3 v4 v5 4 σ _ _ ls hw hM (lv_sub hl [0, 1, 2, 3, 4, 5] rfl)
      · have hw := hw.2 hc
        refine lv_iconst (v := 3) hx hb dX10_cut_211 (by decide) ?_
        refine lv_goto (tgt := 259) hx hb dX10_cut_212 (by decide) ?_
        exact wk_cut_259 C hK9 v1 v2 v3 v4 v5 3 σ _ _ ls hw hM (lv_sub hl [0, 1, 2, 3, 4, 5] rfl)
    · have hw := hw.2 hc
      exact wk_cut_165 C hK9 v1 v2 v3 v5 σ _ _ ls hw hM (lv_sub hl [0, 1, 2, 3, 5] rfl)
set_option maxHeartbeats 4000000 in
theorem wk_cut_132 {p : Program} {l : Launch} {e : Env} {s : State} {m : MethodId} {args : Array Value} {below : List Frame} {meth : Method} {c : Code} {D : va_G} {dA : Nat → ClassId} {ad : Nat → Nat} {σ0 : St} {sz : Nat} (C : CxM p s m meth c args (AM dA ad σ0 sz) RX10 cX10_cut 7 none) {Qr : St → Prop} {K9 : Int32 → Int32 → St → Prop} (hK9 : ∀ (v1 : Int32) (v2 : Int32) (σ : St) (H : Heap) (locs : List Loc) (ls : Array Slot), K9 v1 v2 σ → wM D dA ad (AM dA ad σ0 sz) s σ H locs → lv_has ls 7 [(0, .ref (ad 0)), (1, .int v1), (2, .int v2)] → W p l e rm_cut s m args below meth c H locs 0 0 (MQ below (va_Qv Qr (BM D dA ad (AM dA ad σ0 sz)) (AM dA ad σ0 sz)) args s 0 0 (AM dA ad σ0 sz)) (F0 m 9 ls [])) : ∀ (v1 : Int32) (v2 : Int32) (v3 : Int32) (v4 : Int32) (v5 : Int32) (σ : St) (H : Heap) (locs : List Loc) (ls : Array Slot), wp_cut_132 Qr K9 v1 v2 v3 v4 v5 σ → wM D dA ad (AM dA ad σ0 sz) s σ H locs → lv_has ls 7 [(0, .ref (ad 0)), (1, .int v1), (2, .int v2), (3, .int v3), (4, .int v4), (5, .int v5)] → W p l e rm_cut s m args below meth c H locs 0 0 (MQ below (va_Qv Qr (BM D dA ad (AM dA ad σ0 sz)) (AM dA ad σ0 sz)) args s 0 0 (AM dA ad σ0 sz)) (F0 m 132 ls []) := by
  intro v1 v2 v3 v4 v5 σ H locs ls hw hM hl
  have hx := C.1
  have hb := C.2.1
  have hown := C.2.2.2.2.2.1
  have hts := C.2.2.2.2.2.2.1
  unfold wp_cut_132 at hw
  refine lv_iload_n hx hb dX10_cut_132 rfl (lv_at hl 3 rfl) ?_
  refine lv_bipush (v := 97) hx hb dX10_cut_133 (by decide) ?_
  refine lv_icmp_lt (tgt := 153) hx hb dX10_cut_135 (by decide) (fun hc => ?_) (fun hc => ?_)
  · have hw := hw.1 hc
    exact wk_cut_153 C hK9 v1 v2 v3 v4 v5 σ _ _ ls hw hM (lv_sub hl [0, 1, 2, 3, 4, 5] rfl)
  · have hw := hw.2 hc
    refine lv_iload_n hx hb dX10_cut_138 rfl (lv_at hl 3 rfl) ?_
    refine lv_bipush (v := 122) hx hb dX10_cut_139 (by decide) ?_
    refine lv_icmp_gt (tgt := 153) hx hb dX10_cut_141 (by decide) (fun hc => ?_) (fun hc => ?_)
    · have hw := hw.1 hc
      exact wk_cut_153 C hK9 v1 v2 v3 v4 v5 σ _ _ ls hw hM (lv_sub hl [0, 1, 2, 3, 4, 5] rfl)
    · have hw := hw.2 hc
      refine lv_iconst (v := 2) hx hb dX10_cut_144 (by decide) ?_
      refine lv_istore (lv' := [(6, .int 2), (0, .ref (ad 0)), (1, .int v1), (2, .int v2), (3, .int v3), (4, .int v4), (5, .int v5)]) hx hb dX10_cut_145 hl (by decide) rfl (fun ls hl => ?_)
      refine lv_iload_n hx hb dX10_cut_147 rfl (lv_at hl 4 rfl) ?_
      refine lv_istore (lv' := [(5, .int v3), (6, .int 2), (0, .ref (ad 0)), (1, .int v1), (2, .int v2), (3, .int v3), (4, .int v4)]) hx hb dX10_cut_148 hl (by decide) rfl (fun ls hl => ?_)
      refine lv_goto (tgt := 261) hx hb dX10_cut_150 (by decide) ?_
      exact wk_cut_261 C hK9 v1 v2 v3 v4 v3 2 σ _ _ ls hw hM (lv_sub hl [2, 3, 4, 5, 6, 0, 1] rfl)
set_option maxHeartbeats 4000000 in
theorem wk_cut_127 {p : Program} {l : Launch} {e : Env} {s : State} {m : MethodId} {args : Array Value} {below : List Frame} {meth : Method} {c : Code} {D : va_G} {dA : Nat → ClassId} {ad : Nat → Nat} {σ0 : St} {sz : Nat} (C : CxM p s m meth c args (AM dA ad σ0 sz) RX10 cX10_cut 7 none) {Qr : St → Prop} {K9 : Int32 → Int32 → St → Prop} (hK9 : ∀ (v1 : Int32) (v2 : Int32) (σ : St) (H : Heap) (locs : List Loc) (ls : Array Slot), K9 v1 v2 σ → wM D dA ad (AM dA ad σ0 sz) s σ H locs → lv_has ls 7 [(0, .ref (ad 0)), (1, .int v1), (2, .int v2)] → W p l e rm_cut s m args below meth c H locs 0 0 (MQ below (va_Qv Qr (BM D dA ad (AM dA ad σ0 sz)) (AM dA ad σ0 sz)) args s 0 0 (AM dA ad σ0 sz)) (F0 m 9 ls [])) : ∀ (v1 : Int32) (v2 : Int32) (v3 : Int32) (v4 : Int32) (v5 : Int32) (u0 : Int32) (σ : St) (H : Heap) (locs : List Loc) (ls : Array Slot), wp_cut_127 Qr K9 v1 v2 v3 v4 v5 u0 σ → wM D dA ad (AM dA ad σ0 sz) s σ H locs → lv_has ls 7 [(0, .ref (ad 0)), (1, .int v1), (2, .int v2), (3, .int v3), (4, .int v4), (5, .int v5)] → W p l e rm_cut s m args below meth c H locs 0 0 (MQ below (va_Qv Qr (BM D dA ad (AM dA ad σ0 sz)) (AM dA ad σ0 sz)) args s 0 0 (AM dA ad σ0 sz)) (F0 m 127 ls [.int u0]) := by
  intro v1 v2 v3 v4 v5 u0 σ H locs ls hw hM hl
  have hx := C.1
  have hb := C.2.1
  have hown := C.2.2.2.2.2.1
  have hts := C.2.2.2.2.2.2.1
  unfold wp_cut_127 at hw
  refine lv_istore (lv' := [(6, .int u0), (0, .ref (ad 0)), (1, .int v1), (2, .int v2), (3, .int v3), (4, .int v4), (5, .int v5)]) hx hb dX10_cut_127 hl (by decide) rfl (fun ls hl => ?_)
  refine lv_goto (tgt := 261) hx hb dX10_cut_129 (by decide) ?_
  exact wk_cut_261 C hK9 v1 v2 v3 v4 v5 u0 σ _ _ ls hw hM (lv_sub hl [1, 2, 3, 4, 5, 6, 0] rfl)
set_option maxHeartbeats 4000000 in
theorem wk_cut_113 {p : Program} {l : Launch} {e : Env} {s : State} {m : MethodId} {args : Array Value} {below : List Frame} {meth : Method} {c : Code} {D : va_G} {dA : Nat → ClassId} {ad : Nat → Nat} {σ0 : St} {sz : Nat} (C : CxM p s m meth c args (AM dA ad σ0 sz) RX10 cX10_cut 7 none) {Qr : St → Prop} {K9 : Int32 → Int32 → St → Prop} (hK9 : ∀ (v1 : Int32) (v2 : Int32) (σ : St) (H : Heap) (locs : List Loc) (ls : Array Slot), K9 v1 v2 σ → wM D dA ad (AM dA ad σ0 sz) s σ H locs → lv_has ls 7 [(0, .ref (ad 0)), (1, .int v1), (2, .int v2)] → W p l e rm_cut s m args below meth c H locs 0 0 (MQ below (va_Qv Qr (BM D dA ad (AM dA ad σ0 sz)) (AM dA ad σ0 sz)) args s 0 0 (AM dA ad σ0 sz)) (F0 m 9 ls [])) : ∀ (v1 : Int32) (v2 : Int32) (v3 : Int32) (v4 : Int32) (v5 : Int32) (σ : St) (H : Heap) (locs : List Loc) (ls : Array Slot), wp_cut_113 Qr K9 v1 v2 v3 v4 v5 σ → wM D dA ad (AM dA ad σ0 sz) s σ H locs → lv_has ls 7 [(0, .ref (ad 0)), (1, .int v1), (2, .int v2), (3, .int v3), (4, .int v4), (5, .int v5)] → W p l e rm_cut s m args below meth c H locs 0 0 (MQ below (va_Qv Qr (BM D dA ad (AM dA ad σ0 sz)) (AM dA ad σ0 sz)) args s 0 0 (AM dA ad σ0 sz)) (F0 m 113 ls []) := by
  intro v1 v2 v3 v4 v5 σ H locs ls hw hM hl
  have hx := C.1
  have hb := C.2.1
  have hown := C.2.2.2.2.2.1
  have hts := C.2.2.2.2.2.2.1
  unfold wp_cut_113 at hw
  refine lv_iload hx hb dX10_cut_113 (lv_at hl 4 rfl) ?_
  refine lv_iload_n hx hb dX10_cut_115 rfl (lv_at hl 1 rfl) ?_
  refine lv_isub hx hb dX10_cut_116 ?_
  refine lv_iconst (v := 4) hx hb dX10_cut_117 (by decide) ?_
  refine lv_icmp_le (tgt := 126) hx hb dX10_cut_118 (by decide) (fun hc => ?_) (fun hc => ?_)
  · have hw := hw.1 hc
    refine lv_iconst (v := 1) hx hb dX10_cut_126 (by decide) ?_
    exact wk_cut_127 C hK9 v1 v2 v3 v4 v5 1 σ _ _ ls hw hM (lv_sub hl [0, 1, 2, 3, 4, 5] rfl)
  · have hw := hw.2 hc
    refine lv_bipush (v := 10) hx hb dX10_cut_121 (by decide) ?_
    refine lv_goto (tgt := 127) hx hb dX10_cut_123 (by decide) ?_
    exact wk_cut_127 C hK9 v1 v2 v3 v4 v5 10 σ _ _ ls hw hM (lv_sub hl [0, 1, 2, 3, 4, 5] rfl)
set_option maxHeartbeats 4000000 in
theorem wk_cut_105 {p : Program} {l : Launch} {e : Env} {s : State} {m : MethodId} {args : Array Value} {below : List Frame} {meth : Method} {c : Code} {D : va_G} {dA : Nat → ClassId} {ad : Nat → Nat} {σ0 : St} {sz : Nat} (C : CxM p s m meth c args (AM dA ad σ0 sz) RX10 cX10_cut 7 none) {Qr : St → Prop} {K9 : Int32 → Int32 → St → Prop} (hK9 : ∀ (v1 : Int32) (v2 : Int32) (σ : St) (H : Heap) (locs : List Loc) (ls : Array Slot), K9 v1 v2 σ → wM D dA ad (AM dA ad σ0 sz) s σ H locs → lv_has ls 7 [(0, .ref (ad 0)), (1, .int v1), (2, .int v2)] → W p l e rm_cut s m args below meth c H locs 0 0 (MQ below (va_Qv Qr (BM D dA ad (AM dA ad σ0 sz)) (AM dA ad σ0 sz)) args s 0 0 (AM dA ad σ0 sz)) (F0 m 9 ls [])) {K55 : Int32 → Int32 → Int32 → Int32 → Int32 → St → Prop} (hK55 : ∀ (v1 : Int32) (v2 : Int32) (v3 : Int32) (v4 : Int32) (v5 : Int32) (σ : St) (H : Heap) (locs : List Loc) (ls : Array Slot), K55 v1 v2 v3 v4 v5 σ → wM D dA ad (AM dA ad σ0 sz) s σ H locs → lv_has ls 7 [(0, .ref (ad 0)), (1, .int v1), (2, .int v2), (3, .int v3), (4, .int v4), (5, .int v5)] → W p l e rm_cut s m args below meth c H locs 0 0 (MQ below (va_Qv Qr (BM D dA ad (AM dA ad σ0 sz)) (AM dA ad σ0 sz)) args s 0 0 (AM dA ad σ0 sz)) (F0 m 55 ls [])) : ∀ (v1 : Int32) (v2 : Int32) (v3 : Int32) (v4 : Int32) (u0 : Int32) (σ : St) (H : Heap) (locs : List Loc) (ls : Array Slot), wp_cut_105 Qr K9 K55 v1 v2 v3 v4 u0 σ → wM D dA ad (AM dA ad σ0 sz) s σ H locs → lv_has ls 7 [(0, .ref (ad 0)), (1, .int v1), (2, .int v2), (3, .int v3), (4, .int v4)] → W p l e rm_cut s m args below meth c H locs 0 0 (MQ below (va_Qv Qr (BM D dA ad (AM dA ad σ0 sz)) (AM dA ad σ0 sz)) args s 0 0 (AM dA ad σ0 sz)) (F0 m 105 ls [.int u0]) := by
  intro v1 v2 v3 v4 u0 σ H locs ls hw hM hl
  have hx := C.1
  have hb := C.2.1
  have hown := C.2.2.2.2.2.1
  have hts := C.2.2.2.2.2.2.1
  unfold wp_cut_105 at hw
  refine lv_istore (lv' := [(5, .int u0), (0, .ref (ad 0)), (1, .int v1), (2, .int v2), (3, .int v3), (4, .int v4)]) hx hb dX10_cut_105 hl (by decide) rfl (fun ls hl => ?_)
  obtain ⟨x1, ex1⟩ : ∃ y : Int32, y = v4 + 1 := ⟨_, rfl⟩
  have hw := hw x1 ex1
  refine lv_iinc (v := x1) (lv' := [(4, .int x1), (5, .int u0), (0, .ref (ad 0)), (1, .int v1), (2, .int v2), (3, .int v3)]) hx hb dX10_cut_107 hl (k := 5) rfl (by rw [ex1]; rfl) (by decide) rfl (fun ls hl => ?_)
  refine lv_goto (tgt := 55) hx hb dX10_cut_110 (by decide) ?_
  exact hK55 v1 v2 v3 x1 u0 σ _ _ ls hw hM (lv_sub hl [2, 3, 4, 5, 0, 1] rfl)
set_option maxHeartbeats 4000000 in
theorem wk_cut_55 {p : Program} {l : Launch} {e : Env} {s : State} {m : MethodId} {args : Array Value} {below : List Frame} {meth : Method} {c : Code} {D : va_G} {dA : Nat → ClassId} {ad : Nat → Nat} {σ0 : St} {sz : Nat} (C : CxM p s m meth c args (AM dA ad σ0 sz) RX10 cX10_cut 7 none) {Qr : St → Prop} {K9 : Int32 → Int32 → St → Prop} (hK9 : ∀ (v1 : Int32) (v2 : Int32) (σ : St) (H : Heap) (locs : List Loc) (ls : Array Slot), K9 v1 v2 σ → wM D dA ad (AM dA ad σ0 sz) s σ H locs → lv_has ls 7 [(0, .ref (ad 0)), (1, .int v1), (2, .int v2)] → W p l e rm_cut s m args below meth c H locs 0 0 (MQ below (va_Qv Qr (BM D dA ad (AM dA ad σ0 sz)) (AM dA ad σ0 sz)) args s 0 0 (AM dA ad σ0 sz)) (F0 m 9 ls [])) : ∀ (n : Nat) (v1 : Int32) (v2 : Int32) (v3 : Int32) (v4 : Int32) (v5 : Int32) (σ : St) (H : Heap) (locs : List Loc) (ls : Array Slot), wp_cut_55 Qr K9 n v1 v2 v3 v4 v5 σ → wM D dA ad (AM dA ad σ0 sz) s σ H locs → lv_has ls 7 [(0, .ref (ad 0)), (1, .int v1), (2, .int v2), (3, .int v3), (4, .int v4), (5, .int v5)] → W p l e rm_cut s m args below meth c H locs 0 0 (MQ below (va_Qv Qr (BM D dA ad (AM dA ad σ0 sz)) (AM dA ad σ0 sz)) args s 0 0 (AM dA ad σ0 sz)) (F0 m 55 ls []) := by
  intro n
  induction n with
  | zero => intro v1 v2 v3 v4 v5 σ H locs ls hw; exact hw.elim
  | succ n55 ih =>
    intro v1 v2 v3 v4 v5 σ H locs ls hw hM hl
    have hx := C.1
    have hb := C.2.1
    have hown := C.2.2.2.2.2.1
    have hts := C.2.2.2.2.2.2.1
    unfold wp_cut_55 at hw
    refine lv_aload_n hx hb dX10_cut_55 rfl (lv_at hl 0 rfl) ?_
    refine lv_iload hx hb dX10_cut_56 (lv_at hl 4 rfl) ?_
    refine rM_callVi (n := 1) (As := [.int v4]) C hM hl.1 (mt_letter0 l D dA ad _ σ v4 _ hw) (lw_V q1519 q1521 qs47 q93 q1522) rfl rfl (by decide +kernel) ⟨Nat.le_of_ble_eq_true rfl, Nat.le_of_ble_eq_true rfl⟩ rfl (Nat.le_of_ble_eq_true rfl) ⟨Nat.zero_le _, Nat.zero_le _⟩ rfl dX10_cut_58 (fun x2 σ1 H locs hw hM => ?_)
    refine lv_bipush (v := 48) hx hb dX10_cut_61 (by decide) ?_
    refine lv_icmp_lt (tgt := 113) hx hb dX10_cut_63 (by decide) (fun hc => ?_) (fun hc => ?_)
    · have hw := hw.1 hc
      exact wk_cut_113 C hK9 v1 v2 v3 v4 v5 σ1 _ _ ls hw hM (lv_sub hl [0, 1, 2, 3, 4, 5] rfl)
    · have hw := hw.2 hc
      refine lv_aload_n hx hb dX10_cut_66 rfl (lv_at hl 0 rfl) ?_
      refine lv_iload hx hb dX10_cut_67 (lv_at hl 4 rfl) ?_
      refine rM_callVi (n := 1) (As := [.int v4]) C hM hl.1 (mt_letter0 l D dA ad _ σ1 v4 _ hw) (lw_V q1519 q1521 qs47 q93 q1522) rfl rfl (by decide +kernel) ⟨Nat.le_of_ble_eq_true rfl, Nat.le_of_ble_eq_true rfl⟩ rfl (Nat.le_of_ble_eq_true rfl) ⟨Nat.zero_le _, Nat.zero_le _⟩ rfl dX10_cut_69 (fun x4 σ3 H locs hw hM => ?_)
      refine lv_bipush (v := 57) hx hb dX10_cut_72 (by decide) ?_
      refine lv_icmp_gt (tgt := 113) hx hb dX10_cut_74 (by decide) (fun hc => ?_) (fun hc => ?_)
      · have hw := hw.1 hc
        exact wk_cut_113 C hK9 v1 v2 v3 v4 v5 σ3 _ _ ls hw hM (lv_sub hl [0, 1, 2, 3, 4, 5] rfl)
      · have hw := hw.2 hc
        refine lv_iload hx hb dX10_cut_77 (lv_at hl 4 rfl) ?_
        refine lv_iload_n hx hb dX10_cut_79 rfl (lv_at hl 1 rfl) ?_
        refine lv_isub hx hb dX10_cut_80 ?_
        refine lv_iconst (v := 5) hx hb dX10_cut_81 (by decide) ?_
        refine lv_icmp_ge (tgt := 103) hx hb dX10_cut_82 (by decide) (fun hc => ?_) (fun hc => ?_)
        · have hw := hw.1 hc
          refine lv_iload hx hb dX10_cut_103 (lv_at hl 5 rfl) ?_
          exact wk_cut_105 C hK9 ih v1 v2 v3 v4 v5 σ3 _ _ ls hw hM (lv_sub hl [0, 1, 2, 3, 4] rfl)
        · have hw := hw.2 hc
          refine lv_bipush (v := 10) hx hb dX10_cut_85 (by decide) ?_
          refine lv_iload hx hb dX10_cut_87 (lv_at hl 5 rfl) ?_
          refine lv_imul hx hb dX10_cut_89 ?_
          refine lv_aload_n hx hb dX10_cut_90 rfl (lv_at hl 0 rfl) ?_
          refine lv_iload hx hb dX10_cut_91 (lv_at hl 4 rfl) ?_
          refine rM_callVi (n := 1) (As := [.int v4]) C hM hl.1 (mt_letter0 l D dA ad _ σ3 v4 _ hw) (lw_V q1519 q1521 qs47 q93 q1522) rfl rfl (by decide +kernel) ⟨Nat.le_of_ble_eq_true rfl, Nat.le_of_ble_eq_true rfl⟩ rfl (Nat.le_of_ble_eq_true rfl) ⟨Nat.zero_le _, Nat.zero_le _⟩ rfl dX10_cut_93 (fun x6 σ5 H locs hw hM => ?_)
          refine lv_iadd hx hb dX10_cut_96 ?_
          refine lv_bipush (v := 48) hx hb dX10_cut_97 (by decide) ?_
          refine lv_isub hx hb dX10_cut_99 ?_
          refine lv_goto (tgt := 105) hx hb dX10_cut_100 (by decide) ?_
          exact wk_cut_105 C hK9 ih v1 v2 v3 v4 ((((10 * v5) + x6) - 48)) σ5 _ _ ls hw hM (lv_sub hl [0, 1, 2, 3, 4] rfl)
set_option maxHeartbeats 4000000 in
theorem wk_cut_9 {p : Program} {l : Launch} {e : Env} {s : State} {m : MethodId} {args : Array Value} {below : List Frame} {meth : Method} {c : Code} {D : va_G} {dA : Nat → ClassId} {ad : Nat → Nat} {σ0 : St} {sz : Nat} (C : CxM p s m meth c args (AM dA ad σ0 sz) RX10 cX10_cut 7 none) {Qr : St → Prop} : ∀ (n : Nat) (v1 : Int32) (v2 : Int32) (σ : St) (H : Heap) (locs : List Loc) (ls : Array Slot), wp_cut_9 Qr n v1 v2 σ → wM D dA ad (AM dA ad σ0 sz) s σ H locs → lv_has ls 7 [(0, .ref (ad 0)), (1, .int v1), (2, .int v2)] → W p l e rm_cut s m args below meth c H locs 0 0 (MQ below (va_Qv Qr (BM D dA ad (AM dA ad σ0 sz)) (AM dA ad σ0 sz)) args s 0 0 (AM dA ad σ0 sz)) (F0 m 9 ls []) := by
  intro n
  induction n with
  | zero => intro v1 v2 σ H locs ls hw; exact hw.elim
  | succ n9 ih =>
    intro v1 v2 σ H locs ls hw hM hl
    have hx := C.1
    have hb := C.2.1
    have hown := C.2.2.2.2.2.1
    have hts := C.2.2.2.2.2.2.1
    unfold wp_cut_9 at hw
    refine lv_iload_n hx hb dX10_cut_9 rfl (lv_at hl 2 rfl) ?_
    refine lv_if_eq (tgt := 295) hx hb dX10_cut_10 (by decide) (fun hc => ?_) (fun hc => ?_)
    · have hw := hw.1 hc
      exact wk_cut_295 C  v2 σ _ _ ls hw hM (lv_sub hl [0, 2] rfl)
    · have hw := hw.2 hc
      refine lv_iload_n hx hb dX10_cut_13 rfl (lv_at hl 1 rfl) ?_
      refine lv_aload_n hx hb dX10_cut_14 rfl (lv_at hl 0 rfl) ?_
      refine rM_get C hM 2 (by decide) (fM_2 ad σ) q1392 rfl dX10_cut_15 ?_
      refine lv_icmp_ge (tgt := 295) hx hb dX10_cut_18 (by decide) (fun hc => ?_) (fun hc => ?_)
      · have hw := hw.1 hc
        exact wk_cut_295 C  v2 σ _ _ ls hw hM (lv_sub hl [0, 2] rfl)
      · have hw := hw.2 hc
        refine lv_aload_n hx hb dX10_cut_21 rfl (lv_at hl 0 rfl) ?_
        refine rM_get C hM 1 (by decide) (fM_1 ad σ) q1391 rfl dX10_cut_22 ?_
        refine lv_iload_n hx hb dX10_cut_25 rfl (lv_at hl 1 rfl) ?_
        refine rM_iald C hM 1 1 (wM_1 dA ad σ) hw.1 dX10_cut_26 ?_
        have hw := hw.2
        refine lv_topi (fun x1 ex1 => ?_)
        have hw := hw x1 ex1
        refine lv_istore_n (lv' := [(3, .int x1), (0, .ref (ad 0)), (1, .int v1), (2, .int v2)]) hx hb dX10_cut_27 rfl hl (by decide) rfl (fun ls hl => ?_)
        refine lv_iload_n hx hb dX10_cut_28 rfl (lv_at hl 2 rfl) ?_
        refine lv_iconst (v := 1) hx hb dX10_cut_29 (by decide) ?_
        refine lv_iadd hx hb dX10_cut_30 ?_
        refine lv_topi (fun x2 ex2 => ?_)
        have hw := hw x2 ex2
        refine lv_istore (lv' := [(4, .int x2), (3, .int x1), (0, .ref (ad 0)), (1, .int v1), (2, .int v2)]) hx hb dX10_cut_31 hl (by decide) rfl (fun ls hl => ?_)
        refine lv_iconst (v := 0) hx hb dX10_cut_33 (by decide) ?_
        refine lv_istore (lv' := [(5, .int 0), (4, .int x2), (3, .int x1), (0, .ref (ad 0)), (1, .int v1), (2, .int v2)]) hx hb dX10_cut_34 hl (by decide) rfl (fun ls hl => ?_)
        refine lv_bipush (v := 10) hx hb dX10_cut_36 (by decide) ?_
        refine lv_istore (lv' := [(6, .int 10), (5, .int 0), (4, .int x2), (3, .int x1), (0, .ref (ad 0)), (1, .int v1), (2, .int v2)]) hx hb dX10_cut_38 hl (by decide) rfl (fun ls hl => ?_)
        refine lv_iload_n hx hb dX10_cut_40 rfl (lv_at hl 3 rfl) ?_
        refine lv_bipush (v := 48) hx hb dX10_cut_41 (by decide) ?_
        refine lv_icmp_lt (tgt := 132) hx hb dX10_cut_43 (by decide) (fun hc => ?_) (fun hc => ?_)
        · have hw := hw.1 hc
          exact wk_cut_132 C ih v1 v2 x1 x2 0 σ _ _ ls hw hM (lv_sub hl [4, 5, 6, 3, 2, 1] rfl)
        · have hw := hw.2 hc
          refine lv_iload_n hx hb dX10_cut_46 rfl (lv_at hl 3 rfl) ?_
          refine lv_bipush (v := 57) hx hb dX10_cut_47 (by decide) ?_
          refine lv_icmp_gt (tgt := 132) hx hb dX10_cut_49 (by decide) (fun hc => ?_) (fun hc => ?_)
          · have hw := hw.1 hc
            exact wk_cut_132 C ih v1 v2 x1 x2 0 σ _ _ ls hw hM (lv_sub hl [4, 5, 6, 3, 2, 1] rfl)
          · have hw := hw.2 hc
            refine lv_iload_n hx hb dX10_cut_52 rfl (lv_at hl 5 rfl) ?_
            refine lv_istore (lv' := [(4, .int v1), (6, .int 10), (5, .int 0), (3, .int x1), (0, .ref (ad 0)), (1, .int v1), (2, .int v2)]) hx hb dX10_cut_53 hl (by decide) rfl (fun ls hl => ?_)
            obtain ⟨n55, hw⟩ := hw
            exact wk_cut_55 C ih n55 v1 v2 x1 v1 0 σ _ _ ls hw hM (lv_sub hl [4, 5, 6, 3, 0, 2] rfl)
set_option maxHeartbeats 4000000 in
/-- private void cut(); -/
theorem mt_cut (l : Launch) (D : va_G) (dA : Nat → ClassId) (ad : Nat → Nat) (sz : Nat) (σ : St) (Qr : St → Prop) (hw : wp_cut  σ Qr) : Met l yX10_cut (ws_ yX10_cut cX10_cut 7 none) rm_cut (PcM D dA ad σ sz [.ref (ad 0)]) (va_Qv Qr (BM D dA ad (AM dA ad σ sz)) (AM dA ad σ sz)) 0 0 (AM dA ad σ sz) := by
  refine Met.ofW (cc := cX10_cut) (maxL := 7) (ret := none) (by decide) rfl ?_
  intro p e s m args below meth c s₁ B hml hv
  obtain ⟨rfl, hsz, hP, hK, hD0⟩ := hv
  subst hsz
  have hts0 := atoms_spec (ws := ws_ yX10_cut cX10_cut 7 none) B.pre
  have C : CxM p s m meth c _ (AM dA ad σ s.heap.size) RX10 cX10_cut 7 none := ⟨B.exec, B.bytes, B.returns, B.notSynchronized, hml, findClass_of_methodNamed B.named, fun w h => hts0 w (List.mem_cons_of_mem _ h), fun q h => Or.inr h⟩
  have hM : wM D dA ad (AM dA ad σ s.heap.size) s σ s.heap [] := ⟨hK, hP, hD0.self, va_S.rf⟩
  have hx := C.1
  have hb := C.2.1
  have hown := C.2.2.2.2.2.1
  have hts := C.2.2.2.2.2.2.1
  have hl := lv_entry ([.ref (ad 0)]) (n := 7) (Nat.le_of_ble_eq_true rfl)
  rw [lg_entry_eq]
  generalize (lg_sl ([.ref (ad 0)]) ++ List.replicate (7 - (lg_sl ([.ref (ad 0)])).length) Slot.unset).toArray = ls at hl ⊢
  have hl : lv_has ls 7 [(0, .ref (ad 0))] := hl
  unfold wp_cut at hw
  refine lv_aload_n hx hb dX10_cut_0 rfl (lv_at hl 0 rfl) ?_
  refine lv_iconst (v := 0) hx hb dX10_cut_1 (by decide) ?_
  refine rM_putI C hM 7 (by decide) (fM_s7 dA ad σ _) q1397 rfl rfl (tyX10_ok 7 (by decide)) rfl rfl dX10_cut_2 (fun σ1 H locs eσ hM => ?_)
  have hw := hw σ1 eσ
  clear eσ
  refine lv_iconst (v := 0) hx hb dX10_cut_5 (by decide) ?_
  refine lv_istore_n (lv' := [(1, .int 0), (0, .ref (ad 0))]) hx hb dX10_cut_6 rfl hl (by decide) rfl (fun ls hl => ?_)
  refine lv_iconst (v := 1) hx hb dX10_cut_7 (by decide) ?_
  refine lv_istore_n (lv' := [(2, .int 1), (1, .int 0), (0, .ref (ad 0))]) hx hb dX10_cut_8 rfl hl (by decide) rfl (fun ls hl => ?_)
  obtain ⟨n9, hw⟩ := hw
  exact wk_cut_9 C  n9 0 1 σ1 _ _ ls hw hM (lv_sub hl [2, 1, 0] rfl)
abbrev rm_bad : Room := { frames := 0, cells := 0, slots := 0, locals := 0 }
set_option maxHeartbeats 4000000 in
theorem wk_bad_203 {p : Program} {l : Launch} {e : Env} {s : State} {m : MethodId} {args : Array Value} {below : List Frame} {meth : Method} {c : Code} {D : va_G} {dA : Nat → ClassId} {ad : Nat → Nat} {σ0 : St} {sz : Nat} (C : CxM p s m meth c args (AM dA ad σ0 sz) RX10 cX10_bad 6 (some .int)) {Qr : Int32 → St → Prop} {K6 : Int32 → Int32 → Int32 → St → Prop} (hK6 : ∀ (v1 : Int32) (v2 : Int32) (v3 : Int32) (σ : St) (H : Heap) (locs : List Loc) (ls : Array Slot), K6 v1 v2 v3 σ → wM D dA ad (AM dA ad σ0 sz) s σ H locs → lv_has ls 6 [(0, .ref (ad 0)), (1, .int v1), (2, .int v2), (3, .int v3)] → W p l e rm_bad s m args below meth c H locs 0 0 (MQ below (va_Qi Qr (BM D dA ad (AM dA ad σ0 sz)) (AM dA ad σ0 sz)) args s 0 0 (AM dA ad σ0 sz)) (F0 m 6 ls [])) : ∀ (v1 : Int32) (v2 : Int32) (v3 : Int32) (σ : St) (H : Heap) (locs : List Loc) (ls : Array Slot), wp_bad_203 Qr K6 v1 v2 v3 σ → wM D dA ad (AM dA ad σ0 sz) s σ H locs → lv_has ls 6 [(0, .ref (ad 0)), (1, .int v1), (2, .int v2), (3, .int v3)] → W p l e rm_bad s m args below meth c H locs 0 0 (MQ below (va_Qi Qr (BM D dA ad (AM dA ad σ0 sz)) (AM dA ad σ0 sz)) args s 0 0 (AM dA ad σ0 sz)) (F0 m 203 ls []) := by
  intro v1 v2 v3 σ H locs ls hw hM hl
  have hx := C.1
  have hb := C.2.1
  have hown := C.2.2.2.2.2.1
  have hts := C.2.2.2.2.2.2.1
  unfold wp_bad_203 at hw
  obtain ⟨x1, ex1⟩ : ∃ y : Int32, y = v3 + 1 := ⟨_, rfl⟩
  have hw := hw x1 ex1
  refine lv_iinc (v := x1) (lv' := [(3, .int x1), (0, .ref (ad 0)), (1, .int v1), (2, .int v2)]) hx hb dX10_bad_203 hl (k := 3) rfl (by rw [ex1]; rfl) (by decide) rfl (fun ls hl => ?_)
  refine lv_goto (tgt := 6) hx hb dX10_bad_206 (by decide) ?_
  exact hK6 v1 v2 x1 σ _ _ ls hw hM (lv_sub hl [1, 2, 3, 0] rfl)
set_option maxHeartbeats 4000000 in
theorem wk_bad_201 {p : Program} {l : Launch} {e : Env} {s : State} {m : MethodId} {args : Array Value} {below : List Frame} {meth : Method} {c : Code} {D : va_G} {dA : Nat → ClassId} {ad : Nat → Nat} {σ0 : St} {sz : Nat} (C : CxM p s m meth c args (AM dA ad σ0 sz) RX10 cX10_bad 6 (some .int)) {Qr : Int32 → St → Prop} : ∀ (v3 : Int32) (σ : St) (H : Heap) (locs : List Loc) (ls : Array Slot), wp_bad_201 Qr v3 σ → wM D dA ad (AM dA ad σ0 sz) s σ H locs → lv_has ls 6 [(0, .ref (ad 0)), (3, .int v3)] → W p l e rm_bad s m args below meth c H locs 0 0 (MQ below (va_Qi Qr (BM D dA ad (AM dA ad σ0 sz)) (AM dA ad σ0 sz)) args s 0 0 (AM dA ad σ0 sz)) (F0 m 201 ls []) := by
  intro v3 σ H locs ls hw hM hl
  have hx := C.1
  have hb := C.2.1
  have hown := C.2.2.2.2.2.1
  have hts := C.2.2.2.2.2.2.1
  unfold wp_bad_201 at hw
  refine lv_iload_n hx hb dX10_bad_201 rfl (lv_at hl 1 rfl) ?_
  exact rM_iret C hM hw dX10_bad_202
set_option maxHeartbeats 4000000 in
theorem wk_bad_187 {p : Program} {l : Launch} {e : Env} {s : State} {m : MethodId} {args : Array Value} {below : List Frame} {meth : Method} {c : Code} {D : va_G} {dA : Nat → ClassId} {ad : Nat → Nat} {σ0 : St} {sz : Nat} (C : CxM p s m meth c args (AM dA ad σ0 sz) RX10 cX10_bad 6 (some .int)) {Qr : Int32 → St → Prop} {K6 : Int32 → Int32 → Int32 → St → Prop} (hK6 : ∀ (v1 : Int32) (v2 : Int32) (v3 : Int32) (σ : St) (H : Heap) (locs : List Loc) (ls : Array Slot), K6 v1 v2 v3 σ → wM D dA ad (AM dA ad σ0 sz) s σ H locs → lv_has ls 6 [(0, .ref (ad 0)), (1, .int v1), (2, .int v2), (3, .int v3)] → W p l e rm_bad s m args below meth c H locs 0 0 (MQ below (va_Qi Qr (BM D dA ad (AM dA ad σ0 sz)) (AM dA ad σ0 sz)) args s 0 0 (AM dA ad σ0 sz)) (F0 m 6 ls [])) : ∀ (v1 : Int32) (v2 : Int32) (v3 : Int32) (v4 : Int32) (v5 : Int32) (σ : St) (H : Heap) (locs : List Loc) (ls : Array Slot), wp_bad_187 Qr K6 v1 v2 v3 v4 v5 σ → wM D dA ad (AM dA ad σ0 sz) s σ H locs → lv_has ls 6 [(0, .ref (ad 0)), (1, .int v1), (2, .int v2), (3, .int v3), (4, .int v4), (5, .int v5)] → W p l e rm_bad s m args below meth c H locs 0 0 (MQ below (va_Qi Qr (BM D dA ad (AM dA ad σ0 sz)) (AM dA ad σ0 sz)) args s 0 0 (AM dA ad σ0 sz)) (F0 m 187 ls []) := by
  intro v1 v2 v3 v4 v5 σ H locs ls hw hM hl
  have hx := C.1
  have hb := C.2.1
  have hown := C.2.2.2.2.2.1
  have hts := C.2.2.2.2.2.2.1
  unfold wp_bad_187 at hw
  refine lv_iload hx hb dX10_bad_187 (lv_at hl 5 rfl) ?_
  refine lv_if_eq (tgt := 201) hx hb dX10_bad_189 (by decide) (fun hc => ?_) (fun hc => ?_)
  · have hw := hw.1 hc
    exact wk_bad_201 C  v3 σ _ _ ls hw hM (lv_sub hl [0, 3] rfl)
  · have hw := hw.2 hc
    refine lv_iload_n hx hb dX10_bad_192 rfl (lv_at hl 2 rfl) ?_
    refine lv_if_eq (tgt := 201) hx hb dX10_bad_193 (by decide) (fun hc => ?_) (fun hc => ?_)
    · have hw := hw.1 hc
      exact wk_bad_201 C  v3 σ _ _ ls hw hM (lv_sub hl [0, 3] rfl)
    · have hw := hw.2 hc
      refine lv_iload hx hb dX10_bad_196 (lv_at hl 4 rfl) ?_
      refine lv_if_eq (tgt := 203) hx hb dX10_bad_198 (by decide) (fun hc => ?_) (fun hc => ?_)
      · have hw := hw.1 hc
        exact wk_bad_203 C hK6 v1 v2 v3 σ _ _ ls hw hM (lv_sub hl [0, 1, 2, 3] rfl)
      · have hw := hw.2 hc
        exact wk_bad_201 C  v3 σ _ _ ls hw hM (lv_sub hl [0, 3] rfl)
set_option maxHeartbeats 4000000 in
theorem wk_bad_164 {p : Program} {l : Launch} {e : Env} {s : State} {m : MethodId} {args : Array Value} {below : List Frame} {meth : Method} {c : Code} {D : va_G} {dA : Nat → ClassId} {ad : Nat → Nat} {σ0 : St} {sz : Nat} (C : CxM p s m meth c args (AM dA ad σ0 sz) RX10 cX10_bad 6 (some .int)) {Qr : Int32 → St → Prop} {K6 : Int32 → Int32 → Int32 → St → Prop} (hK6 : ∀ (v1 : Int32) (v2 : Int32) (v3 : Int32) (σ : St) (H : Heap) (locs : List Loc) (ls : Array Slot), K6 v1 v2 v3 σ → wM D dA ad (AM dA ad σ0 sz) s σ H locs → lv_has ls 6 [(0, .ref (ad 0)), (1, .int v1), (2, .int v2), (3, .int v3)] → W p l e rm_bad s m args below meth c H locs 0 0 (MQ below (va_Qi Qr (BM D dA ad (AM dA ad σ0 sz)) (AM dA ad σ0 sz)) args s 0 0 (AM dA ad σ0 sz)) (F0 m 6 ls [])) : ∀ (v1 : Int32) (v2 : Int32) (v3 : Int32) (v4 : Int32) (v5 : Int32) (σ : St) (H : Heap) (locs : List Loc) (ls : Array Slot), wp_bad_164 Qr K6 v1 v2 v3 v4 v5 σ → wM D dA ad (AM dA ad σ0 sz) s σ H locs → lv_has ls 6 [(0, .ref (ad 0)), (1, .int v1), (2, .int v2), (3, .int v3), (4, .int v4), (5, .int v5)] → W p l e rm_bad s m args below meth c H locs 0 0 (MQ below (va_Qi Qr (BM D dA ad (AM dA ad σ0 sz)) (AM dA ad σ0 sz)) args s 0 0 (AM dA ad σ0 sz)) (F0 m 164 ls []) := by
  intro v1 v2 v3 v4 v5 σ H locs ls hw hM hl
  have hx := C.1
  have hb := C.2.1
  have hown := C.2.2.2.2.2.1
  have hts := C.2.2.2.2.2.2.1
  unfold wp_bad_164 at hw
  refine lv_iload hx hb dX10_bad_164 (lv_at hl 5 rfl) ?_
  refine lv_if_eq (tgt := 187) hx hb dX10_bad_166 (by decide) (fun hc => ?_) (fun hc => ?_)
  · have hw := hw.1 hc
    exact wk_bad_187 C hK6 v1 v2 v3 v4 v5 σ _ _ ls hw hM (lv_sub hl [0, 1, 2, 3, 4, 5] rfl)
  · have hw := hw.2 hc
    refine lv_iload_n hx hb dX10_bad_169 rfl (lv_at hl 2 rfl) ?_
    refine lv_if_eq (tgt := 187) hx hb dX10_bad_170 (by decide) (fun hc => ?_) (fun hc => ?_)
    · have hw := hw.1 hc
      exact wk_bad_187 C hK6 v1 v2 v3 v4 v5 σ _ _ ls hw hM (lv_sub hl [0, 1, 2, 3, 4, 5] rfl)
    · have hw := hw.2 hc
      refine lv_iload hx hb dX10_bad_173 (lv_at hl 4 rfl) ?_
      refine lv_bipush (v := 6) hx hb dX10_bad_175 (by decide) ?_
      refine lv_icmp_ne (tgt := 187) hx hb dX10_bad_177 (by decide) (fun hc => ?_) (fun hc => ?_)
      · have hw := hw.1 hc
        exact wk_bad_187 C hK6 v1 v2 v3 v4 v5 σ _ _ ls hw hM (lv_sub hl [0, 1, 2, 3, 4, 5] rfl)
      · have hw := hw.2 hc
        refine lv_iconst (v := 0) hx hb dX10_bad_180 (by decide) ?_
        refine lv_istore_n (lv' := [(2, .int 0), (0, .ref (ad 0)), (1, .int v1), (3, .int v3), (4, .int v4), (5, .int v5)]) hx hb dX10_bad_181 rfl hl (by decide) rfl (fun ls hl => ?_)
        refine lv_iconst (v := 0) hx hb dX10_bad_182 (by decide) ?_
        refine lv_istore_n (lv' := [(1, .int 0), (2, .int 0), (0, .ref (ad 0)), (3, .int v3), (4, .int v4), (5, .int v5)]) hx hb dX10_bad_183 rfl hl (by decide) rfl (fun ls hl => ?_)
        refine lv_goto (tgt := 203) hx hb dX10_bad_184 (by decide) ?_
        exact wk_bad_203 C hK6 0 0 v3 σ _ _ ls hw hM (lv_sub hl [2, 0, 1, 3] rfl)
set_option maxHeartbeats 4000000 in
theorem wk_bad_134 {p : Program} {l : Launch} {e : Env} {s : State} {m : MethodId} {args : Array Value} {below : List Frame} {meth : Method} {c : Code} {D : va_G} {dA : Nat → ClassId} {ad : Nat → Nat} {σ0 : St} {sz : Nat} (C : CxM p s m meth c args (AM dA ad σ0 sz) RX10 cX10_bad 6 (some .int)) {Qr : Int32 → St → Prop} {K6 : Int32 → Int32 → Int32 → St → Prop} (hK6 : ∀ (v1 : Int32) (v2 : Int32) (v3 : Int32) (σ : St) (H : Heap) (locs : List Loc) (ls : Array Slot), K6 v1 v2 v3 σ → wM D dA ad (AM dA ad σ0 sz) s σ H locs → lv_has ls 6 [(0, .ref (ad 0)), (1, .int v1), (2, .int v2), (3, .int v3)] → W p l e rm_bad s m args below meth c H locs 0 0 (MQ below (va_Qi Qr (BM D dA ad (AM dA ad σ0 sz)) (AM dA ad σ0 sz)) args s 0 0 (AM dA ad σ0 sz)) (F0 m 6 ls [])) : ∀ (v1 : Int32) (v2 : Int32) (v3 : Int32) (v4 : Int32) (v5 : Int32) (σ : St) (H : Heap) (locs : List Loc) (ls : Array Slot), wp_bad_134 Qr K6 v1 v2 v3 v4 v5 σ → wM D dA ad (AM dA ad σ0 sz) s σ H locs → lv_has ls 6 [(0, .ref (ad 0)), (1, .int v1), (2, .int v2), (3, .int v3), (4, .int v4), (5, .int v5)] → W p l e rm_bad s m args below meth c H locs 0 0 (MQ below (va_Qi Qr (BM D dA ad (AM dA ad σ0 sz)) (AM dA ad σ0 sz)) args s 0 0 (AM dA ad σ0 sz)) (F0 m 134 ls []) := by
  intro v1 v2 v3 v4 v5 σ H locs ls hw hM hl
  have hx := C.1
  have hb := C.2.1
  have hown := C.2.2.2.2.2.1
  have hts := C.2.2.2.2.2.2.1
  unfold wp_bad_134 at hw
  refine lv_iload hx hb dX10_bad_134 (lv_at hl 5 rfl) ?_
  refine lv_if_eq (tgt := 164) hx hb dX10_bad_136 (by decide) (fun hc => ?_) (fun hc => ?_)
  · have hw := hw.1 hc
    exact wk_bad_164 C hK6 v1 v2 v3 v4 v5 σ _ _ ls hw hM (lv_sub hl [0, 1, 2, 3, 4, 5] rfl)
  · have hw := hw.2 hc
    refine lv_iload_n hx hb dX10_bad_139 rfl (lv_at hl 2 rfl) ?_
    refine lv_if_ne (tgt := 164) hx hb dX10_bad_140 (by decide) (fun hc => ?_) (fun hc => ?_)
    · have hw := hw.1 hc
      exact wk_bad_164 C hK6 v1 v2 v3 v4 v5 σ _ _ ls hw hM (lv_sub hl [0, 1, 2, 3, 4, 5] rfl)
    · have hw := hw.2 hc
      refine lv_iload hx hb dX10_bad_143 (lv_at hl 4 rfl) ?_
      refine lv_bipush (v := 7) hx hb dX10_bad_145 (by decide) ?_
      refine lv_icmp_lt (tgt := 164) hx hb dX10_bad_147 (by decide) (fun hc => ?_) (fun hc => ?_)
      · have hw := hw.1 hc
        exact wk_bad_164 C hK6 v1 v2 v3 v4 v5 σ _ _ ls hw hM (lv_sub hl [0, 1, 2, 3, 4, 5] rfl)
      · have hw := hw.2 hc
        refine lv_iload hx hb dX10_bad_150 (lv_at hl 4 rfl) ?_
        refine lv_bipush (v := 9) hx hb dX10_bad_152 (by decide) ?_
        refine lv_icmp_gt (tgt := 164) hx hb dX10_bad_154 (by decide) (fun hc => ?_) (fun hc => ?_)
        · have hw := hw.1 hc
          exact wk_bad_164 C hK6 v1 v2 v3 v4 v5 σ _ _ ls hw hM (lv_sub hl [0, 1, 2, 3, 4, 5] rfl)
        · have hw := hw.2 hc
          refine lv_iconst (v := 1) hx hb dX10_bad_157 (by decide) ?_
          refine lv_istore_n (lv' := [(2, .int 1), (0, .ref (ad 0)), (1, .int v1), (3, .int v3), (4, .int v4), (5, .int v5)]) hx hb dX10_bad_158 rfl hl (by decide) rfl (fun ls hl => ?_)
          refine lv_iconst (v := 0) hx hb dX10_bad_159 (by decide) ?_
          refine lv_istore_n (lv' := [(1, .int 0), (2, .int 1), (0, .ref (ad 0)), (3, .int v3), (4, .int v4), (5, .int v5)]) hx hb dX10_bad_160 rfl hl (by decide) rfl (fun ls hl => ?_)
          refine lv_goto (tgt := 203) hx hb dX10_bad_161 (by decide) ?_
          exact wk_bad_203 C hK6 0 1 v3 σ _ _ ls hw hM (lv_sub hl [2, 0, 1, 3] rfl)
set_option maxHeartbeats 4000000 in
theorem wk_bad_129 {p : Program} {l : Launch} {e : Env} {s : State} {m : MethodId} {args : Array Value} {below : List Frame} {meth : Method} {c : Code} {D : va_G} {dA : Nat → ClassId} {ad : Nat → Nat} {σ0 : St} {sz : Nat} (C : CxM p s m meth c args (AM dA ad σ0 sz) RX10 cX10_bad 6 (some .int)) {Qr : Int32 → St → Prop} {K6 : Int32 → Int32 → Int32 → St → Prop} (hK6 : ∀ (v1 : Int32) (v2 : Int32) (v3 : Int32) (σ : St) (H : Heap) (locs : List Loc) (ls : Array Slot), K6 v1 v2 v3 σ → wM D dA ad (AM dA ad σ0 sz) s σ H locs → lv_has ls 6 [(0, .ref (ad 0)), (1, .int v1), (2, .int v2), (3, .int v3)] → W p l e rm_bad s m args below meth c H locs 0 0 (MQ below (va_Qi Qr (BM D dA ad (AM dA ad σ0 sz)) (AM dA ad σ0 sz)) args s 0 0 (AM dA ad σ0 sz)) (F0 m 6 ls [])) : ∀ (v2 : Int32) (v3 : Int32) (σ : St) (H : Heap) (locs : List Loc) (ls : Array Slot), wp_bad_129 Qr K6 v2 v3 σ → wM D dA ad (AM dA ad σ0 sz) s σ H locs → lv_has ls 6 [(0, .ref (ad 0)), (2, .int v2), (3, .int v3)] → W p l e rm_bad s m args below meth c H locs 0 0 (MQ below (va_Qi Qr (BM D dA ad (AM dA ad σ0 sz)) (AM dA ad σ0 sz)) args s 0 0 (AM dA ad σ0 sz)) (F0 m 129 ls []) := by
  intro v2 v3 σ H locs ls hw hM hl
  have hx := C.1
  have hb := C.2.1
  have hown := C.2.2.2.2.2.1
  have hts := C.2.2.2.2.2.2.1
  unfold wp_bad_129 at hw
  refine lv_iconst (v := 1) hx hb dX10_bad_129 (by decide) ?_
  refine lv_istore_n (lv' := [(1, .int 1), (0, .ref (ad 0)), (2, .int v2), (3, .int v3)]) hx hb dX10_bad_130 rfl hl (by decide) rfl (fun ls hl => ?_)
  refine lv_goto (tgt := 203) hx hb dX10_bad_131 (by decide) ?_
  exact wk_bad_203 C hK6 1 v2 v3 σ _ _ ls hw hM (lv_sub hl [1, 0, 2, 3] rfl)
set_option maxHeartbeats 4000000 in
theorem wk_bad_112 {p : Program} {l : Launch} {e : Env} {s : State} {m : MethodId} {args : Array Value} {below : List Frame} {meth : Method} {c : Code} {D : va_G} {dA : Nat → ClassId} {ad : Nat → Nat} {σ0 : St} {sz : Nat} (C : CxM p s m meth c args (AM dA ad σ0 sz) RX10 cX10_bad 6 (some .int)) {Qr : Int32 → St → Prop} {K6 : Int32 → Int32 → Int32 → St → Prop} (hK6 : ∀ (v1 : Int32) (v2 : Int32) (v3 : Int32) (σ : St) (H : Heap) (locs : List Loc) (ls : Array Slot), K6 v1 v2 v3 σ → wM D dA ad (AM dA ad σ0 sz) s σ H locs → lv_has ls 6 [(0, .ref (ad 0)), (1, .int v1), (2, .int v2), (3, .int v3)] → W p l e rm_bad s m args below meth c H locs 0 0 (MQ below (va_Qi Qr (BM D dA ad (AM dA ad σ0 sz)) (AM dA ad σ0 sz)) args s 0 0 (AM dA ad σ0 sz)) (F0 m 6 ls [])) : ∀ (v1 : Int32) (v2 : Int32) (v3 : Int32) (v4 : Int32) (v5 : Int32) (σ : St) (H : Heap) (locs : List Loc) (ls : Array Slot), wp_bad_112 Qr K6 v1 v2 v3 v4 v5 σ → wM D dA ad (AM dA ad σ0 sz) s σ H locs → lv_has ls 6 [(0, .ref (ad 0)), (1, .int v1), (2, .int v2), (3, .int v3), (4, .int v4), (5, .int v5)] → W p l e rm_bad s m args below meth c H locs 0 0 (MQ below (va_Qi Qr (BM D dA ad (AM dA ad σ0 sz)) (AM dA ad σ0 sz)) args s 0 0 (AM dA ad σ0 sz)) (F0 m 112 ls []) := by
  intro v1 v2 v3 v4 v5 σ H locs ls hw hM hl
  have hx := C.1
  have hb := C.2.1
  have hown := C.2.2.2.2.2.1
  have hts := C.2.2.2.2.2.2.1
  unfold wp_bad_112 at hw
  refine lv_iload hx hb dX10_bad_112 (lv_at hl 5 rfl) ?_
  refine lv_if_eq (tgt := 134) hx hb dX10_bad_114 (by decide) (fun hc => ?_) (fun hc => ?_)
  · have hw := hw.1 hc
    exact wk_bad_134 C hK6 v1 v2 v3 v4 v5 σ _ _ ls hw hM (lv_sub hl [0, 1, 2, 3, 4, 5] rfl)
  · have hw := hw.2 hc
    refine lv_iload hx hb dX10_bad_117 (lv_at hl 4 rfl) ?_
    refine lv_iconst (v := 3) hx hb dX10_bad_119 (by decide) ?_
    refine lv_icmp_eq (tgt := 129) hx hb dX10_bad_120 (by decide) (fun hc => ?_) (fun hc => ?_)
    · have hw := hw.1 hc
      exact wk_bad_129 C hK6 v2 v3 σ _ _ ls hw hM (lv_sub hl [0, 2, 3] rfl)
    · have hw := hw.2 hc
      refine lv_iload hx hb dX10_bad_123 (lv_at hl 4 rfl) ?_
      refine lv_iconst (v := 4) hx hb dX10_bad_125 (by decide) ?_
      refine lv_icmp_ne (tgt := 134) hx hb dX10_bad_126 (by decide) (fun hc => ?_) (fun hc => ?_)
      · have hw := hw.1 hc
        exact wk_bad_134 C hK6 v1 v2 v3 v4 v5 σ _ _ ls hw hM (lv_sub hl [0, 1, 2, 3, 4, 5] rfl)
      · have hw := hw.2 hc
        exact wk_bad_129 C hK6 v2 v3 σ _ _ ls hw hM (lv_sub hl [0, 2, 3] rfl)
set_option maxHeartbeats 4000000 in
theorem wk_bad_96 {p : Program} {l : Launch} {e : Env} {s : State} {m : MethodId} {args : Array Value} {below : List Frame} {meth : Method} {c : Code} {D : va_G} {dA : Nat → ClassId} {ad : Nat → Nat} {σ0 : St} {sz : Nat} (C : CxM p s m meth c args (AM dA ad σ0 sz) RX10 cX10_bad 6 (some .int)) {Qr : Int32 → St → Prop} {K6 : Int32 → Int32 → Int32 → St → Prop} (hK6 : ∀ (v1 : Int32) (v2 : Int32) (v3 : Int32) (σ : St) (H : Heap) (locs : List Loc) (ls : Array Slot), K6 v1 v2 v3 σ → wM D dA ad (AM dA ad σ0 sz) s σ H locs → lv_has ls 6 [(0, .ref (ad 0)), (1, .int v1), (2, .int v2), (3, .int v3)] → W p l e rm_bad s m args below meth c H locs 0 0 (MQ below (va_Qi Qr (BM D dA ad (AM dA ad σ0 sz)) (AM dA ad σ0 sz)) args s 0 0 (AM dA ad σ0 sz)) (F0 m 6 ls [])) : ∀ (v1 : Int32) (v2 : Int32) (v3 : Int32) (v4 : Int32) (v5 : Int32) (σ : St) (H : Heap) (locs : List Loc) (ls : Array Slot), wp_bad_96 Qr K6 v1 v2 v3 v4 v5 σ → wM D dA ad (AM dA ad σ0 sz) s σ H locs → lv_has ls 6 [(0, .ref (ad 0)), (1, .int v1), (2, .int v2), (3, .int v3), (4, .int v4), (5, .int v5)] → W p l e rm_bad s m args below meth c H locs 0 0 (MQ below (va_Qi Qr (BM D dA ad (AM dA ad σ0 sz)) (AM dA ad σ0 sz)) args s 0 0 (AM dA ad σ0 sz)) (F0 m 96 ls []) := by
  intro v1 v2 v3 v4 v5 σ H locs ls hw hM hl
  have hx := C.1
  have hb := C.2.1
  have hown := C.2.2.2.2.2.1
  have hts := C.2.2.2.2.2.2.1
  unfold wp_bad_96 at hw
  refine lv_iload_n hx hb dX10_bad_96 rfl (lv_at hl 1 rfl) ?_
  refine lv_iconst (v := 2) hx hb dX10_bad_97 (by decide) ?_
  refine lv_icmp_ne (tgt := 112) hx hb dX10_bad_98 (by decide) (fun hc => ?_) (fun hc => ?_)
  · have hw := hw.1 hc
    exact wk_bad_112 C hK6 v1 v2 v3 v4 v5 σ _ _ ls hw hM (lv_sub hl [0, 1, 2, 3, 4, 5] rfl)
  · have hw := hw.2 hc
    refine lv_iload hx hb dX10_bad_101 (lv_at hl 4 rfl) ?_
    refine lv_iconst (v := 5) hx hb dX10_bad_103 (by decide) ?_
    refine lv_icmp_ne (tgt := 112) hx hb dX10_bad_104 (by decide) (fun hc => ?_) (fun hc => ?_)
    · have hw := hw.1 hc
      exact wk_bad_112 C hK6 v1 v2 v3 v4 v5 σ _ _ ls hw hM (lv_sub hl [0, 1, 2, 3, 4, 5] rfl)
    · have hw := hw.2 hc
      refine lv_iconst (v := 3) hx hb dX10_bad_107 (by decide) ?_
      refine lv_istore_n (lv' := [(1, .int 3), (0, .ref (ad 0)), (2, .int v2), (3, .int v3), (4, .int v4), (5, .int v5)]) hx hb dX10_bad_108 rfl hl (by decide) rfl (fun ls hl => ?_)
      refine lv_goto (tgt := 203) hx hb dX10_bad_109 (by decide) ?_
      exact wk_bad_203 C hK6 3 v2 v3 σ _ _ ls hw hM (lv_sub hl [1, 0, 2, 3] rfl)
set_option maxHeartbeats 4000000 in
theorem wk_bad_81 {p : Program} {l : Launch} {e : Env} {s : State} {m : MethodId} {args : Array Value} {below : List Frame} {meth : Method} {c : Code} {D : va_G} {dA : Nat → ClassId} {ad : Nat → Nat} {σ0 : St} {sz : Nat} (C : CxM p s m meth c args (AM dA ad σ0 sz) RX10 cX10_bad 6 (some .int)) {Qr : Int32 → St → Prop} {K6 : Int32 → Int32 → Int32 → St → Prop} (hK6 : ∀ (v1 : Int32) (v2 : Int32) (v3 : Int32) (σ : St) (H : Heap) (locs : List Loc) (ls : Array Slot), K6 v1 v2 v3 σ → wM D dA ad (AM dA ad σ0 sz) s σ H locs → lv_has ls 6 [(0, .ref (ad 0)), (1, .int v1), (2, .int v2), (3, .int v3)] → W p l e rm_bad s m args below meth c H locs 0 0 (MQ below (va_Qi Qr (BM D dA ad (AM dA ad σ0 sz)) (AM dA ad σ0 sz)) args s 0 0 (AM dA ad σ0 sz)) (F0 m 6 ls [])) : ∀ (v1 : Int32) (v2 : Int32) (v3 : Int32) (v4 : Int32) (v5 : Int32) (σ : St) (H : Heap) (locs : List Loc) (ls : Array Slot), wp_bad_81 Qr K6 v1 v2 v3 v4 v5 σ → wM D dA ad (AM dA ad σ0 sz) s σ H locs → lv_has ls 6 [(0, .ref (ad 0)), (1, .int v1), (2, .int v2), (3, .int v3), (4, .int v4), (5, .int v5)] → W p l e rm_bad s m args below meth c H locs 0 0 (MQ below (va_Qi Qr (BM D dA ad (AM dA ad σ0 sz)) (AM dA ad σ0 sz)) args s 0 0 (AM dA ad σ0 sz)) (F0 m 81 ls []) := by
  intro v1 v2 v3 v4 v5 σ H locs ls hw hM hl
  have hx := C.1
  have hb := C.2.1
  have hown := C.2.2.2.2.2.1
  have hts := C.2.2.2.2.2.2.1
  unfold wp_bad_81 at hw
  refine lv_iload_n hx hb dX10_bad_81 rfl (lv_at hl 1 rfl) ?_
  refine lv_if_ne (tgt := 96) hx hb dX10_bad_82 (by decide) (fun hc => ?_) (fun hc => ?_)
  · have hw := hw.1 hc
    exact wk_bad_96 C hK6 v1 v2 v3 v4 v5 σ _ _ ls hw hM (lv_sub hl [0, 1, 2, 3, 4, 5] rfl)
  · have hw := hw.2 hc
    refine lv_iload hx hb dX10_bad_85 (lv_at hl 4 rfl) ?_
    refine lv_iconst (v := 4) hx hb dX10_bad_87 (by decide) ?_
    refine lv_icmp_ne (tgt := 96) hx hb dX10_bad_88 (by decide) (fun hc => ?_) (fun hc => ?_)
    · have hw := hw.1 hc
      exact wk_bad_96 C hK6 v1 v2 v3 v4 v5 σ _ _ ls hw hM (lv_sub hl [0, 1, 2, 3, 4, 5] rfl)
    · have hw := hw.2 hc
      refine lv_iconst (v := 1) hx hb dX10_bad_91 (by decide) ?_
      refine lv_istore_n (lv' := [(1, .int 1), (0, .ref (ad 0)), (2, .int v2), (3, .int v3), (4, .int v4), (5, .int v5)]) hx hb dX10_bad_92 rfl hl (by decide) rfl (fun ls hl => ?_)
      refine lv_goto (tgt := 203) hx hb dX10_bad_93 (by decide) ?_
      exact wk_bad_203 C hK6 1 v2 v3 σ _ _ ls hw hM (lv_sub hl [1, 0, 2, 3] rfl)
set_option maxHeartbeats 4000000 in
theorem wk_bad_70 {p : Program} {l : Launch} {e : Env} {s : State} {m : MethodId} {args : Array Value} {below : List Frame} {meth : Method} {c : Code} {D : va_G} {dA : Nat → ClassId} {ad : Nat → Nat} {σ0 : St} {sz : Nat} (C : CxM p s m meth c args (AM dA ad σ0 sz) RX10 cX10_bad 6 (some .int)) {Qr : Int32 → St → Prop} {K6 : Int32 → Int32 → Int32 → St → Prop} (hK6 : ∀ (v1 : Int32) (v2 : Int32) (v3 : Int32) (σ : St) (H : Heap) (locs : List Loc) (ls : Array Slot), K6 v1 v2 v3 σ → wM D dA ad (AM dA ad σ0 sz) s σ H locs → lv_has ls 6 [(0, .ref (ad 0)), (1, .int v1), (2, .int v2), (3, .int v3)] → W p l e rm_bad s m args below meth c H locs 0 0 (MQ below (va_Qi Qr (BM D dA ad (AM dA ad σ0 sz)) (AM dA ad σ0 sz)) args s 0 0 (AM dA ad σ0 sz)) (F0 m 6 ls [])) : ∀ (v1 : Int32) (v2 : Int32) (v3 : Int32) (v4 : Int32) (v5 : Int32) (σ : St) (H : Heap) (locs : List Loc) (ls : Array Slot), wp_bad_70 Qr K6 v1 v2 v3 v4 v5 σ → wM D dA ad (AM dA ad σ0 sz) s σ H locs → lv_has ls 6 [(0, .ref (ad 0)), (1, .int v1), (2, .int v2), (3, .int v3), (4, .int v4), (5, .int v5)] → W p l e rm_bad s m args below meth c H locs 0 0 (MQ below (va_Qi Qr (BM D dA ad (AM dA ad σ0 sz)) (AM dA ad σ0 sz)) args s 0 0 (AM dA ad σ0 sz)) (F0 m 70 ls []) := by
  intro v1 v2 v3 v4 v5 σ H locs ls hw hM hl
  have hx := C.1
  have hb := C.2.1
  have hown := C.2.2.2.2.2.1
  have hts := C.2.2.2.2.2.2.1
  unfold wp_bad_70 at hw
  refine lv_iload hx hb dX10_bad_70 (lv_at hl 4 rfl) ?_
  refine lv_iconst (v := 2) hx hb dX10_bad_72 (by decide) ?_
  refine lv_icmp_ne (tgt := 81) hx hb dX10_bad_73 (by decide) (fun hc => ?_) (fun hc => ?_)
  · have hw := hw.1 hc
    exact wk_bad_81 C hK6 v1 v2 v3 v4 v5 σ _ _ ls hw hM (lv_sub hl [0, 1, 2, 3, 4, 5] rfl)
  · have hw := hw.2 hc
    refine lv_iconst (v := 4) hx hb dX10_bad_76 (by decide) ?_
    refine lv_istore_n (lv' := [(1, .int 4), (0, .ref (ad 0)), (2, .int v2), (3, .int v3), (4, .int v4), (5, .int v5)]) hx hb dX10_bad_77 rfl hl (by decide) rfl (fun ls hl => ?_)
    refine lv_goto (tgt := 203) hx hb dX10_bad_78 (by decide) ?_
    exact wk_bad_203 C hK6 4 v2 v3 σ _ _ ls hw hM (lv_sub hl [1, 0, 2, 3] rfl)
set_option maxHeartbeats 4000000 in
theorem wk_bad_55 {p : Program} {l : Launch} {e : Env} {s : State} {m : MethodId} {args : Array Value} {below : List Frame} {meth : Method} {c : Code} {D : va_G} {dA : Nat → ClassId} {ad : Nat → Nat} {σ0 : St} {sz : Nat} (C : CxM p s m meth c args (AM dA ad σ0 sz) RX10 cX10_bad 6 (some .int)) {Qr : Int32 → St → Prop} {K6 : Int32 → Int32 → Int32 → St → Prop} (hK6 : ∀ (v1 : Int32) (v2 : Int32) (v3 : Int32) (σ : St) (H : Heap) (locs : List Loc) (ls : Array Slot), K6 v1 v2 v3 σ → wM D dA ad (AM dA ad σ0 sz) s σ H locs → lv_has ls 6 [(0, .ref (ad 0)), (1, .int v1), (2, .int v2), (3, .int v3)] → W p l e rm_bad s m args below meth c H locs 0 0 (MQ below (va_Qi Qr (BM D dA ad (AM dA ad σ0 sz)) (AM dA ad σ0 sz)) args s 0 0 (AM dA ad σ0 sz)) (F0 m 6 ls [])) : ∀ (v1 : Int32) (v2 : Int32) (v3 : Int32) (v4 : Int32) (v5 : Int32) (σ : St) (H : Heap) (locs : List Loc) (ls : Array Slot), wp_bad_55 Qr K6 v1 v2 v3 v4 v5 σ → wM D dA ad (AM dA ad σ0 sz) s σ H locs → lv_has ls 6 [(0, .ref (ad 0)), (1, .int v1), (2, .int v2), (3, .int v3), (4, .int v4), (5, .int v5)] → W p l e rm_bad s m args below meth c H locs 0 0 (MQ below (va_Qi Qr (BM D dA ad (AM dA ad σ0 sz)) (AM dA ad σ0 sz)) args s 0 0 (AM dA ad σ0 sz)) (F0 m 55 ls []) := by
  intro v1 v2 v3 v4 v5 σ H locs ls hw hM hl
  have hx := C.1
  have hb := C.2.1
  have hown := C.2.2.2.2.2.1
  have hts := C.2.2.2.2.2.2.1
  unfold wp_bad_55 at hw
  refine lv_iload_n hx hb dX10_bad_55 rfl (lv_at hl 1 rfl) ?_
  refine lv_iconst (v := 2) hx hb dX10_bad_56 (by decide) ?_
  refine lv_icmp_lt (tgt := 70) hx hb dX10_bad_57 (by decide) (fun hc => ?_) (fun hc => ?_)
  · have hw := hw.1 hc
    exact wk_bad_70 C hK6 v1 v2 v3 v4 v5 σ _ _ ls hw hM (lv_sub hl [0, 1, 2, 3, 4, 5] rfl)
  · have hw := hw.2 hc
    refine lv_iload_n hx hb dX10_bad_60 rfl (lv_at hl 1 rfl) ?_
    refine lv_iconst (v := 2) hx hb dX10_bad_61 (by decide) ?_
    refine lv_icmp_eq (tgt := 70) hx hb dX10_bad_62 (by decide) (fun hc => ?_) (fun hc => ?_)
    · have hw := hw.1 hc
      exact wk_bad_70 C hK6 v1 v2 v3 v4 v5 σ _ _ ls hw hM (lv_sub hl [0, 1, 2, 3, 4, 5] rfl)
    · have hw := hw.2 hc
      refine lv_iload_n hx hb dX10_bad_65 rfl (lv_at hl 1 rfl) ?_
      refine lv_iconst (v := 3) hx hb dX10_bad_66 (by decide) ?_
      refine lv_icmp_ne (tgt := 81) hx hb dX10_bad_67 (by decide) (fun hc => ?_) (fun hc => ?_)
      · have hw := hw.1 hc
        exact wk_bad_81 C hK6 v1 v2 v3 v4 v5 σ _ _ ls hw hM (lv_sub hl [0, 1, 2, 3, 4, 5] rfl)
      · have hw := hw.2 hc
        exact wk_bad_70 C hK6 v1 v2 v3 v4 v5 σ _ _ ls hw hM (lv_sub hl [0, 1, 2, 3, 4, 5] rfl)
set_option maxHeartbeats 4000000 in
theorem wk_bad_37 {p : Program} {l : Launch} {e : Env} {s : State} {m : MethodId} {args : Array Value} {below : List Frame} {meth : Method} {c : Code} {D : va_G} {dA : Nat → ClassId} {ad : Nat → Nat} {σ0 : St} {sz : Nat} (C : CxM p s m meth c args (AM dA ad σ0 sz) RX10 cX10_bad 6 (some .int)) {Qr : Int32 → St → Prop} {K6 : Int32 → Int32 → Int32 → St → Prop} (hK6 : ∀ (v1 : Int32) (v2 : Int32) (v3 : Int32) (σ : St) (H : Heap) (locs : List Loc) (ls : Array Slot), K6 v1 v2 v3 σ → wM D dA ad (AM dA ad σ0 sz) s σ H locs → lv_has ls 6 [(0, .ref (ad 0)), (1, .int v1), (2, .int v2), (3, .int v3)] → W p l e rm_bad s m args below meth c H locs 0 0 (MQ below (va_Qi Qr (BM D dA ad (AM dA ad σ0 sz)) (AM dA ad σ0 sz)) args s 0 0 (AM dA ad σ0 sz)) (F0 m 6 ls [])) : ∀ (v1 : Int32) (v2 : Int32) (v3 : Int32) (v4 : Int32) (u0 : Int32) (σ : St) (H : Heap) (locs : List Loc) (ls : Array Slot), wp_bad_37 Qr K6 v1 v2 v3 v4 u0 σ → wM D dA ad (AM dA ad σ0 sz) s σ H locs → lv_has ls 6 [(0, .ref (ad 0)), (1, .int v1), (2, .int v2), (3, .int v3), (4, .int v4)] → W p l e rm_bad s m args below meth c H locs 0 0 (MQ below (va_Qi Qr (BM D dA ad (AM dA ad σ0 sz)) (AM dA ad σ0 sz)) args s 0 0 (AM dA ad σ0 sz)) (F0 m 37 ls [.int u0]) := by
  intro v1 v2 v3 v4 u0 σ H locs ls hw hM hl
  have hx := C.1
  have hb := C.2.1
  have hown := C.2.2.2.2.2.1
  have hts := C.2.2.2.2.2.2.1
  unfold wp_bad_37 at hw
  refine lv_istore (lv' := [(5, .int u0), (0, .ref (ad 0)), (1, .int v1), (2, .int v2), (3, .int v3), (4, .int v4)]) hx hb dX10_bad_37 hl (by decide) rfl (fun ls hl => ?_)
  refine lv_iload_n hx hb dX10_bad_39 rfl (lv_at hl 2 rfl) ?_
  refine lv_iconst (v := 2) hx hb dX10_bad_40 (by decide) ?_
  refine lv_icmp_ge (tgt := 55) hx hb dX10_bad_41 (by decide) (fun hc => ?_) (fun hc => ?_)
  · have hw := hw.1 hc
    exact wk_bad_55 C hK6 v1 v2 v3 v4 u0 σ _ _ ls hw hM (lv_sub hl [1, 2, 3, 4, 5, 0] rfl)
  · have hw := hw.2 hc
    refine lv_iload hx hb dX10_bad_44 (lv_at hl 5 rfl) ?_
    refine lv_iconst (v := 1) hx hb dX10_bad_46 (by decide) ?_
    refine lv_icmp_ne (tgt := 55) hx hb dX10_bad_47 (by decide) (fun hc => ?_) (fun hc => ?_)
    · have hw := hw.1 hc
      exact wk_bad_55 C hK6 v1 v2 v3 v4 u0 σ _ _ ls hw hM (lv_sub hl [1, 2, 3, 4, 5, 0] rfl)
    · have hw := hw.2 hc
      refine lv_iconst (v := 2) hx hb dX10_bad_50 (by decide) ?_
      refine lv_istore_n (lv' := [(1, .int 2), (5, .int u0), (0, .ref (ad 0)), (2, .int v2), (3, .int v3), (4, .int v4)]) hx hb dX10_bad_51 rfl hl (by decide) rfl (fun ls hl => ?_)
      refine lv_goto (tgt := 203) hx hb dX10_bad_52 (by decide) ?_
      exact wk_bad_203 C hK6 2 v2 v3 σ _ _ ls hw hM (lv_sub hl [2, 0, 3, 4] rfl)
set_option maxHeartbeats 4000000 in
theorem wk_bad_32 {p : Program} {l : Launch} {e : Env} {s : State} {m : MethodId} {args : Array Value} {below : List Frame} {meth : Method} {c : Code} {D : va_G} {dA : Nat → ClassId} {ad : Nat → Nat} {σ0 : St} {sz : Nat} (C : CxM p s m meth c args (AM dA ad σ0 sz) RX10 cX10_bad 6 (some .int)) {Qr : Int32 → St → Prop} {K6 : Int32 → Int32 → Int32 → St → Prop} (hK6 : ∀ (v1 : Int32) (v2 : Int32) (v3 : Int32) (σ : St) (H : Heap) (locs : List Loc) (ls : Array Slot), K6 v1 v2 v3 σ → wM D dA ad (AM dA ad σ0 sz) s σ H locs → lv_has ls 6 [(0, .ref (ad 0)), (1, .int v1), (2, .int v2), (3, .int v3)] → W p l e rm_bad s m args below meth c H locs 0 0 (MQ below (va_Qi Qr (BM D dA ad (AM dA ad σ0 sz)) (AM dA ad σ0 sz)) args s 0 0 (AM dA ad σ0 sz)) (F0 m 6 ls [])) : ∀ (v1 : Int32) (v2 : Int32) (v3 : Int32) (v4 : Int32) (σ : St) (H : Heap) (locs : List Loc) (ls : Array Slot), wp_bad_32 Qr K6 v1 v2 v3 v4 σ → wM D dA ad (AM dA ad σ0 sz) s σ H locs → lv_has ls 6 [(0, .ref (ad 0)), (1, .int v1), (2, .int v2), (3, .int v3), (4, .int v4)] → W p l e rm_bad s m args below meth c H locs 0 0 (MQ below (va_Qi Qr (BM D dA ad (AM dA ad σ0 sz)) (AM dA ad σ0 sz)) args s 0 0 (AM dA ad σ0 sz)) (F0 m 32 ls []) := by
  intro v1 v2 v3 v4 σ H locs ls hw hM hl
  have hx := C.1
  have hb := C.2.1
  have hown := C.2.2.2.2.2.1
  have hts := C.2.2.2.2.2.2.1
  unfold wp_bad_32 at hw
  refine lv_iconst (v := 1) hx hb dX10_bad_32 (by decide) ?_
  refine lv_goto (tgt := 37) hx hb dX10_bad_33 (by decide) ?_
  exact wk_bad_37 C hK6 v1 v2 v3 v4 1 σ _ _ ls hw hM (lv_sub hl [0, 1, 2, 3, 4] rfl)
set_option maxHeartbeats 4000000 in
theorem wk_bad_6 {p : Program} {l : Launch} {e : Env} {s : State} {m : MethodId} {args : Array Value} {below : List Frame} {meth : Method} {c : Code} {D : va_G} {dA : Nat → ClassId} {ad : Nat → Nat} {σ0 : St} {sz : Nat} (C : CxM p s m meth c args (AM dA ad σ0 sz) RX10 cX10_bad 6 (some .int)) {Qr : Int32 → St → Prop} : ∀ (n : Nat) (v1 : Int32) (v2 : Int32) (v3 : Int32) (σ : St) (H : Heap) (locs : List Loc) (ls : Array Slot), wp_bad_6 Qr n v1 v2 v3 σ → wM D dA ad (AM dA ad σ0 sz) s σ H locs → lv_has ls 6 [(0, .ref (ad 0)), (1, .int v1), (2, .int v2), (3, .int v3)] → W p l e rm_bad s m args below meth c H locs 0 0 (MQ below (va_Qi Qr (BM D dA ad (AM dA ad σ0 sz)) (AM dA ad σ0 sz)) args s 0 0 (AM dA ad σ0 sz)) (F0 m 6 ls []) := by
  intro n
  induction n with
  | zero => intro v1 v2 v3 σ H locs ls hw; exact hw.elim
  | succ n6 ih =>
    intro v1 v2 v3 σ H locs ls hw hM hl
    have hx := C.1
    have hb := C.2.1
    have hown := C.2.2.2.2.2.1
    have hts := C.2.2.2.2.2.2.1
    unfold wp_bad_6 at hw
    refine lv_iload_n hx hb dX10_bad_6 rfl (lv_at hl 3 rfl) ?_
    refine lv_aload_n hx hb dX10_bad_7 rfl (lv_at hl 0 rfl) ?_
    refine rM_get C hM 7 (by decide) (fM_7 ad σ) q1397 rfl dX10_bad_8 ?_
    refine lv_icmp_ge (tgt := 209) hx hb dX10_bad_11 (by decide) (fun hc => ?_) (fun hc => ?_)
    · have hw := hw.1 hc
      refine lv_iconst (v := (-1)) hx hb dX10_bad_209 (by decide) ?_
      exact rM_iret C hM hw dX10_bad_210
    · have hw := hw.2 hc
      refine lv_aload_n hx hb dX10_bad_14 rfl (lv_at hl 0 rfl) ?_
      refine rM_get C hM 4 (by decide) (fM_4 ad σ) q1394 rfl dX10_bad_15 ?_
      refine lv_iload_n hx hb dX10_bad_18 rfl (lv_at hl 3 rfl) ?_
      refine rM_iald C hM 4 2 (wM_4 dA ad σ) hw.1 dX10_bad_19 ?_
      have hw := hw.2
      refine lv_topi (fun x1 ex1 => ?_)
      have hw := hw x1 ex1
      refine lv_istore (lv' := [(4, .int x1), (0, .ref (ad 0)), (1, .int v1), (2, .int v2), (3, .int v3)]) hx hb dX10_bad_20 hl (by decide) rfl (fun ls hl => ?_)
      refine lv_iload_n hx hb dX10_bad_22 rfl (lv_at hl 2 rfl) ?_
      refine lv_iconst (v := 2) hx hb dX10_bad_23 (by decide) ?_
      refine lv_icmp_eq (tgt := 32) hx hb dX10_bad_24 (by decide) (fun hc => ?_) (fun hc => ?_)
      · have hw := hw.1 hc
        exact wk_bad_32 C ih v1 v2 v3 x1 σ _ _ ls hw hM (lv_sub hl [1, 2, 3, 4, 0] rfl)
      · have hw := hw.2 hc
        refine lv_iload_n hx hb dX10_bad_27 rfl (lv_at hl 2 rfl) ?_
        refine lv_iconst (v := 4) hx hb dX10_bad_28 (by decide) ?_
        refine lv_icmp_ne (tgt := 36) hx hb dX10_bad_29 (by decide) (fun hc => ?_) (fun hc => ?_)
        · have hw := hw.1 hc
          refine lv_iconst (v := 0) hx hb dX10_bad_36 (by decide) ?_
          exact wk_bad_37 C ih v1 v2 v3 x1 0 σ _ _ ls hw hM (lv_sub hl [1, 2, 3, 4, 0] rfl)
        · have hw := hw.2 hc
          exact wk_bad_32 C ih v1 v2 v3 x1 σ _ _ ls hw hM (lv_sub hl [1, 2, 3, 4, 0] rfl)
set_option maxHeartbeats 4000000 in
/-- private int bad(); -/
theorem mt_bad (l : Launch) (D : va_G) (dA : Nat → ClassId) (ad : Nat → Nat) (sz : Nat) (σ : St) (Qr : Int32 → St → Prop) (hw : wp_bad  σ Qr) : Met l yX10_bad (ws_ yX10_bad cX10_bad 6 (some .int)) rm_bad (PcM D dA ad σ sz [.ref (ad 0)]) (va_Qi Qr (BM D dA ad (AM dA ad σ sz)) (AM dA ad σ sz)) 0 0 (AM dA ad σ sz) := by
  refine Met.ofW (cc := cX10_bad) (maxL := 6) (ret := (some .int)) (by decide) rfl ?_
  intro p e s m args below meth c s₁ B hml hv
  obtain ⟨rfl, hsz, hP, hK, hD0⟩ := hv
  subst hsz
  have hts0 := atoms_spec (ws := ws_ yX10_bad cX10_bad 6 (some .int)) B.pre
  have C : CxM p s m meth c _ (AM dA ad σ s.heap.size) RX10 cX10_bad 6 (some .int) := ⟨B.exec, B.bytes, B.returns, B.notSynchronized, hml, findClass_of_methodNamed B.named, fun w h => hts0 w (List.mem_cons_of_mem _ h), fun q h => Or.inr h⟩
  have hM : wM D dA ad (AM dA ad σ s.heap.size) s σ s.heap [] := ⟨hK, hP, hD0.self, va_S.rf⟩
  have hx := C.1
  have hb := C.2.1
  have hown := C.2.2.2.2.2.1
  have hts := C.2.2.2.2.2.2.1
  have hl := lv_entry ([.ref (ad 0)]) (n := 6) (Nat.le_of_ble_eq_true rfl)
  rw [lg_entry_eq]
  generalize (lg_sl ([.ref (ad 0)]) ++ List.replicate (6 - (lg_sl ([.ref (ad 0)])).length) Slot.unset).toArray = ls at hl ⊢
  have hl : lv_has ls 6 [(0, .ref (ad 0))] := hl
  unfold wp_bad at hw
  refine lv_iconst (v := 0) hx hb dX10_bad_0 (by decide) ?_
  refine lv_istore_n (lv' := [(1, .int 0), (0, .ref (ad 0))]) hx hb dX10_bad_1 rfl hl (by decide) rfl (fun ls hl => ?_)
  refine lv_iconst (v := 0) hx hb dX10_bad_2 (by decide) ?_
  refine lv_istore_n (lv' := [(2, .int 0), (1, .int 0), (0, .ref (ad 0))]) hx hb dX10_bad_3 rfl hl (by decide) rfl (fun ls hl => ?_)
  refine lv_iconst (v := 0) hx hb dX10_bad_4 (by decide) ?_
  refine lv_istore_n (lv' := [(3, .int 0), (2, .int 0), (1, .int 0), (0, .ref (ad 0))]) hx hb dX10_bad_5 rfl hl (by decide) rfl (fun ls hl => ?_)
  obtain ⟨n6, hw⟩ := hw
  exact wk_bad_6 C  n6 0 0 0 σ _ _ ls hw hM (lv_sub hl [3, 2, 1, 0] rfl)
abbrev rm_fault : Room := { frames := 0, cells := 0, slots := 0, locals := 0 }
set_option maxHeartbeats 4000000 in
/-- private int fault(int, int); -/
theorem mt_fault (l : Launch) (D : va_G) (dA : Nat → ClassId) (ad : Nat → Nat) (sz : Nat) (σ : St) (p1 : Int32) (p2 : Int32) (Qr : Int32 → St → Prop) (hw : wp_fault p1 p2 σ Qr) : Met l yX10_fault (ws_ yX10_fault cX10_fault 3 (some .int)) rm_fault (PcM D dA ad σ sz [.ref (ad 0), .int p1, .int p2]) (va_Qi Qr (BM D dA ad (AM dA ad σ sz)) (AM dA ad σ sz)) 0 0 (AM dA ad σ sz) := by
  refine Met.ofW (cc := cX10_fault) (maxL := 3) (ret := (some .int)) (by decide) rfl ?_
  intro p e s m args below meth c s₁ B hml hv
  obtain ⟨rfl, hsz, hP, hK, hD0⟩ := hv
  subst hsz
  have hts0 := atoms_spec (ws := ws_ yX10_fault cX10_fault 3 (some .int)) B.pre
  have C : CxM p s m meth c _ (AM dA ad σ s.heap.size) RX10 cX10_fault 3 (some .int) := ⟨B.exec, B.bytes, B.returns, B.notSynchronized, hml, findClass_of_methodNamed B.named, fun w h => hts0 w (List.mem_cons_of_mem _ h), fun q h => Or.inr h⟩
  have hM : wM D dA ad (AM dA ad σ s.heap.size) s σ s.heap [] := ⟨hK, hP, hD0.self, va_S.rf⟩
  have hx := C.1
  have hb := C.2.1
  have hown := C.2.2.2.2.2.1
  have hts := C.2.2.2.2.2.2.1
  have hl := lv_entry ([.ref (ad 0), .int p1, .int p2]) (n := 3) (Nat.le_of_ble_eq_true rfl)
  rw [lg_entry_eq]
  generalize (lg_sl ([.ref (ad 0), .int p1, .int p2]) ++ List.replicate (3 - (lg_sl ([.ref (ad 0), .int p1, .int p2])).length) Slot.unset).toArray = ls at hl ⊢
  have hl : lv_has ls 3 [(0, .ref (ad 0)), (1, .int p1), (2, .int p2)] := hl
  unfold wp_fault at hw
  refine lv_aload_n hx hb dX10_fault_0 rfl (lv_at hl 0 rfl) ?_
  refine lv_iload_n hx hb dX10_fault_1 rfl (lv_at hl 2 rfl) ?_
  refine rM_putI C hM 3 (by decide) (fM_s3 dA ad σ _) q1393 rfl rfl (tyX10_ok 3 (by decide)) rfl rfl dX10_fault_2 (fun σ1 H locs eσ hM => ?_)
  have hw := hw σ1 eσ
  clear eσ
  refine lv_iload_n hx hb dX10_fault_5 rfl (lv_at hl 1 rfl) ?_
  exact rM_iret C hM hw dX10_fault_6
abbrev rm_draftColumn : Room := { frames := 0, cells := 0, slots := 0, locals := 0 }
set_option maxHeartbeats 4000000 in
theorem wk_draftColumn_27 {p : Program} {l : Launch} {e : Env} {s : State} {m : MethodId} {args : Array Value} {below : List Frame} {meth : Method} {c : Code} {D : va_G} {dA : Nat → ClassId} {ad : Nat → Nat} {σ0 : St} {sz : Nat} (C : CxM p s m meth c args (AM dA ad σ0 sz) RX10 cX10_draftColumn 4 (some .int)) {Qr : Int32 → St → Prop} {K4 : Int32 → Int32 → Int32 → St → Prop} (hK4 : ∀ (v1 : Int32) (v2 : Int32) (v3 : Int32) (σ : St) (H : Heap) (locs : List Loc) (ls : Array Slot), K4 v1 v2 v3 σ → wM D dA ad (AM dA ad σ0 sz) s σ H locs → lv_has ls 4 [(0, .ref (ad 0)), (1, .int v1), (2, .int v2), (3, .int v3)] → W p l e rm_draftColumn s m args below meth c H locs 0 0 (MQ below (va_Qi Qr (BM D dA ad (AM dA ad σ0 sz)) (AM dA ad σ0 sz)) args s 0 0 (AM dA ad σ0 sz)) (F0 m 4 ls [])) : ∀ (v1 : Int32) (v3 : Int32) (u0 : Int32) (σ : St) (H : Heap) (locs : List Loc) (ls : Array Slot), wp_draftColumn_27 Qr K4 v1 v3 u0 σ → wM D dA ad (AM dA ad σ0 sz) s σ H locs → lv_has ls 4 [(0, .ref (ad 0)), (1, .int v1), (3, .int v3)] → W p l e rm_draftColumn s m args below meth c H locs 0 0 (MQ below (va_Qi Qr (BM D dA ad (AM dA ad σ0 sz)) (AM dA ad σ0 sz)) args s 0 0 (AM dA ad σ0 sz)) (F0 m 27 ls [.int u0]) := by
  intro v1 v3 u0 σ H locs ls hw hM hl
  have hx := C.1
  have hb := C.2.1
  have hown := C.2.2.2.2.2.1
  have hts := C.2.2.2.2.2.2.1
  unfold wp_draftColumn_27 at hw
  refine lv_istore_n (lv' := [(2, .int u0), (0, .ref (ad 0)), (1, .int v1), (3, .int v3)]) hx hb dX10_draftColumn_27 rfl hl (by decide) rfl (fun ls hl => ?_)
  obtain ⟨x1, ex1⟩ : ∃ y : Int32, y = v3 + 1 := ⟨_, rfl⟩
  have hw := hw x1 ex1
  refine lv_iinc (v := x1) (lv' := [(3, .int x1), (2, .int u0), (0, .ref (ad 0)), (1, .int v1)]) hx hb dX10_draftColumn_28 hl (k := 3) rfl (by rw [ex1]; rfl) (by decide) rfl (fun ls hl => ?_)
  refine lv_goto (tgt := 4) hx hb dX10_draftColumn_31 (by decide) ?_
  exact hK4 v1 u0 x1 σ _ _ ls hw hM (lv_sub hl [2, 3, 1, 0] rfl)
set_option maxHeartbeats 4000000 in
theorem wk_draftColumn_4 {p : Program} {l : Launch} {e : Env} {s : State} {m : MethodId} {args : Array Value} {below : List Frame} {meth : Method} {c : Code} {D : va_G} {dA : Nat → ClassId} {ad : Nat → Nat} {σ0 : St} {sz : Nat} (C : CxM p s m meth c args (AM dA ad σ0 sz) RX10 cX10_draftColumn 4 (some .int)) {Qr : Int32 → St → Prop} : ∀ (n : Nat) (v1 : Int32) (v2 : Int32) (v3 : Int32) (σ : St) (H : Heap) (locs : List Loc) (ls : Array Slot), wp_draftColumn_4 Qr n v1 v2 v3 σ → wM D dA ad (AM dA ad σ0 sz) s σ H locs → lv_has ls 4 [(0, .ref (ad 0)), (1, .int v1), (2, .int v2), (3, .int v3)] → W p l e rm_draftColumn s m args below meth c H locs 0 0 (MQ below (va_Qi Qr (BM D dA ad (AM dA ad σ0 sz)) (AM dA ad σ0 sz)) args s 0 0 (AM dA ad σ0 sz)) (F0 m 4 ls []) := by
  intro n
  induction n with
  | zero => intro v1 v2 v3 σ H locs ls hw; exact hw.elim
  | succ n4 ih =>
    intro v1 v2 v3 σ H locs ls hw hM hl
    have hx := C.1
    have hb := C.2.1
    have hown := C.2.2.2.2.2.1
    have hts := C.2.2.2.2.2.2.1
    unfold wp_draftColumn_4 at hw
    refine lv_iload_n hx hb dX10_draftColumn_4 rfl (lv_at hl 3 rfl) ?_
    refine lv_aload_n hx hb dX10_draftColumn_5 rfl (lv_at hl 0 rfl) ?_
    refine rM_get C hM 9 (by decide) (fM_9 ad σ) q1399 rfl dX10_draftColumn_6 ?_
    refine lv_icmp_ge (tgt := 34) hx hb dX10_draftColumn_9 (by decide) (fun hc => ?_) (fun hc => ?_)
    · have hw := hw.1 hc
      refine lv_iload_n hx hb dX10_draftColumn_34 rfl (lv_at hl 2 rfl) ?_
      exact rM_iret C hM hw dX10_draftColumn_35
    · have hw := hw.2 hc
      refine lv_aload_n hx hb dX10_draftColumn_12 rfl (lv_at hl 0 rfl) ?_
      refine rM_get C hM 8 (by decide) (fM_8 ad σ) q1398 rfl dX10_draftColumn_13 ?_
      refine lv_iload_n hx hb dX10_draftColumn_16 rfl (lv_at hl 3 rfl) ?_
      refine rM_iald C hM 8 5 (wM_8 dA ad σ) hw.1 dX10_draftColumn_17 ?_
      have hw := hw.2
      refine lv_iload_n hx hb dX10_draftColumn_18 rfl (lv_at hl 1 rfl) ?_
      refine lv_icmp_ne (tgt := 26) hx hb dX10_draftColumn_19 (by decide) (fun hc => ?_) (fun hc => ?_)
      · have hw := hw.1 hc
        refine lv_iload_n hx hb dX10_draftColumn_26 rfl (lv_at hl 2 rfl) ?_
        exact wk_draftColumn_27 C ih v1 v3 v2 σ _ _ ls hw hM (lv_sub hl [0, 1, 3] rfl)
      · have hw := hw.2 hc
        refine lv_iload_n hx hb dX10_draftColumn_22 rfl (lv_at hl 3 rfl) ?_
        refine lv_goto (tgt := 27) hx hb dX10_draftColumn_23 (by decide) ?_
        exact wk_draftColumn_27 C ih v1 v3 v3 σ _ _ ls hw hM (lv_sub hl [0, 1, 3] rfl)
set_option maxHeartbeats 4000000 in
/-- private int draftColumn(int); -/
theorem mt_draftColumn (l : Launch) (D : va_G) (dA : Nat → ClassId) (ad : Nat → Nat) (sz : Nat) (σ : St) (p1 : Int32) (Qr : Int32 → St → Prop) (hw : wp_draftColumn p1 σ Qr) : Met l yX10_draftColumn (ws_ yX10_draftColumn cX10_draftColumn 4 (some .int)) rm_draftColumn (PcM D dA ad σ sz [.ref (ad 0), .int p1]) (va_Qi Qr (BM D dA ad (AM dA ad σ sz)) (AM dA ad σ sz)) 0 0 (AM dA ad σ sz) := by
  refine Met.ofW (cc := cX10_draftColumn) (maxL := 4) (ret := (some .int)) (by decide) rfl ?_
  intro p e s m args below meth c s₁ B hml hv
  obtain ⟨rfl, hsz, hP, hK, hD0⟩ := hv
  subst hsz
  have hts0 := atoms_spec (ws := ws_ yX10_draftColumn cX10_draftColumn 4 (some .int)) B.pre
  have C : CxM p s m meth c _ (AM dA ad σ s.heap.size) RX10 cX10_draftColumn 4 (some .int) := ⟨B.exec, B.bytes, B.returns, B.notSynchronized, hml, findClass_of_methodNamed B.named, fun w h => hts0 w (List.mem_cons_of_mem _ h), fun q h => Or.inr h⟩
  have hM : wM D dA ad (AM dA ad σ s.heap.size) s σ s.heap [] := ⟨hK, hP, hD0.self, va_S.rf⟩
  have hx := C.1
  have hb := C.2.1
  have hown := C.2.2.2.2.2.1
  have hts := C.2.2.2.2.2.2.1
  have hl := lv_entry ([.ref (ad 0), .int p1]) (n := 4) (Nat.le_of_ble_eq_true rfl)
  rw [lg_entry_eq]
  generalize (lg_sl ([.ref (ad 0), .int p1]) ++ List.replicate (4 - (lg_sl ([.ref (ad 0), .int p1])).length) Slot.unset).toArray = ls at hl ⊢
  have hl : lv_has ls 4 [(0, .ref (ad 0)), (1, .int p1)] := hl
  unfold wp_draftColumn at hw
  refine lv_iconst (v := (-1)) hx hb dX10_draftColumn_0 (by decide) ?_
  refine lv_istore_n (lv' := [(2, .int (-1)), (0, .ref (ad 0)), (1, .int p1)]) hx hb dX10_draftColumn_1 rfl hl (by decide) rfl (fun ls hl => ?_)
  refine lv_iconst (v := 0) hx hb dX10_draftColumn_2 (by decide) ?_
  refine lv_istore_n (lv' := [(3, .int 0), (2, .int (-1)), (0, .ref (ad 0)), (1, .int p1)]) hx hb dX10_draftColumn_3 rfl hl (by decide) rfl (fun ls hl => ?_)
  obtain ⟨n4, hw⟩ := hw
  exact wk_draftColumn_4 C  n4 p1 (-1) 0 σ _ _ ls hw hM (lv_sub hl [2, 3, 1, 0] rfl)
abbrev rm_build : Room := { frames := 1, cells := 0, slots := 0, locals := 23 }
set_option maxHeartbeats 4000000 in
theorem wk_build_600 {p : Program} {l : Launch} {e : Env} {s : State} {m : MethodId} {args : Array Value} {below : List Frame} {meth : Method} {c : Code} {D : va_G} {dA : Nat → ClassId} {ad : Nat → Nat} {σ0 : St} {sz : Nat} (C : CxM p s m meth c args (AM dA ad σ0 sz) RX10 cX10_build 9 (some .int)) {Qr : Int32 → St → Prop} {K38 : Int32 → St → Prop} (hK38 : ∀ (v1 : Int32) (σ : St) (H : Heap) (locs : List Loc) (ls : Array Slot), K38 v1 σ → wM D dA ad (AM dA ad σ0 sz) s σ H locs → lv_has ls 9 [(0, .ref (ad 0)), (1, .int v1)] → W p l e rm_build s m args below meth c H locs 0 0 (MQ below (va_Qi Qr (BM D dA ad (AM dA ad σ0 sz)) (AM dA ad σ0 sz)) args s 0 0 (AM dA ad σ0 sz)) (F0 m 38 ls [])) : ∀ (u0 : Int32) (σ : St) (H : Heap) (locs : List Loc) (ls : Array Slot), wp_build_600 Qr K38 u0 σ → wM D dA ad (AM dA ad σ0 sz) s σ H locs → lv_has ls 9 [(0, .ref (ad 0))] → W p l e rm_build s m args below meth c H locs 0 0 (MQ below (va_Qi Qr (BM D dA ad (AM dA ad σ0 sz)) (AM dA ad σ0 sz)) args s 0 0 (AM dA ad σ0 sz)) (F0 m 600 ls [.int u0]) := by
  intro u0 σ H locs ls hw hM hl
  have hx := C.1
  have hb := C.2.1
  have hown := C.2.2.2.2.2.1
  have hts := C.2.2.2.2.2.2.1
  unfold wp_build_600 at hw
  refine lv_istore_n (lv' := [(1, .int u0), (0, .ref (ad 0))]) hx hb dX10_build_600 rfl hl (by decide) rfl (fun ls hl => ?_)
  refine lv_goto (tgt := 38) hx hb dX10_build_601 (by decide) ?_
  exact hK38 u0 σ _ _ ls hw hM (lv_sub hl [1, 0] rfl)
set_option maxHeartbeats 4000000 in
theorem wk_build_553 {p : Program} {l : Launch} {e : Env} {s : State} {m : MethodId} {args : Array Value} {below : List Frame} {meth : Method} {c : Code} {D : va_G} {dA : Nat → ClassId} {ad : Nat → Nat} {σ0 : St} {sz : Nat} (C : CxM p s m meth c args (AM dA ad σ0 sz) RX10 cX10_build 9 (some .int)) {Qr : Int32 → St → Prop} : ∀ (v4 : Int32) (σ : St) (H : Heap) (locs : List Loc) (ls : Array Slot), wp_build_553 Qr v4 σ → wM D dA ad (AM dA ad σ0 sz) s σ H locs → lv_has ls 9 [(0, .ref (ad 0)), (4, .int v4)] → W p l e rm_build s m args below meth c H locs 0 0 (MQ below (va_Qi Qr (BM D dA ad (AM dA ad σ0 sz)) (AM dA ad σ0 sz)) args s 0 0 (AM dA ad σ0 sz)) (F0 m 553 ls []) := by
  intro v4 σ H locs ls hw hM hl
  have hx := C.1
  have hb := C.2.1
  have hown := C.2.2.2.2.2.1
  have hts := C.2.2.2.2.2.2.1
  unfold wp_build_553 at hw
  refine lv_aload_n hx hb dX10_build_553 rfl (lv_at hl 0 rfl) ?_
  refine lv_iconst (v := 3) hx hb dX10_build_554 (by decide) ?_
  refine lv_aload_n hx hb dX10_build_555 rfl (lv_at hl 0 rfl) ?_
  refine rM_get C hM 5 (by decide) (fM_5 ad σ) q1395 rfl dX10_build_556 ?_
  refine lv_iload hx hb dX10_build_559 (lv_at hl 1 rfl) ?_
  refine rM_iald C hM 5 3 (wM_5 dA ad σ) hw.1 dX10_build_561 ?_
  have hw := hw.2
  refine rM_callVi (n := 2) (As := [.int 3, .int (gA σ 5 v4)]) C hM hl.1 (mt_fault l D dA ad _ σ 3 (gA σ 5 v4) _ hw) (lw_V q1531 q1533 qs50 q93 q1534) rfl rfl (by decide +kernel) ⟨Nat.le_of_ble_eq_true rfl, Nat.le_of_ble_eq_true rfl⟩ rfl (Nat.le_of_ble_eq_true rfl) ⟨Nat.zero_le _, Nat.zero_le _⟩ rfl dX10_build_562 (fun x2 σ1 H locs hw hM => ?_)
  exact rM_iret C hM hw dX10_build_565
set_option maxHeartbeats 4000000 in
theorem wk_build_536 {p : Program} {l : Launch} {e : Env} {s : State} {m : MethodId} {args : Array Value} {below : List Frame} {meth : Method} {c : Code} {D : va_G} {dA : Nat → ClassId} {ad : Nat → Nat} {σ0 : St} {sz : Nat} (C : CxM p s m meth c args (AM dA ad σ0 sz) RX10 cX10_build 9 (some .int)) {Qr : Int32 → St → Prop} {K38 : Int32 → St → Prop} (hK38 : ∀ (v1 : Int32) (σ : St) (H : Heap) (locs : List Loc) (ls : Array Slot), K38 v1 σ → wM D dA ad (AM dA ad σ0 sz) s σ H locs → lv_has ls 9 [(0, .ref (ad 0)), (1, .int v1)] → W p l e rm_build s m args below meth c H locs 0 0 (MQ below (va_Qi Qr (BM D dA ad (AM dA ad σ0 sz)) (AM dA ad σ0 sz)) args s 0 0 (AM dA ad σ0 sz)) (F0 m 38 ls [])) {K497 : Int32 → Int32 → Int32 → St → Prop} (hK497 : ∀ (v1 : Int32) (v4 : Int32) (v6 : Int32) (σ : St) (H : Heap) (locs : List Loc) (ls : Array Slot), K497 v1 v4 v6 σ → wM D dA ad (AM dA ad σ0 sz) s σ H locs → lv_has ls 9 [(0, .ref (ad 0)), (1, .int v1), (4, .int v4), (6, .int v6)] → W p l e rm_build s m args below meth c H locs 0 0 (MQ below (va_Qi Qr (BM D dA ad (AM dA ad σ0 sz)) (AM dA ad σ0 sz)) args s 0 0 (AM dA ad σ0 sz)) (F0 m 497 ls [])) : ∀ (v1 : Int32) (v4 : Int32) (v6 : Int32) (v7 : Int32) (u0 : Int32) (σ : St) (H : Heap) (locs : List Loc) (ls : Array Slot), wp_build_536 Qr K38 K497 v1 v4 v6 v7 u0 σ → wM D dA ad (AM dA ad σ0 sz) s σ H locs → lv_has ls 9 [(0, .ref (ad 0)), (1, .int v1), (4, .int v4), (6, .int v6), (7, .int v7)] → W p l e rm_build s m args below meth c H locs 0 0 (MQ below (va_Qi Qr (BM D dA ad (AM dA ad σ0 sz)) (AM dA ad σ0 sz)) args s 0 0 (AM dA ad σ0 sz)) (F0 m 536 ls [.int u0]) := by
  intro v1 v4 v6 v7 u0 σ H locs ls hw hM hl
  have hx := C.1
  have hb := C.2.1
  have hown := C.2.2.2.2.2.1
  have hts := C.2.2.2.2.2.2.1
  unfold wp_build_536 at hw
  refine lv_istore (lv' := [(8, .int u0), (0, .ref (ad 0)), (1, .int v1), (4, .int v4), (6, .int v6), (7, .int v7)]) hx hb dX10_build_536 hl (by decide) rfl (fun ls hl => ?_)
  refine lv_iload hx hb dX10_build_538 (lv_at hl 5 rfl) ?_
  refine lv_iload hx hb dX10_build_540 (lv_at hl 0 rfl) ?_
  refine lv_icmp_gt (tgt := 553) hx hb dX10_build_542 (by decide) (fun hc => ?_) (fun hc => ?_)
  · have hw := hw.1 hc
    exact wk_build_553 C  v4 σ _ _ ls hw hM (lv_sub hl [1, 3] rfl)
  · have hw := hw.2 hc
    refine lv_iload hx hb dX10_build_545 (lv_at hl 5 rfl) ?_
    refine lv_iload hx hb dX10_build_547 (lv_at hl 0 rfl) ?_
    refine lv_ineg hx hb dX10_build_549 ?_
    refine lv_icmp_ge (tgt := 566) hx hb dX10_build_550 (by decide) (fun hc => ?_) (fun hc => ?_)
    · have hw := hw.1 hc
      obtain ⟨x1, ex1⟩ : ∃ y : Int32, y = v6 + 1 := ⟨_, rfl⟩
      have hw := hw x1 ex1
      refine lv_iinc (v := x1) (lv' := [(6, .int x1), (8, .int u0), (0, .ref (ad 0)), (1, .int v1), (4, .int v4), (7, .int v7)]) hx hb dX10_build_566 hl (k := 4) rfl (by rw [ex1]; rfl) (by decide) rfl (fun ls hl => ?_)
      refine lv_goto (tgt := 497) hx hb dX10_build_569 (by decide) ?_
      exact hK497 v1 v4 x1 σ _ _ ls hw hM (lv_sub hl [2, 3, 4, 0] rfl)
    · have hw := hw.2 hc
      exact wk_build_553 C  v4 σ _ _ ls hw hM (lv_sub hl [1, 3] rfl)
set_option maxHeartbeats 4000000 in
theorem wk_build_497 {p : Program} {l : Launch} {e : Env} {s : State} {m : MethodId} {args : Array Value} {below : List Frame} {meth : Method} {c : Code} {D : va_G} {dA : Nat → ClassId} {ad : Nat → Nat} {σ0 : St} {sz : Nat} (C : CxM p s m meth c args (AM dA ad σ0 sz) RX10 cX10_build 9 (some .int)) {Qr : Int32 → St → Prop} {K38 : Int32 → St → Prop} (hK38 : ∀ (v1 : Int32) (σ : St) (H : Heap) (locs : List Loc) (ls : Array Slot), K38 v1 σ → wM D dA ad (AM dA ad σ0 sz) s σ H locs → lv_has ls 9 [(0, .ref (ad 0)), (1, .int v1)] → W p l e rm_build s m args below meth c H locs 0 0 (MQ below (va_Qi Qr (BM D dA ad (AM dA ad σ0 sz)) (AM dA ad σ0 sz)) args s 0 0 (AM dA ad σ0 sz)) (F0 m 38 ls [])) : ∀ (n : Nat) (v1 : Int32) (v4 : Int32) (v6 : Int32) (σ : St) (H : Heap) (locs : List Loc) (ls : Array Slot), wp_build_497 Qr K38 n v1 v4 v6 σ → wM D dA ad (AM dA ad σ0 sz) s σ H locs → lv_has ls 9 [(0, .ref (ad 0)), (1, .int v1), (4, .int v4), (6, .int v6)] → W p l e rm_build s m args below meth c H locs 0 0 (MQ below (va_Qi Qr (BM D dA ad (AM dA ad σ0 sz)) (AM dA ad σ0 sz)) args s 0 0 (AM dA ad σ0 sz)) (F0 m 497 ls []) := by
  intro n
  induction n with
  | zero => intro v1 v4 v6 σ H locs ls hw; exact hw.elim
  | succ n497 ih =>
    intro v1 v4 v6 σ H locs ls hw hM hl
    have hx := C.1
    have hb := C.2.1
    have hown := C.2.2.2.2.2.1
    have hts := C.2.2.2.2.2.2.1
    unfold wp_build_497 at hw
    refine lv_iload hx hb dX10_build_497 (lv_at hl 3 rfl) ?_
    refine lv_bipush (v := 7) hx hb dX10_build_499 (by decide) ?_
    refine lv_icmp_ge (tgt := 572) hx hb dX10_build_501 (by decide) (fun hc => ?_) (fun hc => ?_)
    · have hw := hw.1 hc
      refine lv_aload_n hx hb dX10_build_572 rfl (lv_at hl 0 rfl) ?_
      refine lv_dup hx hb dX10_build_573 rfl ?_
      refine rM_get C hM 11 (by decide) (fM_11 ad σ) q1401 rfl dX10_build_574 ?_
      refine lv_iconst (v := 1) hx hb dX10_build_577 (by decide) ?_
      refine lv_iadd hx hb dX10_build_578 ?_
      refine rM_putI C hM 11 (by decide) (fM_s11 dA ad σ _) q1401 rfl rfl (tyX10_ok 11 (by decide)) rfl rfl dX10_build_579 (fun σ1 H locs eσ hM => ?_)
      have hw := hw σ1 eσ
      clear eσ
      refine lv_aload_n hx hb dX10_build_582 rfl (lv_at hl 0 rfl) ?_
      refine rM_get C hM 4 (by decide) (fM_4 ad σ1) q1394 rfl dX10_build_583 ?_
      refine lv_iload_n hx hb dX10_build_586 rfl (lv_at hl 1 rfl) ?_
      refine rM_iald C hM 4 2 (wM_4 dA ad σ1) hw.1 dX10_build_587 ?_
      have hw := hw.2
      refine lv_bipush (v := 6) hx hb dX10_build_588 (by decide) ?_
      refine lv_icmp_ne (tgt := 599) hx hb dX10_build_590 (by decide) (fun hc => ?_) (fun hc => ?_)
      · have hw := hw.1 hc
        refine lv_iload_n hx hb dX10_build_599 rfl (lv_at hl 1 rfl) ?_
        exact wk_build_600 C hK38 v1 σ1 _ _ ls hw hM (lv_sub hl [0] rfl)
      · have hw := hw.2 hc
        refine lv_iload_n hx hb dX10_build_593 rfl (lv_at hl 1 rfl) ?_
        refine lv_iconst (v := 1) hx hb dX10_build_594 (by decide) ?_
        refine lv_iadd hx hb dX10_build_595 ?_
        refine lv_goto (tgt := 600) hx hb dX10_build_596 (by decide) ?_
        exact wk_build_600 C hK38 ((v1 + 1)) σ1 _ _ ls hw hM (lv_sub hl [0] rfl)
    · have hw := hw.2 hc
      refine lv_aload_n hx hb dX10_build_504 rfl (lv_at hl 0 rfl) ?_
      refine rM_get C hM 12 (by decide) (fM_12 ad σ) q1402 rfl dX10_build_505 ?_
      refine lv_bipush (v := 7) hx hb dX10_build_508 (by decide) ?_
      refine lv_aload_n hx hb dX10_build_510 rfl (lv_at hl 0 rfl) ?_
      refine rM_get C hM 11 (by decide) (fM_11 ad σ) q1401 rfl dX10_build_511 ?_
      refine lv_imul hx hb dX10_build_514 ?_
      refine lv_iload hx hb dX10_build_515 (lv_at hl 3 rfl) ?_
      refine lv_iadd hx hb dX10_build_517 ?_
      refine rM_iald C hM 12 6 (wM_12 dA ad σ) hw.1 dX10_build_518 ?_
      have hw := hw.2
      refine lv_topi (fun x2 ex2 => ?_)
      have hw := hw x2 ex2
      refine lv_istore (lv' := [(7, .int x2), (0, .ref (ad 0)), (1, .int v1), (4, .int v4), (6, .int v6)]) hx hb dX10_build_519 hl (by decide) rfl (fun ls hl => ?_)
      refine lv_iload hx hb dX10_build_521 (lv_at hl 4 rfl) ?_
      refine lv_bipush (v := 6) hx hb dX10_build_523 (by decide) ?_
      refine lv_icmp_ne (tgt := 534) hx hb dX10_build_525 (by decide) (fun hc => ?_) (fun hc => ?_)
      · have hw := hw.1 hc
        refine lv_bipush (v := 20) hx hb dX10_build_534 (by decide) ?_
        exact wk_build_536 C hK38 ih v1 v4 v6 x2 20 σ _ _ ls hw hM (lv_sub hl [1, 2, 3, 4, 0] rfl)
      · have hw := hw.2 hc
        refine lv_sipush (v := 200) hx hb dX10_build_528 (by decide) ?_
        refine lv_goto (tgt := 536) hx hb dX10_build_531 (by decide) ?_
        exact wk_build_536 C hK38 ih v1 v4 v6 x2 200 σ _ _ ls hw hM (lv_sub hl [1, 2, 3, 4, 0] rfl)
set_option maxHeartbeats 4000000 in
theorem wk_build_494 {p : Program} {l : Launch} {e : Env} {s : State} {m : MethodId} {args : Array Value} {below : List Frame} {meth : Method} {c : Code} {D : va_G} {dA : Nat → ClassId} {ad : Nat → Nat} {σ0 : St} {sz : Nat} (C : CxM p s m meth c args (AM dA ad σ0 sz) RX10 cX10_build 9 (some .int)) {Qr : Int32 → St → Prop} {K38 : Int32 → St → Prop} (hK38 : ∀ (v1 : Int32) (σ : St) (H : Heap) (locs : List Loc) (ls : Array Slot), K38 v1 σ → wM D dA ad (AM dA ad σ0 sz) s σ H locs → lv_has ls 9 [(0, .ref (ad 0)), (1, .int v1)] → W p l e rm_build s m args below meth c H locs 0 0 (MQ below (va_Qi Qr (BM D dA ad (AM dA ad σ0 sz)) (AM dA ad σ0 sz)) args s 0 0 (AM dA ad σ0 sz)) (F0 m 38 ls [])) : ∀ (v1 : Int32) (v4 : Int32) (σ : St) (H : Heap) (locs : List Loc) (ls : Array Slot), wp_build_494 Qr K38 v1 v4 σ → wM D dA ad (AM dA ad σ0 sz) s σ H locs → lv_has ls 9 [(0, .ref (ad 0)), (1, .int v1), (4, .int v4)] → W p l e rm_build s m args below meth c H locs 0 0 (MQ below (va_Qi Qr (BM D dA ad (AM dA ad σ0 sz)) (AM dA ad σ0 sz)) args s 0 0 (AM dA ad σ0 sz)) (F0 m 494 ls []) := by
  intro v1 v4 σ H locs ls hw hM hl
  have hx := C.1
  have hb := C.2.1
  have hown := C.2.2.2.2.2.1
  have hts := C.2.2.2.2.2.2.1
  unfold wp_build_494 at hw
  refine lv_iconst (v := 0) hx hb dX10_build_494 (by decide) ?_
  refine lv_istore (lv' := [(6, .int 0), (0, .ref (ad 0)), (1, .int v1), (4, .int v4)]) hx hb dX10_build_495 hl (by decide) rfl (fun ls hl => ?_)
  obtain ⟨n497, hw⟩ := hw
  exact wk_build_497 C hK38 n497 v1 v4 0 σ _ _ ls hw hM (lv_sub hl [1, 2, 3, 0] rfl)
set_option maxHeartbeats 4000000 in
theorem wk_build_449 {p : Program} {l : Launch} {e : Env} {s : State} {m : MethodId} {args : Array Value} {below : List Frame} {meth : Method} {c : Code} {D : va_G} {dA : Nat → ClassId} {ad : Nat → Nat} {σ0 : St} {sz : Nat} (C : CxM p s m meth c args (AM dA ad σ0 sz) RX10 cX10_build 9 (some .int)) {Qr : Int32 → St → Prop} {K38 : Int32 → St → Prop} (hK38 : ∀ (v1 : Int32) (σ : St) (H : Heap) (locs : List Loc) (ls : Array Slot), K38 v1 σ → wM D dA ad (AM dA ad σ0 sz) s σ H locs → lv_has ls 9 [(0, .ref (ad 0)), (1, .int v1)] → W p l e rm_build s m args below meth c H locs 0 0 (MQ below (va_Qi Qr (BM D dA ad (AM dA ad σ0 sz)) (AM dA ad σ0 sz)) args s 0 0 (AM dA ad σ0 sz)) (F0 m 38 ls [])) : ∀ (v1 : Int32) (v4 : Int32) (v5 : Int32) (u1 : Int32) (u2 : Int32) (σ : St) (H : Heap) (locs : List Loc) (ls : Array Slot), wp_build_449 Qr K38 v1 v4 v5 u1 u2 σ → wM D dA ad (AM dA ad σ0 sz) s σ H locs → lv_has ls 9 [(0, .ref (ad 0)), (1, .int v1), (4, .int v4), (5, .int v5)] → W p l e rm_build s m args below meth c H locs 0 0 (MQ below (va_Qi Qr (BM D dA ad (AM dA ad σ0 sz)) (AM dA ad σ0 sz)) args s 0 0 (AM dA ad σ0 sz)) (F0 m 449 ls [.int u2, .int u1, .ref (ad 13)]) := by
  intro v1 v4 v5 u1 u2 σ H locs ls hw hM hl
  have hx := C.1
  have hb := C.2.1
  have hown := C.2.2.2.2.2.1
  have hts := C.2.2.2.2.2.2.1
  unfold wp_build_449 at hw
  refine rM_iast C hM 13 7 (wM_13 dA ad σ) (wM_s13 dA ad σ _ _) hw.1 dX10_build_449 (fun σ1 H locs eσ hM => ?_)
  have hw := hw.2 σ1 eσ
  clear eσ
  refine lv_iload hx hb dX10_build_450 (lv_at hl 3 rfl) ?_
  refine lv_bipush (v := 7) hx hb dX10_build_452 (by decide) ?_
  refine lv_icmp_eq (tgt := 494) hx hb dX10_build_454 (by decide) (fun hc => ?_) (fun hc => ?_)
  · have hw := hw.1 hc
    exact wk_build_494 C hK38 v1 v4 σ1 _ _ ls hw hM (lv_sub hl [0, 1, 2] rfl)
  · have hw := hw.2 hc
    refine lv_aload_n hx hb dX10_build_457 rfl (lv_at hl 0 rfl) ?_
    refine rM_get C hM 9 (by decide) (fM_9 ad σ1) q1399 rfl dX10_build_458 ?_
    refine lv_aload_n hx hb dX10_build_461 rfl (lv_at hl 0 rfl) ?_
    refine rM_get C hM 10 (by decide) (fM_10 ad σ1) q1400 rfl dX10_build_462 ?_
    refine lv_iadd hx hb dX10_build_465 ?_
    refine lv_bipush (v := 6) hx hb dX10_build_466 (by decide) ?_
    refine lv_icmp_ne (tgt := 484) hx hb dX10_build_468 (by decide) (fun hc => ?_) (fun hc => ?_)
    · have hw := hw.1 hc
      refine lv_aload_n hx hb dX10_build_484 rfl (lv_at hl 0 rfl) ?_
      refine lv_dup hx hb dX10_build_485 rfl ?_
      refine rM_get C hM 10 (by decide) (fM_10 ad σ1) q1400 rfl dX10_build_486 ?_
      refine lv_iconst (v := 1) hx hb dX10_build_489 (by decide) ?_
      refine lv_iadd hx hb dX10_build_490 ?_
      refine rM_putI C hM 10 (by decide) (fM_s10 dA ad σ1 _) q1400 rfl rfl (tyX10_ok 10 (by decide)) rfl rfl dX10_build_491 (fun σ2 H locs eσ hM => ?_)
      have hw := hw σ2 eσ
      clear eσ
      exact wk_build_494 C hK38 v1 v4 σ2 _ _ ls hw hM (lv_sub hl [0, 1, 2] rfl)
    · have hw := hw.2 hc
      refine lv_aload_n hx hb dX10_build_471 rfl (lv_at hl 0 rfl) ?_
      refine lv_iconst (v := 2) hx hb dX10_build_472 (by decide) ?_
      refine lv_aload_n hx hb dX10_build_473 rfl (lv_at hl 0 rfl) ?_
      refine rM_get C hM 5 (by decide) (fM_5 ad σ1) q1395 rfl dX10_build_474 ?_
      refine lv_iload hx hb dX10_build_477 (lv_at hl 2 rfl) ?_
      refine rM_iald C hM 5 3 (wM_5 dA ad σ1) hw.1 dX10_build_479 ?_
      have hw := hw.2
      refine rM_callVi (n := 2) (As := [.int 2, .int (gA σ1 5 v4)]) C hM hl.1 (mt_fault l D dA ad _ σ1 2 (gA σ1 5 v4) _ hw) (lw_V q1531 q1533 qs50 q93 q1534) rfl rfl (by decide +kernel) ⟨Nat.le_of_ble_eq_true rfl, Nat.le_of_ble_eq_true rfl⟩ rfl (Nat.le_of_ble_eq_true rfl) ⟨Nat.zero_le _, Nat.zero_le _⟩ rfl dX10_build_480 (fun x4 σ3 H locs hw hM => ?_)
      exact rM_iret C hM hw dX10_build_483
set_option maxHeartbeats 4000000 in
theorem wk_build_409 {p : Program} {l : Launch} {e : Env} {s : State} {m : MethodId} {args : Array Value} {below : List Frame} {meth : Method} {c : Code} {D : va_G} {dA : Nat → ClassId} {ad : Nat → Nat} {σ0 : St} {sz : Nat} (C : CxM p s m meth c args (AM dA ad σ0 sz) RX10 cX10_build 9 (some .int)) {Qr : Int32 → St → Prop} {K38 : Int32 → St → Prop} (hK38 : ∀ (v1 : Int32) (σ : St) (H : Heap) (locs : List Loc) (ls : Array Slot), K38 v1 σ → wM D dA ad (AM dA ad σ0 sz) s σ H locs → lv_has ls 9 [(0, .ref (ad 0)), (1, .int v1)] → W p l e rm_build s m args below meth c H locs 0 0 (MQ below (va_Qi Qr (BM D dA ad (AM dA ad σ0 sz)) (AM dA ad σ0 sz)) args s 0 0 (AM dA ad σ0 sz)) (F0 m 38 ls [])) : ∀ (v1 : Int32) (v4 : Int32) (σ : St) (H : Heap) (locs : List Loc) (ls : Array Slot), wp_build_409 Qr K38 v1 v4 σ → wM D dA ad (AM dA ad σ0 sz) s σ H locs → lv_has ls 9 [(0, .ref (ad 0)), (1, .int v1), (4, .int v4)] → W p l e rm_build s m args below meth c H locs 0 0 (MQ below (va_Qi Qr (BM D dA ad (AM dA ad σ0 sz)) (AM dA ad σ0 sz)) args s 0 0 (AM dA ad σ0 sz)) (F0 m 409 ls []) := by
  intro v1 v4 σ H locs ls hw hM hl
  have hx := C.1
  have hb := C.2.1
  have hown := C.2.2.2.2.2.1
  have hts := C.2.2.2.2.2.2.1
  unfold wp_build_409 at hw
  refine lv_aload_n hx hb dX10_build_409 rfl (lv_at hl 0 rfl) ?_
  refine rM_get C hM 4 (by decide) (fM_4 ad σ) q1394 rfl dX10_build_410 ?_
  refine lv_iload hx hb dX10_build_413 (lv_at hl 2 rfl) ?_
  refine rM_iald C hM 4 2 (wM_4 dA ad σ) hw.1 dX10_build_415 ?_
  have hw := hw.2
  refine lv_topi (fun x1 ex1 => ?_)
  have hw := hw x1 ex1
  refine lv_istore (lv' := [(5, .int x1), (0, .ref (ad 0)), (1, .int v1), (4, .int v4)]) hx hb dX10_build_416 hl (by decide) rfl (fun ls hl => ?_)
  refine lv_aload_n hx hb dX10_build_418 rfl (lv_at hl 1 rfl) ?_
  refine rM_get C hM 13 (by decide) (fM_13 ad σ) q1403 rfl dX10_build_419 ?_
  refine lv_aload_n hx hb dX10_build_422 rfl (lv_at hl 1 rfl) ?_
  refine rM_get C hM 11 (by decide) (fM_11 ad σ) q1401 rfl dX10_build_423 ?_
  refine lv_iload hx hb dX10_build_426 (lv_at hl 0 rfl) ?_
  refine lv_bipush (v := 8) hx hb dX10_build_428 (by decide) ?_
  refine lv_icmp_ne (tgt := 437) hx hb dX10_build_430 (by decide) (fun hc => ?_) (fun hc => ?_)
  · have hw := hw.1 hc
    refine lv_iload hx hb dX10_build_437 (lv_at hl 0 rfl) ?_
    refine lv_bipush (v := 9) hx hb dX10_build_439 (by decide) ?_
    refine lv_icmp_ne (tgt := 448) hx hb dX10_build_441 (by decide) (fun hc => ?_) (fun hc => ?_)
    · have hw := hw.1 hc
      refine lv_iconst (v := 0) hx hb dX10_build_448 (by decide) ?_
      exact wk_build_449 C hK38 v1 v4 x1 ((gI σ 11)) 0 σ _ _ ls hw hM (lv_sub hl [1, 2, 3, 0] rfl)
    · have hw := hw.2 hc
      refine lv_iconst (v := (-1)) hx hb dX10_build_444 (by decide) ?_
      refine lv_goto (tgt := 449) hx hb dX10_build_445 (by decide) ?_
      exact wk_build_449 C hK38 v1 v4 x1 ((gI σ 11)) (-1) σ _ _ ls hw hM (lv_sub hl [1, 2, 3, 0] rfl)
  · have hw := hw.2 hc
    refine lv_iconst (v := 1) hx hb dX10_build_433 (by decide) ?_
    refine lv_goto (tgt := 449) hx hb dX10_build_434 (by decide) ?_
    exact wk_build_449 C hK38 v1 v4 x1 ((gI σ 11)) 1 σ _ _ ls hw hM (lv_sub hl [1, 2, 3, 0] rfl)
set_option maxHeartbeats 4000000 in
theorem wk_build_403 {p : Program} {l : Launch} {e : Env} {s : State} {m : MethodId} {args : Array Value} {below : List Frame} {meth : Method} {c : Code} {D : va_G} {dA : Nat → ClassId} {ad : Nat → Nat} {σ0 : St} {sz : Nat} (C : CxM p s m meth c args (AM dA ad σ0 sz) RX10 cX10_build 9 (some .int)) {Qr : Int32 → St → Prop} {K38 : Int32 → St → Prop} (hK38 : ∀ (v1 : Int32) (σ : St) (H : Heap) (locs : List Loc) (ls : Array Slot), K38 v1 σ → wM D dA ad (AM dA ad σ0 sz) s σ H locs → lv_has ls 9 [(0, .ref (ad 0)), (1, .int v1)] → W p l e rm_build s m args below meth c H locs 0 0 (MQ below (va_Qi Qr (BM D dA ad (AM dA ad σ0 sz)) (AM dA ad σ0 sz)) args s 0 0 (AM dA ad σ0 sz)) (F0 m 38 ls [])) {K74 : Int32 → Int32 → Int32 → Int32 → St → Prop} (hK74 : ∀ (v1 : Int32) (v2 : Int32) (v3 : Int32) (v4 : Int32) (σ : St) (H : Heap) (locs : List Loc) (ls : Array Slot), K74 v1 v2 v3 v4 σ → wM D dA ad (AM dA ad σ0 sz) s σ H locs → lv_has ls 9 [(0, .ref (ad 0)), (1, .int v1), (2, .int v2), (3, .int v3), (4, .int v4)] → W p l e rm_build s m args below meth c H locs 0 0 (MQ below (va_Qi Qr (BM D dA ad (AM dA ad σ0 sz)) (AM dA ad σ0 sz)) args s 0 0 (AM dA ad σ0 sz)) (F0 m 74 ls [])) : ∀ (v1 : Int32) (v2 : Int32) (v3 : Int32) (v4 : Int32) (σ : St) (H : Heap) (locs : List Loc) (ls : Array Slot), wp_build_403 Qr K38 K74 v1 v2 v3 v4 σ → wM D dA ad (AM dA ad σ0 sz) s σ H locs → lv_has ls 9 [(0, .ref (ad 0)), (1, .int v1), (2, .int v2), (3, .int v3), (4, .int v4)] → W p l e rm_build s m args below meth c H locs 0 0 (MQ below (va_Qi Qr (BM D dA ad (AM dA ad σ0 sz)) (AM dA ad σ0 sz)) args s 0 0 (AM dA ad σ0 sz)) (F0 m 403 ls []) := by
  intro v1 v2 v3 v4 σ H locs ls hw hM hl
  have hx := C.1
  have hb := C.2.1
  have hown := C.2.2.2.2.2.1
  have hts := C.2.2.2.2.2.2.1
  unfold wp_build_403 at hw
  obtain ⟨x1, ex1⟩ : ∃ y : Int32, y = v1 + 1 := ⟨_, rfl⟩
  have hw := hw x1 ex1
  refine lv_iinc (v := x1) (lv' := [(1, .int x1), (0, .ref (ad 0)), (2, .int v2), (3, .int v3), (4, .int v4)]) hx hb dX10_build_403 hl (k := 1) rfl (by rw [ex1]; rfl) (by decide) rfl (fun ls hl => ?_)
  refine lv_goto (tgt := 74) hx hb dX10_build_406 (by decide) ?_
  exact hK74 x1 v2 v3 v4 σ _ _ ls hw hM (lv_sub hl [1, 0, 2, 3, 4] rfl)
set_option maxHeartbeats 4000000 in
theorem wk_build_364 {p : Program} {l : Launch} {e : Env} {s : State} {m : MethodId} {args : Array Value} {below : List Frame} {meth : Method} {c : Code} {D : va_G} {dA : Nat → ClassId} {ad : Nat → Nat} {σ0 : St} {sz : Nat} (C : CxM p s m meth c args (AM dA ad σ0 sz) RX10 cX10_build 9 (some .int)) {Qr : Int32 → St → Prop} {K38 : Int32 → St → Prop} (hK38 : ∀ (v1 : Int32) (σ : St) (H : Heap) (locs : List Loc) (ls : Array Slot), K38 v1 σ → wM D dA ad (AM dA ad σ0 sz) s σ H locs → lv_has ls 9 [(0, .ref (ad 0)), (1, .int v1)] → W p l e rm_build s m args below meth c H locs 0 0 (MQ below (va_Qi Qr (BM D dA ad (AM dA ad σ0 sz)) (AM dA ad σ0 sz)) args s 0 0 (AM dA ad σ0 sz)) (F0 m 38 ls [])) {K74 : Int32 → Int32 → Int32 → Int32 → St → Prop} (hK74 : ∀ (v1 : Int32) (v2 : Int32) (v3 : Int32) (v4 : Int32) (σ : St) (H : Heap) (locs : List Loc) (ls : Array Slot), K74 v1 v2 v3 v4 σ → wM D dA ad (AM dA ad σ0 sz) s σ H locs → lv_has ls 9 [(0, .ref (ad 0)), (1, .int v1), (2, .int v2), (3, .int v3), (4, .int v4)] → W p l e rm_build s m args below meth c H locs 0 0 (MQ below (va_Qi Qr (BM D dA ad (AM dA ad σ0 sz)) (AM dA ad σ0 sz)) args s 0 0 (AM dA ad σ0 sz)) (F0 m 74 ls [])) : ∀ (v1 : Int32) (v2 : Int32) (v3 : Int32) (v4 : Int32) (v6 : Int32) (u0 : Int32) (σ : St) (H : Heap) (locs : List Loc) (ls : Array Slot), wp_build_364 Qr K38 K74 v1 v2 v3 v4 v6 u0 σ → wM D dA ad (AM dA ad σ0 sz) s σ H locs → lv_has ls 9 [(0, .ref (ad 0)), (1, .int v1), (2, .int v2), (3, .int v3), (4, .int v4), (6, .int v6)] → W p l e rm_build s m args below meth c H locs 0 0 (MQ below (va_Qi Qr (BM D dA ad (AM dA ad σ0 sz)) (AM dA ad σ0 sz)) args s 0 0 (AM dA ad σ0 sz)) (F0 m 364 ls [.int u0]) := by
  intro v1 v2 v3 v4 v6 u0 σ H locs ls hw hM hl
  have hx := C.1
  have hb := C.2.1
  have hown := C.2.2.2.2.2.1
  have hts := C.2.2.2.2.2.2.1
  unfold wp_build_364 at hw
  refine lv_istore (lv' := [(8, .int u0), (0, .ref (ad 0)), (1, .int v1), (2, .int v2), (3, .int v3), (4, .int v4), (6, .int v6)]) hx hb dX10_build_364 hl (by decide) rfl (fun ls hl => ?_)
  refine lv_aload_n hx hb dX10_build_366 rfl (lv_at hl 1 rfl) ?_
  refine rM_get C hM 12 (by decide) (fM_12 ad σ) q1402 rfl dX10_build_367 ?_
  refine lv_bipush (v := 7) hx hb dX10_build_370 (by decide) ?_
  refine lv_aload_n hx hb dX10_build_372 rfl (lv_at hl 1 rfl) ?_
  refine rM_get C hM 11 (by decide) (fM_11 ad σ) q1401 rfl dX10_build_373 ?_
  refine lv_imul hx hb dX10_build_376 ?_
  refine lv_iload hx hb dX10_build_377 (lv_at hl 6 rfl) ?_
  refine lv_iadd hx hb dX10_build_379 ?_
  refine lv_aload_n hx hb dX10_build_380 rfl (lv_at hl 1 rfl) ?_
  refine rM_get C hM 12 (by decide) (fM_12 ad σ) q1402 rfl dX10_build_381 ?_
  refine lv_bipush (v := 7) hx hb dX10_build_384 (by decide) ?_
  refine lv_aload_n hx hb dX10_build_386 rfl (lv_at hl 1 rfl) ?_
  refine rM_get C hM 11 (by decide) (fM_11 ad σ) q1401 rfl dX10_build_387 ?_
  refine lv_imul hx hb dX10_build_390 ?_
  refine lv_iload hx hb dX10_build_391 (lv_at hl 6 rfl) ?_
  refine lv_iadd hx hb dX10_build_393 ?_
  refine rM_iald C hM 12 6 (wM_12 dA ad σ) hw.1 dX10_build_394 ?_
  have hw := hw.2
  refine lv_iload_n hx hb dX10_build_395 rfl (lv_at hl 4 rfl) ?_
  refine lv_iload_n hx hb dX10_build_396 rfl (lv_at hl 3 rfl) ?_
  refine lv_imul hx hb dX10_build_397 ?_
  refine lv_iload hx hb dX10_build_398 (lv_at hl 0 rfl) ?_
  refine lv_imul hx hb dX10_build_400 ?_
  refine lv_iadd hx hb dX10_build_401 ?_
  refine rM_iast C hM 12 6 (wM_12 dA ad σ) (wM_s12 dA ad σ _ _) hw.1 dX10_build_402 (fun σ1 H locs eσ hM => ?_)
  have hw := hw.2 σ1 eσ
  clear eσ
  exact wk_build_403 C hK38 hK74 v1 v2 v3 v4 σ1 _ _ ls hw hM (lv_sub hl [1, 2, 3, 4, 5] rfl)
set_option maxHeartbeats 4000000 in
theorem wk_build_363 {p : Program} {l : Launch} {e : Env} {s : State} {m : MethodId} {args : Array Value} {below : List Frame} {meth : Method} {c : Code} {D : va_G} {dA : Nat → ClassId} {ad : Nat → Nat} {σ0 : St} {sz : Nat} (C : CxM p s m meth c args (AM dA ad σ0 sz) RX10 cX10_build 9 (some .int)) {Qr : Int32 → St → Prop} {K38 : Int32 → St → Prop} (hK38 : ∀ (v1 : Int32) (σ : St) (H : Heap) (locs : List Loc) (ls : Array Slot), K38 v1 σ → wM D dA ad (AM dA ad σ0 sz) s σ H locs → lv_has ls 9 [(0, .ref (ad 0)), (1, .int v1)] → W p l e rm_build s m args below meth c H locs 0 0 (MQ below (va_Qi Qr (BM D dA ad (AM dA ad σ0 sz)) (AM dA ad σ0 sz)) args s 0 0 (AM dA ad σ0 sz)) (F0 m 38 ls [])) {K74 : Int32 → Int32 → Int32 → Int32 → St → Prop} (hK74 : ∀ (v1 : Int32) (v2 : Int32) (v3 : Int32) (v4 : Int32) (σ : St) (H : Heap) (locs : List Loc) (ls : Array Slot), K74 v1 v2 v3 v4 σ → wM D dA ad (AM dA ad σ0 sz) s σ H locs → lv_has ls 9 [(0, .ref (ad 0)), (1, .int v1), (2, .int v2), (3, .int v3), (4, .int v4)] → W p l e rm_build s m args below meth c H locs 0 0 (MQ below (va_Qi Qr (BM D dA ad (AM dA ad σ0 sz)) (AM dA ad σ0 sz)) args s 0 0 (AM dA ad σ0 sz)) (F0 m 74 ls [])) : ∀ (v1 : Int32) (v2 : Int32) (v3 : Int32) (v4 : Int32) (v6 : Int32) (σ : St) (H : Heap) (locs : List Loc) (ls : Array Slot), wp_build_363 Qr K38 K74 v1 v2 v3 v4 v6 σ → wM D dA ad (AM dA ad σ0 sz) s σ H locs → lv_has ls 9 [(0, .ref (ad 0)), (1, .int v1), (2, .int v2), (3, .int v3), (4, .int v4), (6, .int v6)] → W p l e rm_build s m args below meth c H locs 0 0 (MQ below (va_Qi Qr (BM D dA ad (AM dA ad σ0 sz)) (AM dA ad σ0 sz)) args s 0 0 (AM dA ad σ0 sz)) (F0 m 363 ls []) := by
  intro v1 v2 v3 v4 v6 σ H locs ls hw hM hl
  have hx := C.1
  have hb := C.2.1
  have hown := C.2.2.2.2.2.1
  have hts := C.2.2.2.2.2.2.1
  unfold wp_build_363 at hw
  refine lv_iconst (v := 1) hx hb dX10_build_363 (by decide) ?_
  exact wk_build_364 C hK38 hK74 v1 v2 v3 v4 v6 1 σ _ _ ls hw hM (lv_sub hl [0, 1, 2, 3, 4, 5] rfl)
set_option maxHeartbeats 4000000 in
theorem wk_build_335 {p : Program} {l : Launch} {e : Env} {s : State} {m : MethodId} {args : Array Value} {below : List Frame} {meth : Method} {c : Code} {D : va_G} {dA : Nat → ClassId} {ad : Nat → Nat} {σ0 : St} {sz : Nat} (C : CxM p s m meth c args (AM dA ad σ0 sz) RX10 cX10_build 9 (some .int)) {Qr : Int32 → St → Prop} {K38 : Int32 → St → Prop} (hK38 : ∀ (v1 : Int32) (σ : St) (H : Heap) (locs : List Loc) (ls : Array Slot), K38 v1 σ → wM D dA ad (AM dA ad σ0 sz) s σ H locs → lv_has ls 9 [(0, .ref (ad 0)), (1, .int v1)] → W p l e rm_build s m args below meth c H locs 0 0 (MQ below (va_Qi Qr (BM D dA ad (AM dA ad σ0 sz)) (AM dA ad σ0 sz)) args s 0 0 (AM dA ad σ0 sz)) (F0 m 38 ls [])) {K74 : Int32 → Int32 → Int32 → Int32 → St → Prop} (hK74 : ∀ (v1 : Int32) (v2 : Int32) (v3 : Int32) (v4 : Int32) (σ : St) (H : Heap) (locs : List Loc) (ls : Array Slot), K74 v1 v2 v3 v4 σ → wM D dA ad (AM dA ad σ0 sz) s σ H locs → lv_has ls 9 [(0, .ref (ad 0)), (1, .int v1), (2, .int v2), (3, .int v3), (4, .int v4)] → W p l e rm_build s m args below meth c H locs 0 0 (MQ below (va_Qi Qr (BM D dA ad (AM dA ad σ0 sz)) (AM dA ad σ0 sz)) args s 0 0 (AM dA ad σ0 sz)) (F0 m 74 ls [])) : ∀ (v1 : Int32) (v2 : Int32) (v3 : Int32) (v4 : Int32) (v6 : Int32) (u0 : Int32) (σ : St) (H : Heap) (locs : List Loc) (ls : Array Slot), wp_build_335 Qr K38 K74 v1 v2 v3 v4 v6 u0 σ → wM D dA ad (AM dA ad σ0 sz) s σ H locs → lv_has ls 9 [(0, .ref (ad 0)), (1, .int v1), (2, .int v2), (3, .int v3), (4, .int v4), (6, .int v6)] → W p l e rm_build s m args below meth c H locs 0 0 (MQ below (va_Qi Qr (BM D dA ad (AM dA ad σ0 sz)) (AM dA ad σ0 sz)) args s 0 0 (AM dA ad σ0 sz)) (F0 m 335 ls [.int u0]) := by
  intro v1 v2 v3 v4 v6 u0 σ H locs ls hw hM hl
  have hx := C.1
  have hb := C.2.1
  have hown := C.2.2.2.2.2.1
  have hts := C.2.2.2.2.2.2.1
  unfold wp_build_335 at hw
  refine lv_istore (lv' := [(7, .int u0), (0, .ref (ad 0)), (1, .int v1), (2, .int v2), (3, .int v3), (4, .int v4), (6, .int v6)]) hx hb dX10_build_335 hl (by decide) rfl (fun ls hl => ?_)
  refine lv_iload hx hb dX10_build_337 (lv_at hl 0 rfl) ?_
  refine lv_if_lt (tgt := 363) hx hb dX10_build_339 (by decide) (fun hc => ?_) (fun hc => ?_)
  · have hw := hw.1 hc
    exact wk_build_363 C hK38 hK74 v1 v2 v3 v4 v6 σ _ _ ls hw hM (lv_sub hl [1, 2, 3, 4, 5, 6] rfl)
  · have hw := hw.2 hc
    refine lv_aload_n hx hb dX10_build_342 rfl (lv_at hl 1 rfl) ?_
    refine rM_get C hM 4 (by decide) (fM_4 ad σ) q1394 rfl dX10_build_343 ?_
    refine lv_iload hx hb dX10_build_346 (lv_at hl 0 rfl) ?_
    refine rM_iald C hM 4 2 (wM_4 dA ad σ) hw.1 dX10_build_348 ?_
    have hw := hw.2
    refine lv_iconst (v := 1) hx hb dX10_build_349 (by decide) ?_
    refine lv_icmp_ne (tgt := 363) hx hb dX10_build_350 (by decide) (fun hc => ?_) (fun hc => ?_)
    · have hw := hw.1 hc
      exact wk_build_363 C hK38 hK74 v1 v2 v3 v4 v6 σ _ _ ls hw hM (lv_sub hl [1, 2, 3, 4, 5, 6] rfl)
    · have hw := hw.2 hc
      refine lv_aload_n hx hb dX10_build_353 rfl (lv_at hl 1 rfl) ?_
      refine rM_get C hM 6 (by decide) (fM_6 ad σ) q1396 rfl dX10_build_354 ?_
      refine lv_iload hx hb dX10_build_357 (lv_at hl 0 rfl) ?_
      refine rM_iald C hM 6 4 (wM_6 dA ad σ) hw.1 dX10_build_359 ?_
      have hw := hw.2
      refine lv_goto (tgt := 364) hx hb dX10_build_360 (by decide) ?_
      exact wk_build_364 C hK38 hK74 v1 v2 v3 v4 v6 ((gA σ 6 u0)) σ _ _ ls hw hM (lv_sub hl [1, 2, 3, 4, 5, 6] rfl)
set_option maxHeartbeats 4000000 in
theorem wk_build_332 {p : Program} {l : Launch} {e : Env} {s : State} {m : MethodId} {args : Array Value} {below : List Frame} {meth : Method} {c : Code} {D : va_G} {dA : Nat → ClassId} {ad : Nat → Nat} {σ0 : St} {sz : Nat} (C : CxM p s m meth c args (AM dA ad σ0 sz) RX10 cX10_build 9 (some .int)) {Qr : Int32 → St → Prop} {K38 : Int32 → St → Prop} (hK38 : ∀ (v1 : Int32) (σ : St) (H : Heap) (locs : List Loc) (ls : Array Slot), K38 v1 σ → wM D dA ad (AM dA ad σ0 sz) s σ H locs → lv_has ls 9 [(0, .ref (ad 0)), (1, .int v1)] → W p l e rm_build s m args below meth c H locs 0 0 (MQ below (va_Qi Qr (BM D dA ad (AM dA ad σ0 sz)) (AM dA ad σ0 sz)) args s 0 0 (AM dA ad σ0 sz)) (F0 m 38 ls [])) {K74 : Int32 → Int32 → Int32 → Int32 → St → Prop} (hK74 : ∀ (v1 : Int32) (v2 : Int32) (v3 : Int32) (v4 : Int32) (σ : St) (H : Heap) (locs : List Loc) (ls : Array Slot), K74 v1 v2 v3 v4 σ → wM D dA ad (AM dA ad σ0 sz) s σ H locs → lv_has ls 9 [(0, .ref (ad 0)), (1, .int v1), (2, .int v2), (3, .int v3), (4, .int v4)] → W p l e rm_build s m args below meth c H locs 0 0 (MQ below (va_Qi Qr (BM D dA ad (AM dA ad σ0 sz)) (AM dA ad σ0 sz)) args s 0 0 (AM dA ad σ0 sz)) (F0 m 74 ls [])) : ∀ (v1 : Int32) (v2 : Int32) (v3 : Int32) (v4 : Int32) (v6 : Int32) (σ : St) (H : Heap) (locs : List Loc) (ls : Array Slot), wp_build_332 Qr K38 K74 v1 v2 v3 v4 v6 σ → wM D dA ad (AM dA ad σ0 sz) s σ H locs → lv_has ls 9 [(0, .ref (ad 0)), (1, .int v1), (2, .int v2), (3, .int v3), (4, .int v4), (6, .int v6)] → W p l e rm_build s m args below meth c H locs 0 0 (MQ below (va_Qi Qr (BM D dA ad (AM dA ad σ0 sz)) (AM dA ad σ0 sz)) args s 0 0 (AM dA ad σ0 sz)) (F0 m 332 ls []) := by
  intro v1 v2 v3 v4 v6 σ H locs ls hw hM hl
  have hx := C.1
  have hb := C.2.1
  have hown := C.2.2.2.2.2.1
  have hts := C.2.2.2.2.2.2.1
  unfold wp_build_332 at hw
  refine lv_iload_n hx hb dX10_build_332 rfl (lv_at hl 1 rfl) ?_
  refine lv_iconst (v := 1) hx hb dX10_build_333 (by decide) ?_
  refine lv_isub hx hb dX10_build_334 ?_
  exact wk_build_335 C hK38 hK74 v1 v2 v3 v4 v6 ((v1 - 1)) σ _ _ ls hw hM (lv_sub hl [0, 1, 2, 3, 4, 5] rfl)
set_option maxHeartbeats 4000000 in
theorem wk_build_310 {p : Program} {l : Launch} {e : Env} {s : State} {m : MethodId} {args : Array Value} {below : List Frame} {meth : Method} {c : Code} {D : va_G} {dA : Nat → ClassId} {ad : Nat → Nat} {σ0 : St} {sz : Nat} (C : CxM p s m meth c args (AM dA ad σ0 sz) RX10 cX10_build 9 (some .int)) {Qr : Int32 → St → Prop} {K38 : Int32 → St → Prop} (hK38 : ∀ (v1 : Int32) (σ : St) (H : Heap) (locs : List Loc) (ls : Array Slot), K38 v1 σ → wM D dA ad (AM dA ad σ0 sz) s σ H locs → lv_has ls 9 [(0, .ref (ad 0)), (1, .int v1)] → W p l e rm_build s m args below meth c H locs 0 0 (MQ below (va_Qi Qr (BM D dA ad (AM dA ad σ0 sz)) (AM dA ad σ0 sz)) args s 0 0 (AM dA ad σ0 sz)) (F0 m 38 ls [])) {K74 : Int32 → Int32 → Int32 → Int32 → St → Prop} (hK74 : ∀ (v1 : Int32) (v2 : Int32) (v3 : Int32) (v4 : Int32) (σ : St) (H : Heap) (locs : List Loc) (ls : Array Slot), K74 v1 v2 v3 v4 σ → wM D dA ad (AM dA ad σ0 sz) s σ H locs → lv_has ls 9 [(0, .ref (ad 0)), (1, .int v1), (2, .int v2), (3, .int v3), (4, .int v4)] → W p l e rm_build s m args below meth c H locs 0 0 (MQ below (va_Qi Qr (BM D dA ad (AM dA ad σ0 sz)) (AM dA ad σ0 sz)) args s 0 0 (AM dA ad σ0 sz)) (F0 m 74 ls [])) : ∀ (v1 : Int32) (v2 : Int32) (v3 : Int32) (v4 : Int32) (v6 : Int32) (σ : St) (H : Heap) (locs : List Loc) (ls : Array Slot), wp_build_310 Qr K38 K74 v1 v2 v3 v4 v6 σ → wM D dA ad (AM dA ad σ0 sz) s σ H locs → lv_has ls 9 [(0, .ref (ad 0)), (1, .int v1), (2, .int v2), (3, .int v3), (4, .int v4), (6, .int v6)] → W p l e rm_build s m args below meth c H locs 0 0 (MQ below (va_Qi Qr (BM D dA ad (AM dA ad σ0 sz)) (AM dA ad σ0 sz)) args s 0 0 (AM dA ad σ0 sz)) (F0 m 310 ls []) := by
  intro v1 v2 v3 v4 v6 σ H locs ls hw hM hl
  have hx := C.1
  have hb := C.2.1
  have hown := C.2.2.2.2.2.1
  have hts := C.2.2.2.2.2.2.1
  unfold wp_build_310 at hw
  refine lv_iload_n hx hb dX10_build_310 rfl (lv_at hl 1 rfl) ?_
  refine lv_if_le (tgt := 332) hx hb dX10_build_311 (by decide) (fun hc => ?_) (fun hc => ?_)
  · have hw := hw.1 hc
    exact wk_build_332 C hK38 hK74 v1 v2 v3 v4 v6 σ _ _ ls hw hM (lv_sub hl [0, 1, 2, 3, 4, 5] rfl)
  · have hw := hw.2 hc
    refine lv_aload_n hx hb dX10_build_314 rfl (lv_at hl 0 rfl) ?_
    refine rM_get C hM 4 (by decide) (fM_4 ad σ) q1394 rfl dX10_build_315 ?_
    refine lv_iload_n hx hb dX10_build_318 rfl (lv_at hl 1 rfl) ?_
    refine lv_iconst (v := 1) hx hb dX10_build_319 (by decide) ?_
    refine lv_isub hx hb dX10_build_320 ?_
    refine rM_iald C hM 4 2 (wM_4 dA ad σ) hw.1 dX10_build_321 ?_
    have hw := hw.2
    refine lv_iconst (v := 5) hx hb dX10_build_322 (by decide) ?_
    refine lv_icmp_ne (tgt := 332) hx hb dX10_build_323 (by decide) (fun hc => ?_) (fun hc => ?_)
    · have hw := hw.1 hc
      exact wk_build_332 C hK38 hK74 v1 v2 v3 v4 v6 σ _ _ ls hw hM (lv_sub hl [0, 1, 2, 3, 4, 5] rfl)
    · have hw := hw.2 hc
      refine lv_iload_n hx hb dX10_build_326 rfl (lv_at hl 1 rfl) ?_
      refine lv_iconst (v := 2) hx hb dX10_build_327 (by decide) ?_
      refine lv_isub hx hb dX10_build_328 ?_
      refine lv_goto (tgt := 335) hx hb dX10_build_329 (by decide) ?_
      exact wk_build_335 C hK38 hK74 v1 v2 v3 v4 v6 ((v1 - 2)) σ _ _ ls hw hM (lv_sub hl [0, 1, 2, 3, 4, 5] rfl)
set_option maxHeartbeats 4000000 in
theorem wk_build_229 {p : Program} {l : Launch} {e : Env} {s : State} {m : MethodId} {args : Array Value} {below : List Frame} {meth : Method} {c : Code} {D : va_G} {dA : Nat → ClassId} {ad : Nat → Nat} {σ0 : St} {sz : Nat} (C : CxM p s m meth c args (AM dA ad σ0 sz) RX10 cX10_build 9 (some .int)) {Qr : Int32 → St → Prop} {K38 : Int32 → St → Prop} (hK38 : ∀ (v1 : Int32) (σ : St) (H : Heap) (locs : List Loc) (ls : Array Slot), K38 v1 σ → wM D dA ad (AM dA ad σ0 sz) s σ H locs → lv_has ls 9 [(0, .ref (ad 0)), (1, .int v1)] → W p l e rm_build s m args below meth c H locs 0 0 (MQ below (va_Qi Qr (BM D dA ad (AM dA ad σ0 sz)) (AM dA ad σ0 sz)) args s 0 0 (AM dA ad σ0 sz)) (F0 m 38 ls [])) {K74 : Int32 → Int32 → Int32 → Int32 → St → Prop} (hK74 : ∀ (v1 : Int32) (v2 : Int32) (v3 : Int32) (v4 : Int32) (σ : St) (H : Heap) (locs : List Loc) (ls : Array Slot), K74 v1 v2 v3 v4 σ → wM D dA ad (AM dA ad σ0 sz) s σ H locs → lv_has ls 9 [(0, .ref (ad 0)), (1, .int v1), (2, .int v2), (3, .int v3), (4, .int v4)] → W p l e rm_build s m args below meth c H locs 0 0 (MQ below (va_Qi Qr (BM D dA ad (AM dA ad σ0 sz)) (AM dA ad σ0 sz)) args s 0 0 (AM dA ad σ0 sz)) (F0 m 74 ls [])) : ∀ (v1 : Int32) (v2 : Int32) (v3 : Int32) (v4 : Int32) (σ : St) (H : Heap) (locs : List Loc) (ls : Array Slot), wp_build_229 Qr K38 K74 v1 v2 v3 v4 σ → wM D dA ad (AM dA ad σ0 sz) s σ H locs → lv_has ls 9 [(0, .ref (ad 0)), (1, .int v1), (2, .int v2), (3, .int v3), (4, .int v4)] → W p l e rm_build s m args below meth c H locs 0 0 (MQ below (va_Qi Qr (BM D dA ad (AM dA ad σ0 sz)) (AM dA ad σ0 sz)) args s 0 0 (AM dA ad σ0 sz)) (F0 m 229 ls []) := by
  intro v1 v2 v3 v4 σ H locs ls hw hM hl
  have hx := C.1
  have hb := C.2.1
  have hown := C.2.2.2.2.2.1
  have hts := C.2.2.2.2.2.2.1
  unfold wp_build_229 at hw
  refine lv_goto (tgt := 403) hx hb dX10_build_229 (by decide) ?_
  exact wk_build_403 C hK38 hK74 v1 v2 v3 v4 σ _ _ ls hw hM (lv_sub hl [0, 1, 2, 3, 4] rfl)
set_option maxHeartbeats 4000000 in
theorem wk_build_181 {p : Program} {l : Launch} {e : Env} {s : State} {m : MethodId} {args : Array Value} {below : List Frame} {meth : Method} {c : Code} {D : va_G} {dA : Nat → ClassId} {ad : Nat → Nat} {σ0 : St} {sz : Nat} (C : CxM p s m meth c args (AM dA ad σ0 sz) RX10 cX10_build 9 (some .int)) {Qr : Int32 → St → Prop} {K38 : Int32 → St → Prop} (hK38 : ∀ (v1 : Int32) (σ : St) (H : Heap) (locs : List Loc) (ls : Array Slot), K38 v1 σ → wM D dA ad (AM dA ad σ0 sz) s σ H locs → lv_has ls 9 [(0, .ref (ad 0)), (1, .int v1)] → W p l e rm_build s m args below meth c H locs 0 0 (MQ below (va_Qi Qr (BM D dA ad (AM dA ad σ0 sz)) (AM dA ad σ0 sz)) args s 0 0 (AM dA ad σ0 sz)) (F0 m 38 ls [])) {K74 : Int32 → Int32 → Int32 → Int32 → St → Prop} (hK74 : ∀ (v1 : Int32) (v2 : Int32) (v3 : Int32) (v4 : Int32) (σ : St) (H : Heap) (locs : List Loc) (ls : Array Slot), K74 v1 v2 v3 v4 σ → wM D dA ad (AM dA ad σ0 sz) s σ H locs → lv_has ls 9 [(0, .ref (ad 0)), (1, .int v1), (2, .int v2), (3, .int v3), (4, .int v4)] → W p l e rm_build s m args below meth c H locs 0 0 (MQ below (va_Qi Qr (BM D dA ad (AM dA ad σ0 sz)) (AM dA ad σ0 sz)) args s 0 0 (AM dA ad σ0 sz)) (F0 m 74 ls [])) : ∀ (v1 : Int32) (v2 : Int32) (v3 : Int32) (v4 : Int32) (u0 : Int32) (σ : St) (H : Heap) (locs : List Loc) (ls : Array Slot), wp_build_181 Qr K38 K74 v1 v2 v3 v4 u0 σ → wM D dA ad (AM dA ad σ0 sz) s σ H locs → lv_has ls 9 [(0, .ref (ad 0)), (1, .int v1), (2, .int v2), (3, .int v3), (4, .int v4)] → W p l e rm_build s m args below meth c H locs 0 0 (MQ below (va_Qi Qr (BM D dA ad (AM dA ad σ0 sz)) (AM dA ad σ0 sz)) args s 0 0 (AM dA ad σ0 sz)) (F0 m 181 ls [.int u0]) := by
  intro v1 v2 v3 v4 u0 σ H locs ls hw hM hl
  have hx := C.1
  have hb := C.2.1
  have hown := C.2.2.2.2.2.1
  have hts := C.2.2.2.2.2.2.1
  unfold wp_build_181 at hw
  refine lv_istore (lv' := [(6, .int u0), (0, .ref (ad 0)), (1, .int v1), (2, .int v2), (3, .int v3), (4, .int v4)]) hx hb dX10_build_181 hl (by decide) rfl (fun ls hl => ?_)
  refine lv_iload hx hb dX10_build_183 (lv_at hl 0 rfl) ?_
  refine lv_if_eq (tgt := 229) hx hb dX10_build_185 (by decide) (fun hc => ?_) (fun hc => ?_)
  · have hw := hw.1 hc
    exact wk_build_229 C hK38 hK74 v1 v2 v3 v4 σ _ _ ls hw hM (lv_sub hl [1, 2, 3, 4, 5] rfl)
  · have hw := hw.2 hc
    refine lv_aload_n hx hb dX10_build_188 rfl (lv_at hl 1 rfl) ?_
    refine rM_get C hM 12 (by decide) (fM_12 ad σ) q1402 rfl dX10_build_189 ?_
    refine lv_bipush (v := 7) hx hb dX10_build_192 (by decide) ?_
    refine lv_aload_n hx hb dX10_build_194 rfl (lv_at hl 1 rfl) ?_
    refine rM_get C hM 11 (by decide) (fM_11 ad σ) q1401 rfl dX10_build_195 ?_
    refine lv_imul hx hb dX10_build_198 ?_
    refine lv_bipush (v := 6) hx hb dX10_build_199 (by decide) ?_
    refine lv_iadd hx hb dX10_build_201 ?_
    refine lv_aload_n hx hb dX10_build_202 rfl (lv_at hl 1 rfl) ?_
    refine rM_get C hM 12 (by decide) (fM_12 ad σ) q1402 rfl dX10_build_203 ?_
    refine lv_bipush (v := 7) hx hb dX10_build_206 (by decide) ?_
    refine lv_aload_n hx hb dX10_build_208 rfl (lv_at hl 1 rfl) ?_
    refine rM_get C hM 11 (by decide) (fM_11 ad σ) q1401 rfl dX10_build_209 ?_
    refine lv_imul hx hb dX10_build_212 ?_
    refine lv_bipush (v := 6) hx hb dX10_build_213 (by decide) ?_
    refine lv_iadd hx hb dX10_build_215 ?_
    refine rM_iald C hM 12 6 (wM_12 dA ad σ) hw.1 dX10_build_216 ?_
    have hw := hw.2
    refine lv_iload_n hx hb dX10_build_217 rfl (lv_at hl 4 rfl) ?_
    refine lv_iload_n hx hb dX10_build_218 rfl (lv_at hl 3 rfl) ?_
    refine lv_imul hx hb dX10_build_219 ?_
    refine lv_aload_n hx hb dX10_build_220 rfl (lv_at hl 1 rfl) ?_
    refine rM_get C hM 6 (by decide) (fM_6 ad σ) q1396 rfl dX10_build_221 ?_
    refine lv_iload_n hx hb dX10_build_224 rfl (lv_at hl 2 rfl) ?_
    refine rM_iald C hM 6 4 (wM_6 dA ad σ) hw.1 dX10_build_225 ?_
    have hw := hw.2
    refine lv_imul hx hb dX10_build_226 ?_
    refine lv_isub hx hb dX10_build_227 ?_
    refine rM_iast C hM 12 6 (wM_12 dA ad σ) (wM_s12 dA ad σ _ _) hw.1 dX10_build_228 (fun σ1 H locs eσ hM => ?_)
    have hw := hw.2 σ1 eσ
    clear eσ
    exact wk_build_229 C hK38 hK74 v1 v2 v3 v4 σ1 _ _ ls hw hM (lv_sub hl [1, 2, 3, 4, 5] rfl)
set_option maxHeartbeats 4000000 in
theorem wk_build_180 {p : Program} {l : Launch} {e : Env} {s : State} {m : MethodId} {args : Array Value} {below : List Frame} {meth : Method} {c : Code} {D : va_G} {dA : Nat → ClassId} {ad : Nat → Nat} {σ0 : St} {sz : Nat} (C : CxM p s m meth c args (AM dA ad σ0 sz) RX10 cX10_build 9 (some .int)) {Qr : Int32 → St → Prop} {K38 : Int32 → St → Prop} (hK38 : ∀ (v1 : Int32) (σ : St) (H : Heap) (locs : List Loc) (ls : Array Slot), K38 v1 σ → wM D dA ad (AM dA ad σ0 sz) s σ H locs → lv_has ls 9 [(0, .ref (ad 0)), (1, .int v1)] → W p l e rm_build s m args below meth c H locs 0 0 (MQ below (va_Qi Qr (BM D dA ad (AM dA ad σ0 sz)) (AM dA ad σ0 sz)) args s 0 0 (AM dA ad σ0 sz)) (F0 m 38 ls [])) {K74 : Int32 → Int32 → Int32 → Int32 → St → Prop} (hK74 : ∀ (v1 : Int32) (v2 : Int32) (v3 : Int32) (v4 : Int32) (σ : St) (H : Heap) (locs : List Loc) (ls : Array Slot), K74 v1 v2 v3 v4 σ → wM D dA ad (AM dA ad σ0 sz) s σ H locs → lv_has ls 9 [(0, .ref (ad 0)), (1, .int v1), (2, .int v2), (3, .int v3), (4, .int v4)] → W p l e rm_build s m args below meth c H locs 0 0 (MQ below (va_Qi Qr (BM D dA ad (AM dA ad σ0 sz)) (AM dA ad σ0 sz)) args s 0 0 (AM dA ad σ0 sz)) (F0 m 74 ls [])) : ∀ (v1 : Int32) (v2 : Int32) (v3 : Int32) (v4 : Int32) (σ : St) (H : Heap) (locs : List Loc) (ls : Array Slot), wp_build_180 Qr K38 K74 v1 v2 v3 v4 σ → wM D dA ad (AM dA ad σ0 sz) s σ H locs → lv_has ls 9 [(0, .ref (ad 0)), (1, .int v1), (2, .int v2), (3, .int v3), (4, .int v4)] → W p l e rm_build s m args below meth c H locs 0 0 (MQ below (va_Qi Qr (BM D dA ad (AM dA ad σ0 sz)) (AM dA ad σ0 sz)) args s 0 0 (AM dA ad σ0 sz)) (F0 m 180 ls []) := by
  intro v1 v2 v3 v4 σ H locs ls hw hM hl
  have hx := C.1
  have hb := C.2.1
  have hown := C.2.2.2.2.2.1
  have hts := C.2.2.2.2.2.2.1
  unfold wp_build_180 at hw
  refine lv_iconst (v := 0) hx hb dX10_build_180 (by decide) ?_
  exact wk_build_181 C hK38 hK74 v1 v2 v3 v4 0 σ _ _ ls hw hM (lv_sub hl [0, 1, 2, 3, 4] rfl)
set_option maxHeartbeats 4000000 in
theorem wk_build_125 {p : Program} {l : Launch} {e : Env} {s : State} {m : MethodId} {args : Array Value} {below : List Frame} {meth : Method} {c : Code} {D : va_G} {dA : Nat → ClassId} {ad : Nat → Nat} {σ0 : St} {sz : Nat} (C : CxM p s m meth c args (AM dA ad σ0 sz) RX10 cX10_build 9 (some .int)) {Qr : Int32 → St → Prop} {K38 : Int32 → St → Prop} (hK38 : ∀ (v1 : Int32) (σ : St) (H : Heap) (locs : List Loc) (ls : Array Slot), K38 v1 σ → wM D dA ad (AM dA ad σ0 sz) s σ H locs → lv_has ls 9 [(0, .ref (ad 0)), (1, .int v1)] → W p l e rm_build s m args below meth c H locs 0 0 (MQ below (va_Qi Qr (BM D dA ad (AM dA ad σ0 sz)) (AM dA ad σ0 sz)) args s 0 0 (AM dA ad σ0 sz)) (F0 m 38 ls [])) {K74 : Int32 → Int32 → Int32 → Int32 → St → Prop} (hK74 : ∀ (v1 : Int32) (v2 : Int32) (v3 : Int32) (v4 : Int32) (σ : St) (H : Heap) (locs : List Loc) (ls : Array Slot), K74 v1 v2 v3 v4 σ → wM D dA ad (AM dA ad σ0 sz) s σ H locs → lv_has ls 9 [(0, .ref (ad 0)), (1, .int v1), (2, .int v2), (3, .int v3), (4, .int v4)] → W p l e rm_build s m args below meth c H locs 0 0 (MQ below (va_Qi Qr (BM D dA ad (AM dA ad σ0 sz)) (AM dA ad σ0 sz)) args s 0 0 (AM dA ad σ0 sz)) (F0 m 74 ls [])) : ∀ (v1 : Int32) (v3 : Int32) (v4 : Int32) (u0 : Int32) (σ : St) (H : Heap) (locs : List Loc) (ls : Array Slot), wp_build_125 Qr K38 K74 v1 v3 v4 u0 σ → wM D dA ad (AM dA ad σ0 sz) s σ H locs → lv_has ls 9 [(0, .ref (ad 0)), (1, .int v1), (3, .int v3), (4, .int v4)] → W p l e rm_build s m args below meth c H locs 0 0 (MQ below (va_Qi Qr (BM D dA ad (AM dA ad σ0 sz)) (AM dA ad σ0 sz)) args s 0 0 (AM dA ad σ0 sz)) (F0 m 125 ls [.int u0]) := by
  intro v1 v3 v4 u0 σ H locs ls hw hM hl
  have hx := C.1
  have hb := C.2.1
  have hown := C.2.2.2.2.2.1
  have hts := C.2.2.2.2.2.2.1
  unfold wp_build_125 at hw
  refine lv_istore_n (lv' := [(2, .int u0), (0, .ref (ad 0)), (1, .int v1), (3, .int v3), (4, .int v4)]) hx hb dX10_build_125 rfl hl (by decide) rfl (fun ls hl => ?_)
  refine lv_goto (tgt := 403) hx hb dX10_build_126 (by decide) ?_
  exact wk_build_403 C hK38 hK74 v1 u0 v3 v4 σ _ _ ls hw hM (lv_sub hl [1, 2, 0, 3, 4] rfl)
set_option maxHeartbeats 4000000 in
theorem wk_build_114 {p : Program} {l : Launch} {e : Env} {s : State} {m : MethodId} {args : Array Value} {below : List Frame} {meth : Method} {c : Code} {D : va_G} {dA : Nat → ClassId} {ad : Nat → Nat} {σ0 : St} {sz : Nat} (C : CxM p s m meth c args (AM dA ad σ0 sz) RX10 cX10_build 9 (some .int)) {Qr : Int32 → St → Prop} {K38 : Int32 → St → Prop} (hK38 : ∀ (v1 : Int32) (σ : St) (H : Heap) (locs : List Loc) (ls : Array Slot), K38 v1 σ → wM D dA ad (AM dA ad σ0 sz) s σ H locs → lv_has ls 9 [(0, .ref (ad 0)), (1, .int v1)] → W p l e rm_build s m args below meth c H locs 0 0 (MQ below (va_Qi Qr (BM D dA ad (AM dA ad σ0 sz)) (AM dA ad σ0 sz)) args s 0 0 (AM dA ad σ0 sz)) (F0 m 38 ls [])) {K74 : Int32 → Int32 → Int32 → Int32 → St → Prop} (hK74 : ∀ (v1 : Int32) (v2 : Int32) (v3 : Int32) (v4 : Int32) (σ : St) (H : Heap) (locs : List Loc) (ls : Array Slot), K74 v1 v2 v3 v4 σ → wM D dA ad (AM dA ad σ0 sz) s σ H locs → lv_has ls 9 [(0, .ref (ad 0)), (1, .int v1), (2, .int v2), (3, .int v3), (4, .int v4)] → W p l e rm_build s m args below meth c H locs 0 0 (MQ below (va_Qi Qr (BM D dA ad (AM dA ad σ0 sz)) (AM dA ad σ0 sz)) args s 0 0 (AM dA ad σ0 sz)) (F0 m 74 ls [])) : ∀ (v1 : Int32) (v3 : Int32) (v4 : Int32) (v5 : Int32) (σ : St) (H : Heap) (locs : List Loc) (ls : Array Slot), wp_build_114 Qr K38 K74 v1 v3 v4 v5 σ → wM D dA ad (AM dA ad σ0 sz) s σ H locs → lv_has ls 9 [(0, .ref (ad 0)), (1, .int v1), (3, .int v3), (4, .int v4), (5, .int v5)] → W p l e rm_build s m args below meth c H locs 0 0 (MQ below (va_Qi Qr (BM D dA ad (AM dA ad σ0 sz)) (AM dA ad σ0 sz)) args s 0 0 (AM dA ad σ0 sz)) (F0 m 114 ls []) := by
  intro v1 v3 v4 v5 σ H locs ls hw hM hl
  have hx := C.1
  have hb := C.2.1
  have hown := C.2.2.2.2.2.1
  have hts := C.2.2.2.2.2.2.1
  unfold wp_build_114 at hw
  refine lv_iload hx hb dX10_build_114 (lv_at hl 4 rfl) ?_
  refine lv_iconst (v := 3) hx hb dX10_build_116 (by decide) ?_
  refine lv_icmp_ne (tgt := 124) hx hb dX10_build_117 (by decide) (fun hc => ?_) (fun hc => ?_)
  · have hw := hw.1 hc
    refine lv_iconst (v := (-1)) hx hb dX10_build_124 (by decide) ?_
    exact wk_build_125 C hK38 hK74 v1 v3 v4 (-1) σ _ _ ls hw hM (lv_sub hl [0, 1, 2, 3] rfl)
  · have hw := hw.2 hc
    refine lv_iconst (v := 1) hx hb dX10_build_120 (by decide) ?_
    refine lv_goto (tgt := 125) hx hb dX10_build_121 (by decide) ?_
    exact wk_build_125 C hK38 hK74 v1 v3 v4 1 σ _ _ ls hw hM (lv_sub hl [0, 1, 2, 3] rfl)
set_option maxHeartbeats 4000000 in
theorem wk_build_74 {p : Program} {l : Launch} {e : Env} {s : State} {m : MethodId} {args : Array Value} {below : List Frame} {meth : Method} {c : Code} {D : va_G} {dA : Nat → ClassId} {ad : Nat → Nat} {σ0 : St} {sz : Nat} (C : CxM p s m meth c args (AM dA ad σ0 sz) RX10 cX10_build 9 (some .int)) {Qr : Int32 → St → Prop} {K38 : Int32 → St → Prop} (hK38 : ∀ (v1 : Int32) (σ : St) (H : Heap) (locs : List Loc) (ls : Array Slot), K38 v1 σ → wM D dA ad (AM dA ad σ0 sz) s σ H locs → lv_has ls 9 [(0, .ref (ad 0)), (1, .int v1)] → W p l e rm_build s m args below meth c H locs 0 0 (MQ below (va_Qi Qr (BM D dA ad (AM dA ad σ0 sz)) (AM dA ad σ0 sz)) args s 0 0 (AM dA ad σ0 sz)) (F0 m 38 ls [])) : ∀ (n : Nat) (v1 : Int32) (v2 : Int32) (v3 : Int32) (v4 : Int32) (σ : St) (H : Heap) (locs : List Loc) (ls : Array Slot), wp_build_74 Qr K38 n v1 v2 v3 v4 σ → wM D dA ad (AM dA ad σ0 sz) s σ H locs → lv_has ls 9 [(0, .ref (ad 0)), (1, .int v1), (2, .int v2), (3, .int v3), (4, .int v4)] → W p l e rm_build s m args below meth c H locs 0 0 (MQ below (va_Qi Qr (BM D dA ad (AM dA ad σ0 sz)) (AM dA ad σ0 sz)) args s 0 0 (AM dA ad σ0 sz)) (F0 m 74 ls []) := by
  intro n
  induction n with
  | zero => intro v1 v2 v3 v4 σ H locs ls hw; exact hw.elim
  | succ n74 ih =>
    intro v1 v2 v3 v4 σ H locs ls hw hM hl
    have hx := C.1
    have hb := C.2.1
    have hown := C.2.2.2.2.2.1
    have hts := C.2.2.2.2.2.2.1
    unfold wp_build_74 at hw
    refine lv_aload_n hx hb dX10_build_74 rfl (lv_at hl 0 rfl) ?_
    refine rM_get C hM 4 (by decide) (fM_4 ad σ) q1394 rfl dX10_build_75 ?_
    refine lv_iload_n hx hb dX10_build_78 rfl (lv_at hl 1 rfl) ?_
    refine rM_iald C hM 4 2 (wM_4 dA ad σ) hw.1 dX10_build_79 ?_
    have hw := hw.2
    refine lv_bipush (v := 6) hx hb dX10_build_80 (by decide) ?_
    refine lv_icmp_eq (tgt := 409) hx hb dX10_build_82 (by decide) (fun hc => ?_) (fun hc => ?_)
    · have hw := hw.1 hc
      exact wk_build_409 C hK38 v1 v4 σ _ _ ls hw hM (lv_sub hl [0, 1, 4] rfl)
    · have hw := hw.2 hc
      refine lv_aload_n hx hb dX10_build_85 rfl (lv_at hl 0 rfl) ?_
      refine rM_get C hM 4 (by decide) (fM_4 ad σ) q1394 rfl dX10_build_86 ?_
      refine lv_iload_n hx hb dX10_build_89 rfl (lv_at hl 1 rfl) ?_
      refine rM_iald C hM 4 2 (wM_4 dA ad σ) hw.1 dX10_build_90 ?_
      have hw := hw.2
      refine lv_if_eq (tgt := 409) hx hb dX10_build_91 (by decide) (fun hc => ?_) (fun hc => ?_)
      · have hw := hw.1 hc
        exact wk_build_409 C hK38 v1 v4 σ _ _ ls hw hM (lv_sub hl [0, 1, 4] rfl)
      · have hw := hw.2 hc
        refine lv_aload_n hx hb dX10_build_94 rfl (lv_at hl 0 rfl) ?_
        refine rM_get C hM 4 (by decide) (fM_4 ad σ) q1394 rfl dX10_build_95 ?_
        refine lv_iload_n hx hb dX10_build_98 rfl (lv_at hl 1 rfl) ?_
        refine rM_iald C hM 4 2 (wM_4 dA ad σ) hw.1 dX10_build_99 ?_
        have hw := hw.2
        refine lv_topi (fun x1 ex1 => ?_)
        have hw := hw x1 ex1
        refine lv_istore (lv' := [(5, .int x1), (0, .ref (ad 0)), (1, .int v1), (2, .int v2), (3, .int v3), (4, .int v4)]) hx hb dX10_build_100 hl (by decide) rfl (fun ls hl => ?_)
        refine lv_iload hx hb dX10_build_102 (lv_at hl 0 rfl) ?_
        refine lv_iconst (v := 3) hx hb dX10_build_104 (by decide) ?_
        refine lv_icmp_eq (tgt := 114) hx hb dX10_build_105 (by decide) (fun hc => ?_) (fun hc => ?_)
        · have hw := hw.1 hc
          exact wk_build_114 C hK38 ih v1 v3 v4 x1 σ _ _ ls hw hM (lv_sub hl [1, 2, 4, 5, 0] rfl)
        · have hw := hw.2 hc
          refine lv_iload hx hb dX10_build_108 (lv_at hl 0 rfl) ?_
          refine lv_iconst (v := 4) hx hb dX10_build_110 (by decide) ?_
          refine lv_icmp_ne (tgt := 129) hx hb dX10_build_111 (by decide) (fun hc => ?_) (fun hc => ?_)
          · have hw := hw.1 hc
            refine lv_iload hx hb dX10_build_129 (lv_at hl 0 rfl) ?_
            refine lv_bipush (v := 7) hx hb dX10_build_131 (by decide) ?_
            refine lv_icmp_lt (tgt := 146) hx hb dX10_build_133 (by decide) (fun hc => ?_) (fun hc => ?_)
            · have hw := hw.1 hc
              refine lv_iload hx hb dX10_build_146 (lv_at hl 0 rfl) ?_
              refine lv_iconst (v := 1) hx hb dX10_build_148 (by decide) ?_
              refine lv_icmp_ne (tgt := 232) hx hb dX10_build_149 (by decide) (fun hc => ?_) (fun hc => ?_)
              · have hw := hw.1 hc
                refine lv_iload hx hb dX10_build_232 (lv_at hl 0 rfl) ?_
                refine lv_iconst (v := 2) hx hb dX10_build_234 (by decide) ?_
                refine lv_icmp_ne (tgt := 403) hx hb dX10_build_235 (by decide) (fun hc => ?_) (fun hc => ?_)
                · have hw := hw.1 hc
                  exact wk_build_403 C hK38 ih v1 v2 v3 v4 σ _ _ ls hw hM (lv_sub hl [1, 2, 3, 4, 5] rfl)
                · have hw := hw.2 hc
                  refine lv_aload_n hx hb dX10_build_238 rfl (lv_at hl 1 rfl) ?_
                  refine lv_aload_n hx hb dX10_build_239 rfl (lv_at hl 1 rfl) ?_
                  refine rM_get C hM 6 (by decide) (fM_6 ad σ) q1396 rfl dX10_build_240 ?_
                  refine lv_iload_n hx hb dX10_build_243 rfl (lv_at hl 2 rfl) ?_
                  refine rM_iald C hM 6 4 (wM_6 dA ad σ) hw.1 dX10_build_244 ?_
                  have hw := hw.2
                  refine rM_callVi (n := 1) (As := [.int (gA σ 6 v1)]) C hM hl.1 (mt_draftColumn l D dA ad _ σ (gA σ 6 v1) _ hw) (lw_V q1539 q1541 qs52 q93 q1542) rfl rfl (by decide +kernel) ⟨Nat.le_of_ble_eq_true rfl, Nat.le_of_ble_eq_true rfl⟩ rfl (Nat.le_of_ble_eq_true rfl) ⟨Nat.zero_le _, Nat.zero_le _⟩ rfl dX10_build_245 (fun x3 σ2 H locs hw hM => ?_)
                  refine lv_istore (lv' := [(6, .int x3), (5, .int x1), (0, .ref (ad 0)), (1, .int v1), (2, .int v2), (3, .int v3), (4, .int v4)]) hx hb dX10_build_248 hl (by decide) rfl (fun ls hl => ?_)
                  refine lv_iload hx hb dX10_build_250 (lv_at hl 0 rfl) ?_
                  refine lv_if_ge (tgt := 310) hx hb dX10_build_252 (by decide) (fun hc => ?_) (fun hc => ?_)
                  · have hw := hw.1 hc
                    exact wk_build_310 C hK38 ih v1 v2 v3 v4 x3 σ2 _ _ ls hw hM (lv_sub hl [2, 3, 4, 5, 6, 0] rfl)
                  · have hw := hw.2 hc
                    refine lv_aload_n hx hb dX10_build_255 rfl (lv_at hl 2 rfl) ?_
                    refine rM_get C hM 9 (by decide) (fM_9 ad σ2) q1399 rfl dX10_build_256 ?_
                    refine lv_aload_n hx hb dX10_build_259 rfl (lv_at hl 2 rfl) ?_
                    refine rM_get C hM 10 (by decide) (fM_10 ad σ2) q1400 rfl dX10_build_260 ?_
                    refine lv_iadd hx hb dX10_build_263 ?_
                    refine lv_bipush (v := 6) hx hb dX10_build_264 (by decide) ?_
                    refine lv_icmp_ne (tgt := 281) hx hb dX10_build_266 (by decide) (fun hc => ?_) (fun hc => ?_)
                    · have hw := hw.1 hc
                      refine lv_aload_n hx hb dX10_build_281 rfl (lv_at hl 2 rfl) ?_
                      refine rM_get C hM 9 (by decide) (fM_9 ad σ2) q1399 rfl dX10_build_282 ?_
                      refine lv_topi (fun x4 ex4 => ?_)
                      have hw := hw x4 ex4
                      refine lv_istore (lv' := [(6, .int x4), (5, .int x1), (0, .ref (ad 0)), (1, .int v1), (2, .int v2), (3, .int v3), (4, .int v4)]) hx hb dX10_build_285 hl (by decide) rfl (fun ls hl => ?_)
                      refine lv_aload_n hx hb dX10_build_287 rfl (lv_at hl 2 rfl) ?_
                      refine rM_get C hM 8 (by decide) (fM_8 ad σ2) q1398 rfl dX10_build_288 ?_
                      refine lv_iload hx hb dX10_build_291 (lv_at hl 0 rfl) ?_
                      refine lv_aload_n hx hb dX10_build_293 rfl (lv_at hl 2 rfl) ?_
                      refine rM_get C hM 6 (by decide) (fM_6 ad σ2) q1396 rfl dX10_build_294 ?_
                      refine lv_iload_n hx hb dX10_build_297 rfl (lv_at hl 3 rfl) ?_
                      refine rM_iald C hM 6 4 (wM_6 dA ad σ2) hw.1 dX10_build_298 ?_
                      have hw := hw.2
                      refine rM_iast C hM 8 5 (wM_8 dA ad σ2) (wM_s8 dA ad σ2 _ _) hw.1 dX10_build_299 (fun σ5 H locs eσ hM => ?_)
                      have hw := hw.2 σ5 eσ
                      clear eσ
                      refine lv_aload_n hx hb dX10_build_300 rfl (lv_at hl 2 rfl) ?_
                      refine lv_dup hx hb dX10_build_301 rfl ?_
                      refine rM_get C hM 9 (by decide) (fM_9 ad σ5) q1399 rfl dX10_build_302 ?_
                      refine lv_iconst (v := 1) hx hb dX10_build_305 (by decide) ?_
                      refine lv_iadd hx hb dX10_build_306 ?_
                      refine rM_putI C hM 9 (by decide) (fM_s9 dA ad σ5 _) q1399 rfl rfl (tyX10_ok 9 (by decide)) rfl rfl dX10_build_307 (fun σ6 H locs eσ hM => ?_)
                      have hw := hw σ6 eσ
                      clear eσ
                      exact wk_build_310 C hK38 ih v1 v2 v3 v4 x4 σ6 _ _ ls hw hM (lv_sub hl [2, 3, 4, 5, 6, 0] rfl)
                    · have hw := hw.2 hc
                      refine lv_aload_n hx hb dX10_build_269 rfl (lv_at hl 2 rfl) ?_
                      refine lv_iconst (v := 2) hx hb dX10_build_270 (by decide) ?_
                      refine lv_aload_n hx hb dX10_build_271 rfl (lv_at hl 2 rfl) ?_
                      refine rM_get C hM 5 (by decide) (fM_5 ad σ2) q1395 rfl dX10_build_272 ?_
                      refine lv_iload_n hx hb dX10_build_275 rfl (lv_at hl 3 rfl) ?_
                      refine rM_iald C hM 5 3 (wM_5 dA ad σ2) hw.1 dX10_build_276 ?_
                      have hw := hw.2
                      refine rM_callVi (n := 2) (As := [.int 2, .int (gA σ2 5 v1)]) C hM hl.1 (mt_fault l D dA ad _ σ2 2 (gA σ2 5 v1) _ hw) (lw_V q1531 q1533 qs50 q93 q1534) rfl rfl (by decide +kernel) ⟨Nat.le_of_ble_eq_true rfl, Nat.le_of_ble_eq_true rfl⟩ rfl (Nat.le_of_ble_eq_true rfl) ⟨Nat.zero_le _, Nat.zero_le _⟩ rfl dX10_build_277 (fun x8 σ7 H locs hw hM => ?_)
                      exact rM_iret C hM hw dX10_build_280
              · have hw := hw.2 hc
                refine lv_aload_n hx hb dX10_build_152 rfl (lv_at hl 1 rfl) ?_
                refine rM_get C hM 4 (by decide) (fM_4 ad σ) q1394 rfl dX10_build_153 ?_
                refine lv_iload_n hx hb dX10_build_156 rfl (lv_at hl 2 rfl) ?_
                refine lv_iconst (v := 1) hx hb dX10_build_157 (by decide) ?_
                refine lv_iadd hx hb dX10_build_158 ?_
                refine rM_iald C hM 4 2 (wM_4 dA ad σ) hw.1 dX10_build_159 ?_
                have hw := hw.2
                refine lv_iconst (v := 2) hx hb dX10_build_160 (by decide) ?_
                refine lv_icmp_eq (tgt := 180) hx hb dX10_build_161 (by decide) (fun hc => ?_) (fun hc => ?_)
                · have hw := hw.1 hc
                  exact wk_build_180 C hK38 ih v1 v2 v3 v4 σ _ _ ls hw hM (lv_sub hl [1, 2, 3, 4, 5] rfl)
                · have hw := hw.2 hc
                  refine lv_aload_n hx hb dX10_build_164 rfl (lv_at hl 1 rfl) ?_
                  refine rM_get C hM 4 (by decide) (fM_4 ad σ) q1394 rfl dX10_build_165 ?_
                  refine lv_iload_n hx hb dX10_build_168 rfl (lv_at hl 2 rfl) ?_
                  refine lv_iconst (v := 1) hx hb dX10_build_169 (by decide) ?_
                  refine lv_iadd hx hb dX10_build_170 ?_
                  refine rM_iald C hM 4 2 (wM_4 dA ad σ) hw.1 dX10_build_171 ?_
                  have hw := hw.2
                  refine lv_iconst (v := 5) hx hb dX10_build_172 (by decide) ?_
                  refine lv_icmp_eq (tgt := 180) hx hb dX10_build_173 (by decide) (fun hc => ?_) (fun hc => ?_)
                  · have hw := hw.1 hc
                    exact wk_build_180 C hK38 ih v1 v2 v3 v4 σ _ _ ls hw hM (lv_sub hl [1, 2, 3, 4, 5] rfl)
                  · have hw := hw.2 hc
                    refine lv_iconst (v := 1) hx hb dX10_build_176 (by decide) ?_
                    refine lv_goto (tgt := 181) hx hb dX10_build_177 (by decide) ?_
                    exact wk_build_181 C hK38 ih v1 v2 v3 v4 1 σ _ _ ls hw hM (lv_sub hl [1, 2, 3, 4, 5] rfl)
            · have hw := hw.2 hc
              refine lv_iload_n hx hb dX10_build_136 rfl (lv_at hl 2 rfl) ?_
              refine lv_istore (lv' := [(4, .int v1), (5, .int x1), (0, .ref (ad 0)), (1, .int v1), (2, .int v2), (3, .int v3)]) hx hb dX10_build_137 hl (by decide) rfl (fun ls hl => ?_)
              refine lv_iconst (v := (-1)) hx hb dX10_build_139 (by decide) ?_
              refine lv_istore_n (lv' := [(3, .int (-1)), (4, .int v1), (5, .int x1), (0, .ref (ad 0)), (1, .int v1), (2, .int v2)]) hx hb dX10_build_140 rfl hl (by decide) rfl (fun ls hl => ?_)
              refine lv_iconst (v := 1) hx hb dX10_build_141 (by decide) ?_
              refine lv_istore_n (lv' := [(2, .int 1), (3, .int (-1)), (4, .int v1), (5, .int x1), (0, .ref (ad 0)), (1, .int v1)]) hx hb dX10_build_142 rfl hl (by decide) rfl (fun ls hl => ?_)
              refine lv_goto (tgt := 403) hx hb dX10_build_143 (by decide) ?_
              exact wk_build_403 C hK38 ih v1 1 (-1) v1 σ _ _ ls hw hM (lv_sub hl [4, 5, 0, 1, 2] rfl)
          · have hw := hw.2 hc
            exact wk_build_114 C hK38 ih v1 v3 v4 x1 σ _ _ ls hw hM (lv_sub hl [1, 2, 4, 5, 0] rfl)
set_option maxHeartbeats 4000000 in
theorem wk_build_38 {p : Program} {l : Launch} {e : Env} {s : State} {m : MethodId} {args : Array Value} {below : List Frame} {meth : Method} {c : Code} {D : va_G} {dA : Nat → ClassId} {ad : Nat → Nat} {σ0 : St} {sz : Nat} (C : CxM p s m meth c args (AM dA ad σ0 sz) RX10 cX10_build 9 (some .int)) {Qr : Int32 → St → Prop} : ∀ (n : Nat) (v1 : Int32) (σ : St) (H : Heap) (locs : List Loc) (ls : Array Slot), wp_build_38 Qr n v1 σ → wM D dA ad (AM dA ad σ0 sz) s σ H locs → lv_has ls 9 [(0, .ref (ad 0)), (1, .int v1)] → W p l e rm_build s m args below meth c H locs 0 0 (MQ below (va_Qi Qr (BM D dA ad (AM dA ad σ0 sz)) (AM dA ad σ0 sz)) args s 0 0 (AM dA ad σ0 sz)) (F0 m 38 ls []) := by
  intro n
  induction n with
  | zero => intro v1 σ H locs ls hw; exact hw.elim
  | succ n38 ih =>
    intro v1 σ H locs ls hw hM hl
    have hx := C.1
    have hb := C.2.1
    have hown := C.2.2.2.2.2.1
    have hts := C.2.2.2.2.2.2.1
    unfold wp_build_38 at hw
    refine lv_aload_n hx hb dX10_build_38 rfl (lv_at hl 0 rfl) ?_
    refine rM_get C hM 4 (by decide) (fM_4 ad σ) q1394 rfl dX10_build_39 ?_
    refine lv_iload_n hx hb dX10_build_42 rfl (lv_at hl 1 rfl) ?_
    refine rM_iald C hM 4 2 (wM_4 dA ad σ) hw.1 dX10_build_43 ?_
    have hw := hw.2
    refine lv_if_eq (tgt := 604) hx hb dX10_build_44 (by decide) (fun hc => ?_) (fun hc => ?_)
    · have hw := hw.1 hc
      refine lv_iconst (v := 0) hx hb dX10_build_604 (by decide) ?_
      exact rM_iret C hM hw dX10_build_605
    · have hw := hw.2 hc
      refine lv_aload_n hx hb dX10_build_47 rfl (lv_at hl 0 rfl) ?_
      refine rM_get C hM 11 (by decide) (fM_11 ad σ) q1401 rfl dX10_build_48 ?_
      refine lv_iconst (v := 4) hx hb dX10_build_51 (by decide) ?_
      refine lv_icmp_ne (tgt := 67) hx hb dX10_build_52 (by decide) (fun hc => ?_) (fun hc => ?_)
      · have hw := hw.1 hc
        refine lv_iconst (v := 1) hx hb dX10_build_67 (by decide) ?_
        refine lv_istore_n (lv' := [(2, .int 1), (0, .ref (ad 0)), (1, .int v1)]) hx hb dX10_build_68 rfl hl (by decide) rfl (fun ls hl => ?_)
        refine lv_iconst (v := 1) hx hb dX10_build_69 (by decide) ?_
        refine lv_istore_n (lv' := [(3, .int 1), (2, .int 1), (0, .ref (ad 0)), (1, .int v1)]) hx hb dX10_build_70 rfl hl (by decide) rfl (fun ls hl => ?_)
        refine lv_iload_n hx hb dX10_build_71 rfl (lv_at hl 3 rfl) ?_
        refine lv_istore (lv' := [(4, .int v1), (3, .int 1), (2, .int 1), (0, .ref (ad 0)), (1, .int v1)]) hx hb dX10_build_72 hl (by decide) rfl (fun ls hl => ?_)
        obtain ⟨n74, hw⟩ := hw
        exact wk_build_74 C ih n74 v1 1 1 v1 σ _ _ ls hw hM (lv_sub hl [3, 4, 2, 1, 0] rfl)
      · have hw := hw.2 hc
        refine lv_aload_n hx hb dX10_build_55 rfl (lv_at hl 0 rfl) ?_
        refine lv_iconst (v := 2) hx hb dX10_build_56 (by decide) ?_
        refine lv_aload_n hx hb dX10_build_57 rfl (lv_at hl 0 rfl) ?_
        refine rM_get C hM 5 (by decide) (fM_5 ad σ) q1395 rfl dX10_build_58 ?_
        refine lv_iload_n hx hb dX10_build_61 rfl (lv_at hl 1 rfl) ?_
        refine rM_iald C hM 5 3 (wM_5 dA ad σ) hw.1 dX10_build_62 ?_
        have hw := hw.2
        refine rM_callVi (n := 2) (As := [.int 2, .int (gA σ 5 v1)]) C hM hl.1 (mt_fault l D dA ad _ σ 2 (gA σ 5 v1) _ hw) (lw_V q1531 q1533 qs50 q93 q1534) rfl rfl (by decide +kernel) ⟨Nat.le_of_ble_eq_true rfl, Nat.le_of_ble_eq_true rfl⟩ rfl (Nat.le_of_ble_eq_true rfl) ⟨Nat.zero_le _, Nat.zero_le _⟩ rfl dX10_build_63 (fun x2 σ1 H locs hw hM => ?_)
        exact rM_iret C hM hw dX10_build_66
set_option maxHeartbeats 4000000 in
theorem wk_build_17 {p : Program} {l : Launch} {e : Env} {s : State} {m : MethodId} {args : Array Value} {below : List Frame} {meth : Method} {c : Code} {D : va_G} {dA : Nat → ClassId} {ad : Nat → Nat} {σ0 : St} {sz : Nat} (C : CxM p s m meth c args (AM dA ad σ0 sz) RX10 cX10_build 9 (some .int)) {Qr : Int32 → St → Prop} : ∀ (n : Nat) (v1 : Int32) (σ : St) (H : Heap) (locs : List Loc) (ls : Array Slot), wp_build_17 Qr n v1 σ → wM D dA ad (AM dA ad σ0 sz) s σ H locs → lv_has ls 9 [(0, .ref (ad 0)), (1, .int v1)] → W p l e rm_build s m args below meth c H locs 0 0 (MQ below (va_Qi Qr (BM D dA ad (AM dA ad σ0 sz)) (AM dA ad σ0 sz)) args s 0 0 (AM dA ad σ0 sz)) (F0 m 17 ls []) := by
  intro n
  induction n with
  | zero => intro v1 σ H locs ls hw; exact hw.elim
  | succ n17 ih =>
    intro v1 σ H locs ls hw hM hl
    have hx := C.1
    have hb := C.2.1
    have hown := C.2.2.2.2.2.1
    have hts := C.2.2.2.2.2.2.1
    unfold wp_build_17 at hw
    refine lv_iload_n hx hb dX10_build_17 rfl (lv_at hl 1 rfl) ?_
    refine lv_bipush (v := 28) hx hb dX10_build_18 (by decide) ?_
    refine lv_icmp_ge (tgt := 36) hx hb dX10_build_20 (by decide) (fun hc => ?_) (fun hc => ?_)
    · have hw := hw.1 hc
      refine lv_iconst (v := 0) hx hb dX10_build_36 (by decide) ?_
      refine lv_istore_n (lv' := [(1, .int 0), (0, .ref (ad 0))]) hx hb dX10_build_37 rfl hl (by decide) rfl (fun ls hl => ?_)
      obtain ⟨n38, hw⟩ := hw
      exact wk_build_38 C  n38 0 σ _ _ ls hw hM (lv_sub hl [1, 0] rfl)
    · have hw := hw.2 hc
      refine lv_aload_n hx hb dX10_build_23 rfl (lv_at hl 0 rfl) ?_
      refine rM_get C hM 12 (by decide) (fM_12 ad σ) q1402 rfl dX10_build_24 ?_
      refine lv_iload_n hx hb dX10_build_27 rfl (lv_at hl 1 rfl) ?_
      refine lv_iconst (v := 0) hx hb dX10_build_28 (by decide) ?_
      refine rM_iast C hM 12 6 (wM_12 dA ad σ) (wM_s12 dA ad σ _ _) hw.1 dX10_build_29 (fun σ1 H locs eσ hM => ?_)
      have hw := hw.2 σ1 eσ
      clear eσ
      obtain ⟨x2, ex2⟩ : ∃ y : Int32, y = v1 + 1 := ⟨_, rfl⟩
      have hw := hw x2 ex2
      refine lv_iinc (v := x2) (lv' := [(1, .int x2), (0, .ref (ad 0))]) hx hb dX10_build_30 hl (k := 1) rfl (by rw [ex2]; rfl) (by decide) rfl (fun ls hl => ?_)
      refine lv_goto (tgt := 17) hx hb dX10_build_33 (by decide) ?_
      exact ih x2 σ1 _ _ ls hw hM (lv_sub hl [1, 0] rfl)
set_option maxHeartbeats 4000000 in
/-- private int build(); -/
theorem mt_build (l : Launch) (D : va_G) (dA : Nat → ClassId) (ad : Nat → Nat) (sz : Nat) (σ : St) (Qr : Int32 → St → Prop) (hw : wp_build  σ Qr) : Met l yX10_build (ws_ yX10_build cX10_build 9 (some .int)) rm_build (PcM D dA ad σ sz [.ref (ad 0)]) (va_Qi Qr (BM D dA ad (AM dA ad σ sz)) (AM dA ad σ sz)) 0 0 (AM dA ad σ sz) := by
  refine Met.ofW (cc := cX10_build) (maxL := 9) (ret := (some .int)) (by decide) rfl ?_
  intro p e s m args below meth c s₁ B hml hv
  obtain ⟨rfl, hsz, hP, hK, hD0⟩ := hv
  subst hsz
  have hts0 := atoms_spec (ws := ws_ yX10_build cX10_build 9 (some .int)) B.pre
  have C : CxM p s m meth c _ (AM dA ad σ s.heap.size) RX10 cX10_build 9 (some .int) := ⟨B.exec, B.bytes, B.returns, B.notSynchronized, hml, findClass_of_methodNamed B.named, fun w h => hts0 w (List.mem_cons_of_mem _ h), fun q h => Or.inr h⟩
  have hM : wM D dA ad (AM dA ad σ s.heap.size) s σ s.heap [] := ⟨hK, hP, hD0.self, va_S.rf⟩
  have hx := C.1
  have hb := C.2.1
  have hown := C.2.2.2.2.2.1
  have hts := C.2.2.2.2.2.2.1
  have hl := lv_entry ([.ref (ad 0)]) (n := 9) (Nat.le_of_ble_eq_true rfl)
  rw [lg_entry_eq]
  generalize (lg_sl ([.ref (ad 0)]) ++ List.replicate (9 - (lg_sl ([.ref (ad 0)])).length) Slot.unset).toArray = ls at hl ⊢
  have hl : lv_has ls 9 [(0, .ref (ad 0))] := hl
  unfold wp_build at hw
  refine lv_aload_n hx hb dX10_build_0 rfl (lv_at hl 0 rfl) ?_
  refine lv_iconst (v := 0) hx hb dX10_build_1 (by decide) ?_
  refine rM_putI C hM 9 (by decide) (fM_s9 dA ad σ _) q1399 rfl rfl (tyX10_ok 9 (by decide)) rfl rfl dX10_build_2 (fun σ1 H locs eσ hM => ?_)
  have hw := hw σ1 eσ
  clear eσ
  refine lv_aload_n hx hb dX10_build_5 rfl (lv_at hl 0 rfl) ?_
  refine lv_iconst (v := 0) hx hb dX10_build_6 (by decide) ?_
  refine rM_putI C hM 10 (by decide) (fM_s10 dA ad σ1 _) q1400 rfl rfl (tyX10_ok 10 (by decide)) rfl rfl dX10_build_7 (fun σ2 H locs eσ hM => ?_)
  have hw := hw σ2 eσ
  clear eσ
  refine lv_aload_n hx hb dX10_build_10 rfl (lv_at hl 0 rfl) ?_
  refine lv_iconst (v := 0) hx hb dX10_build_11 (by decide) ?_
  refine rM_putI C hM 11 (by decide) (fM_s11 dA ad σ2 _) q1401 rfl rfl (tyX10_ok 11 (by decide)) rfl rfl dX10_build_12 (fun σ3 H locs eσ hM => ?_)
  have hw := hw σ3 eσ
  clear eσ
  refine lv_iconst (v := 0) hx hb dX10_build_15 (by decide) ?_
  refine lv_istore_n (lv' := [(1, .int 0), (0, .ref (ad 0))]) hx hb dX10_build_16 rfl hl (by decide) rfl (fun ls hl => ?_)
  obtain ⟨n17, hw⟩ := hw
  exact wk_build_17 C  n17 0 σ3 _ _ ls hw hM (lv_sub hl [1, 0] rfl)
abbrev rm_take : Room := { frames := 0, cells := 0, slots := 0, locals := 0 }
set_option maxHeartbeats 4000000 in
theorem wk_take_233 {p : Program} {l : Launch} {e : Env} {s : State} {m : MethodId} {args : Array Value} {below : List Frame} {meth : Method} {c : Code} {D : va_G} {dA : Nat → ClassId} {ad : Nat → Nat} {σ0 : St} {sz : Nat} (C : CxM p s m meth c args (AM dA ad σ0 sz) RX10 cX10_take 4 none) {Qr : St → Prop} : ∀ (n : Nat) (v2 : Int32) (σ : St) (H : Heap) (locs : List Loc) (ls : Array Slot), wp_take_233 Qr n v2 σ → wM D dA ad (AM dA ad σ0 sz) s σ H locs → lv_has ls 4 [(0, .ref (ad 0)), (2, .int v2)] → W p l e rm_take s m args below meth c H locs 0 0 (MQ below (va_Qv Qr (BM D dA ad (AM dA ad σ0 sz)) (AM dA ad σ0 sz)) args s 0 0 (AM dA ad σ0 sz)) (F0 m 233 ls []) := by
  intro n
  induction n with
  | zero => intro v2 σ H locs ls hw; exact hw.elim
  | succ n233 ih =>
    intro v2 σ H locs ls hw hM hl
    have hx := C.1
    have hb := C.2.1
    have hown := C.2.2.2.2.2.1
    have hts := C.2.2.2.2.2.2.1
    unfold wp_take_233 at hw
    refine lv_iload_n hx hb dX10_take_233 rfl (lv_at hl 1 rfl) ?_
    refine lv_iconst (v := 3) hx hb dX10_take_234 (by decide) ?_
    refine lv_icmp_ge (tgt := 258) hx hb dX10_take_235 (by decide) (fun hc => ?_) (fun hc => ?_)
    · have hw := hw.1 hc
      refine lv_aload_n hx hb dX10_take_258 rfl (lv_at hl 0 rfl) ?_
      refine lv_iconst (v := 0) hx hb dX10_take_259 (by decide) ?_
      refine rM_putI C hM 26 (by decide) (fM_s26 dA ad σ _) q1416 rfl rfl (tyX10_ok 26 (by decide)) (isB_n isB_0) (isB_f isB_0) dX10_take_260 (fun σ1 H locs eσ hM => ?_)
      have hw := hw σ1 eσ
      clear eσ
      refine lv_aload_n hx hb dX10_take_263 rfl (lv_at hl 0 rfl) ?_
      refine lv_iconst (v := 0) hx hb dX10_take_264 (by decide) ?_
      refine rM_putI C hM 28 (by decide) (fM_s28 dA ad σ1 _) q1418 rfl rfl (tyX10_ok 28 (by decide)) (isB_n isB_0) (isB_f isB_0) dX10_take_265 (fun σ2 H locs eσ hM => ?_)
      have hw := hw σ2 eσ
      clear eσ
      exact rM_vret C hM hw dX10_take_268
    · have hw := hw.2 hc
      refine lv_aload_n hx hb dX10_take_238 rfl (lv_at hl 0 rfl) ?_
      refine rM_get C hM 20 (by decide) (fM_20 ad σ) q1410 rfl dX10_take_239 ?_
      refine lv_iload_n hx hb dX10_take_242 rfl (lv_at hl 1 rfl) ?_
      refine lv_iconst (v := 0) hx hb dX10_take_243 (by decide) ?_
      refine rM_zast C hM 20 10 (wM_20 dA ad σ) (wM_s20 dA ad σ _ _) hw.1 dX10_take_244 (fun σ3 H locs eσ hM => ?_)
      have hw := hw.2 σ3 eσ
      clear eσ
      refine lv_aload_n hx hb dX10_take_245 rfl (lv_at hl 0 rfl) ?_
      refine rM_get C hM 22 (by decide) (fM_22 ad σ3) q1412 rfl dX10_take_246 ?_
      refine lv_iload_n hx hb dX10_take_249 rfl (lv_at hl 1 rfl) ?_
      refine lv_iconst (v := 0) hx hb dX10_take_250 (by decide) ?_
      refine rM_iast C hM 22 12 (wM_22 dA ad σ3) (wM_s22 dA ad σ3 _ _) hw.1 dX10_take_251 (fun σ4 H locs eσ hM => ?_)
      have hw := hw.2 σ4 eσ
      clear eσ
      obtain ⟨x5, ex5⟩ : ∃ y : Int32, y = v2 + 1 := ⟨_, rfl⟩
      have hw := hw x5 ex5
      refine lv_iinc (v := x5) (lv' := [(2, .int x5), (0, .ref (ad 0))]) hx hb dX10_take_252 hl (k := 1) rfl (by rw [ex5]; rfl) (by decide) rfl (fun ls hl => ?_)
      refine lv_goto (tgt := 233) hx hb dX10_take_255 (by decide) ?_
      exact ih x5 σ4 _ _ ls hw hM (lv_sub hl [1, 0] rfl)
set_option maxHeartbeats 4000000 in
theorem wk_take_210 {p : Program} {l : Launch} {e : Env} {s : State} {m : MethodId} {args : Array Value} {below : List Frame} {meth : Method} {c : Code} {D : va_G} {dA : Nat → ClassId} {ad : Nat → Nat} {σ0 : St} {sz : Nat} (C : CxM p s m meth c args (AM dA ad σ0 sz) RX10 cX10_take 4 none) {Qr : St → Prop} {K181 : Int32 → St → Prop} (hK181 : ∀ (v2 : Int32) (σ : St) (H : Heap) (locs : List Loc) (ls : Array Slot), K181 v2 σ → wM D dA ad (AM dA ad σ0 sz) s σ H locs → lv_has ls 4 [(0, .ref (ad 0)), (2, .int v2)] → W p l e rm_take s m args below meth c H locs 0 0 (MQ below (va_Qv Qr (BM D dA ad (AM dA ad σ0 sz)) (AM dA ad σ0 sz)) args s 0 0 (AM dA ad σ0 sz)) (F0 m 181 ls [])) : ∀ (v2 : Int32) (u1 : Int32) (u2 : Int32) (σ : St) (H : Heap) (locs : List Loc) (ls : Array Slot), wp_take_210 Qr K181 v2 u1 u2 σ → wM D dA ad (AM dA ad σ0 sz) s σ H locs → lv_has ls 4 [(0, .ref (ad 0)), (2, .int v2)] → W p l e rm_take s m args below meth c H locs 0 0 (MQ below (va_Qv Qr (BM D dA ad (AM dA ad σ0 sz)) (AM dA ad σ0 sz)) args s 0 0 (AM dA ad σ0 sz)) (F0 m 210 ls [.int u2, .int u1, .ref (ad 18)]) := by
  intro v2 u1 u2 σ H locs ls hw hM hl
  have hx := C.1
  have hb := C.2.1
  have hown := C.2.2.2.2.2.1
  have hts := C.2.2.2.2.2.2.1
  unfold wp_take_210 at hw
  refine rM_iast C hM 18 8 (wM_18 dA ad σ) (wM_s18 dA ad σ _ _) hw.1 dX10_take_210 (fun σ1 H locs eσ hM => ?_)
  have hw := hw.2 σ1 eσ
  clear eσ
  refine lv_aload_n hx hb dX10_take_211 rfl (lv_at hl 0 rfl) ?_
  refine rM_get C hM 24 (by decide) (fM_24 ad σ1) q1414 rfl dX10_take_212 ?_
  refine lv_iload_n hx hb dX10_take_215 rfl (lv_at hl 1 rfl) ?_
  refine lv_iconst (v := 0) hx hb dX10_take_216 (by decide) ?_
  refine rM_iast C hM 24 14 (wM_24 dA ad σ1) (wM_s24 dA ad σ1 _ _) hw.1 dX10_take_217 (fun σ2 H locs eσ hM => ?_)
  have hw := hw.2 σ2 eσ
  clear eσ
  refine lv_aload_n hx hb dX10_take_218 rfl (lv_at hl 0 rfl) ?_
  refine rM_get C hM 25 (by decide) (fM_25 ad σ2) q1415 rfl dX10_take_219 ?_
  refine lv_iload_n hx hb dX10_take_222 rfl (lv_at hl 1 rfl) ?_
  refine lv_iconst (v := 0) hx hb dX10_take_223 (by decide) ?_
  refine rM_iast C hM 25 15 (wM_25 dA ad σ2) (wM_s25 dA ad σ2 _ _) hw.1 dX10_take_224 (fun σ3 H locs eσ hM => ?_)
  have hw := hw.2 σ3 eσ
  clear eσ
  obtain ⟨x4, ex4⟩ : ∃ y : Int32, y = v2 + 1 := ⟨_, rfl⟩
  have hw := hw x4 ex4
  refine lv_iinc (v := x4) (lv' := [(2, .int x4), (0, .ref (ad 0))]) hx hb dX10_take_225 hl (k := 1) rfl (by rw [ex4]; rfl) (by decide) rfl (fun ls hl => ?_)
  refine lv_goto (tgt := 181) hx hb dX10_take_228 (by decide) ?_
  exact hK181 x4 σ3 _ _ ls hw hM (lv_sub hl [1, 0] rfl)
set_option maxHeartbeats 4000000 in
theorem wk_take_181 {p : Program} {l : Launch} {e : Env} {s : State} {m : MethodId} {args : Array Value} {below : List Frame} {meth : Method} {c : Code} {D : va_G} {dA : Nat → ClassId} {ad : Nat → Nat} {σ0 : St} {sz : Nat} (C : CxM p s m meth c args (AM dA ad σ0 sz) RX10 cX10_take 4 none) {Qr : St → Prop} : ∀ (n : Nat) (v2 : Int32) (σ : St) (H : Heap) (locs : List Loc) (ls : Array Slot), wp_take_181 Qr n v2 σ → wM D dA ad (AM dA ad σ0 sz) s σ H locs → lv_has ls 4 [(0, .ref (ad 0)), (2, .int v2)] → W p l e rm_take s m args below meth c H locs 0 0 (MQ below (va_Qv Qr (BM D dA ad (AM dA ad σ0 sz)) (AM dA ad σ0 sz)) args s 0 0 (AM dA ad σ0 sz)) (F0 m 181 ls []) := by
  intro n
  induction n with
  | zero => intro v2 σ H locs ls hw; exact hw.elim
  | succ n181 ih =>
    intro v2 σ H locs ls hw hM hl
    have hx := C.1
    have hb := C.2.1
    have hown := C.2.2.2.2.2.1
    have hts := C.2.2.2.2.2.2.1
    unfold wp_take_181 at hw
    refine lv_iload_n hx hb dX10_take_181 rfl (lv_at hl 1 rfl) ?_
    refine lv_bipush (v := 6) hx hb dX10_take_182 (by decide) ?_
    refine lv_icmp_ge (tgt := 231) hx hb dX10_take_184 (by decide) (fun hc => ?_) (fun hc => ?_)
    · have hw := hw.1 hc
      refine lv_iconst (v := 0) hx hb dX10_take_231 (by decide) ?_
      refine lv_istore_n (lv' := [(2, .int 0), (0, .ref (ad 0))]) hx hb dX10_take_232 rfl hl (by decide) rfl (fun ls hl => ?_)
      obtain ⟨n233, hw⟩ := hw
      exact wk_take_233 C  n233 0 σ _ _ ls hw hM (lv_sub hl [1, 0] rfl)
    · have hw := hw.2 hc
      refine lv_aload_n hx hb dX10_take_187 rfl (lv_at hl 0 rfl) ?_
      refine rM_get C hM 18 (by decide) (fM_18 ad σ) q1408 rfl dX10_take_188 ?_
      refine lv_iload_n hx hb dX10_take_191 rfl (lv_at hl 1 rfl) ?_
      refine lv_iload_n hx hb dX10_take_192 rfl (lv_at hl 1 rfl) ?_
      refine lv_aload_n hx hb dX10_take_193 rfl (lv_at hl 0 rfl) ?_
      refine rM_get C hM 16 (by decide) (fM_16 ad σ) q1406 rfl dX10_take_194 ?_
      refine lv_icmp_ge (tgt := 209) hx hb dX10_take_197 (by decide) (fun hc => ?_) (fun hc => ?_)
      · have hw := hw.1 hc
        refine lv_iconst (v := (-1)) hx hb dX10_take_209 (by decide) ?_
        exact wk_take_210 C ih v2 v2 (-1) σ _ _ ls hw hM (lv_sub hl [0, 1] rfl)
      · have hw := hw.2 hc
        refine lv_aload_n hx hb dX10_take_200 rfl (lv_at hl 0 rfl) ?_
        refine rM_get C hM 8 (by decide) (fM_8 ad σ) q1398 rfl dX10_take_201 ?_
        refine lv_iload_n hx hb dX10_take_204 rfl (lv_at hl 1 rfl) ?_
        refine rM_iald C hM 8 5 (wM_8 dA ad σ) hw.1 dX10_take_205 ?_
        have hw := hw.2
        refine lv_goto (tgt := 210) hx hb dX10_take_206 (by decide) ?_
        exact wk_take_210 C ih v2 v2 ((gA σ 8 v2)) σ _ _ ls hw hM (lv_sub hl [0, 1] rfl)
set_option maxHeartbeats 4000000 in
theorem wk_take_147 {p : Program} {l : Launch} {e : Env} {s : State} {m : MethodId} {args : Array Value} {below : List Frame} {meth : Method} {c : Code} {D : va_G} {dA : Nat → ClassId} {ad : Nat → Nat} {σ0 : St} {sz : Nat} (C : CxM p s m meth c args (AM dA ad σ0 sz) RX10 cX10_take 4 none) {Qr : St → Prop} {K46 : Int32 → Int32 → St → Prop} (hK46 : ∀ (v1 : Int32) (v2 : Int32) (σ : St) (H : Heap) (locs : List Loc) (ls : Array Slot), K46 v1 v2 σ → wM D dA ad (AM dA ad σ0 sz) s σ H locs → lv_has ls 4 [(0, .ref (ad 0)), (1, .int v1), (2, .int v2)] → W p l e rm_take s m args below meth c H locs 0 0 (MQ below (va_Qv Qr (BM D dA ad (AM dA ad σ0 sz)) (AM dA ad σ0 sz)) args s 0 0 (AM dA ad σ0 sz)) (F0 m 46 ls [])) : ∀ (v1 : Int32) (v2 : Int32) (σ : St) (H : Heap) (locs : List Loc) (ls : Array Slot), wp_take_147 Qr K46 v1 v2 σ → wM D dA ad (AM dA ad σ0 sz) s σ H locs → lv_has ls 4 [(0, .ref (ad 0)), (1, .int v1), (2, .int v2)] → W p l e rm_take s m args below meth c H locs 0 0 (MQ below (va_Qv Qr (BM D dA ad (AM dA ad σ0 sz)) (AM dA ad σ0 sz)) args s 0 0 (AM dA ad σ0 sz)) (F0 m 147 ls []) := by
  intro v1 v2 σ H locs ls hw hM hl
  have hx := C.1
  have hb := C.2.1
  have hown := C.2.2.2.2.2.1
  have hts := C.2.2.2.2.2.2.1
  unfold wp_take_147 at hw
  refine lv_aload_n hx hb dX10_take_147 rfl (lv_at hl 0 rfl) ?_
  refine rM_get C hM 19 (by decide) (fM_19 ad σ) q1409 rfl dX10_take_148 ?_
  refine lv_bipush (v := 7) hx hb dX10_take_151 (by decide) ?_
  refine lv_iload_n hx hb dX10_take_153 rfl (lv_at hl 2 rfl) ?_
  refine lv_imul hx hb dX10_take_154 ?_
  refine lv_aload_n hx hb dX10_take_155 rfl (lv_at hl 0 rfl) ?_
  refine rM_get C hM 17 (by decide) (fM_17 ad σ) q1407 rfl dX10_take_156 ?_
  refine lv_iadd hx hb dX10_take_159 ?_
  refine lv_aload_n hx hb dX10_take_160 rfl (lv_at hl 0 rfl) ?_
  refine rM_get C hM 12 (by decide) (fM_12 ad σ) q1402 rfl dX10_take_161 ?_
  refine lv_bipush (v := 7) hx hb dX10_take_164 (by decide) ?_
  refine lv_iload_n hx hb dX10_take_166 rfl (lv_at hl 2 rfl) ?_
  refine lv_imul hx hb dX10_take_167 ?_
  refine lv_bipush (v := 6) hx hb dX10_take_168 (by decide) ?_
  refine lv_iadd hx hb dX10_take_170 ?_
  refine rM_iald C hM 12 6 (wM_12 dA ad σ) hw.1 dX10_take_171 ?_
  have hw := hw.2
  refine rM_iast C hM 19 9 (wM_19 dA ad σ) (wM_s19 dA ad σ _ _) hw.1 dX10_take_172 (fun σ1 H locs eσ hM => ?_)
  have hw := hw.2 σ1 eσ
  clear eσ
  obtain ⟨x2, ex2⟩ : ∃ y : Int32, y = v2 + 1 := ⟨_, rfl⟩
  have hw := hw x2 ex2
  refine lv_iinc (v := x2) (lv' := [(2, .int x2), (0, .ref (ad 0)), (1, .int v1)]) hx hb dX10_take_173 hl (k := 2) rfl (by rw [ex2]; rfl) (by decide) rfl (fun ls hl => ?_)
  refine lv_goto (tgt := 46) hx hb dX10_take_176 (by decide) ?_
  exact hK46 v1 x2 σ1 _ _ ls hw hM (lv_sub hl [1, 2, 0] rfl)
set_option maxHeartbeats 4000000 in
theorem wk_take_82 {p : Program} {l : Launch} {e : Env} {s : State} {m : MethodId} {args : Array Value} {below : List Frame} {meth : Method} {c : Code} {D : va_G} {dA : Nat → ClassId} {ad : Nat → Nat} {σ0 : St} {sz : Nat} (C : CxM p s m meth c args (AM dA ad σ0 sz) RX10 cX10_take 4 none) {Qr : St → Prop} {K46 : Int32 → Int32 → St → Prop} (hK46 : ∀ (v1 : Int32) (v2 : Int32) (σ : St) (H : Heap) (locs : List Loc) (ls : Array Slot), K46 v1 v2 σ → wM D dA ad (AM dA ad σ0 sz) s σ H locs → lv_has ls 4 [(0, .ref (ad 0)), (1, .int v1), (2, .int v2)] → W p l e rm_take s m args below meth c H locs 0 0 (MQ below (va_Qv Qr (BM D dA ad (AM dA ad σ0 sz)) (AM dA ad σ0 sz)) args s 0 0 (AM dA ad σ0 sz)) (F0 m 46 ls [])) : ∀ (n : Nat) (v1 : Int32) (v2 : Int32) (v3 : Int32) (σ : St) (H : Heap) (locs : List Loc) (ls : Array Slot), wp_take_82 Qr K46 n v1 v2 v3 σ → wM D dA ad (AM dA ad σ0 sz) s σ H locs → lv_has ls 4 [(0, .ref (ad 0)), (1, .int v1), (2, .int v2), (3, .int v3)] → W p l e rm_take s m args below meth c H locs 0 0 (MQ below (va_Qv Qr (BM D dA ad (AM dA ad σ0 sz)) (AM dA ad σ0 sz)) args s 0 0 (AM dA ad σ0 sz)) (F0 m 82 ls []) := by
  intro n
  induction n with
  | zero => intro v1 v2 v3 σ H locs ls hw; exact hw.elim
  | succ n82 ih =>
    intro v1 v2 v3 σ H locs ls hw hM hl
    have hx := C.1
    have hb := C.2.1
    have hown := C.2.2.2.2.2.1
    have hts := C.2.2.2.2.2.2.1
    unfold wp_take_82 at hw
    refine lv_iload_n hx hb dX10_take_82 rfl (lv_at hl 3 rfl) ?_
    refine lv_aload_n hx hb dX10_take_83 rfl (lv_at hl 0 rfl) ?_
    refine rM_get C hM 16 (by decide) (fM_16 ad σ) q1406 rfl dX10_take_84 ?_
    refine lv_icmp_ge (tgt := 118) hx hb dX10_take_87 (by decide) (fun hc => ?_) (fun hc => ?_)
    · have hw := hw.1 hc
      refine lv_aload_n hx hb dX10_take_118 rfl (lv_at hl 0 rfl) ?_
      refine rM_get C hM 13 (by decide) (fM_13 ad σ) q1403 rfl dX10_take_119 ?_
      refine lv_iload_n hx hb dX10_take_122 rfl (lv_at hl 2 rfl) ?_
      refine rM_iald C hM 13 7 (wM_13 dA ad σ) hw.1 dX10_take_123 ?_
      have hw := hw.2
      refine lv_if_eq (tgt := 147) hx hb dX10_take_124 (by decide) (fun hc => ?_) (fun hc => ?_)
      · have hw := hw.1 hc
        exact wk_take_147 C hK46 v1 v2 σ _ _ ls hw hM (lv_sub hl [0, 1, 2] rfl)
      · have hw := hw.2 hc
        refine lv_aload_n hx hb dX10_take_127 rfl (lv_at hl 0 rfl) ?_
        refine rM_get C hM 19 (by decide) (fM_19 ad σ) q1409 rfl dX10_take_128 ?_
        refine lv_bipush (v := 7) hx hb dX10_take_131 (by decide) ?_
        refine lv_iload_n hx hb dX10_take_133 rfl (lv_at hl 2 rfl) ?_
        refine lv_imul hx hb dX10_take_134 ?_
        refine lv_iload_n hx hb dX10_take_135 rfl (lv_at hl 1 rfl) ?_
        refine lv_iadd hx hb dX10_take_136 ?_
        refine lv_aload_n hx hb dX10_take_137 rfl (lv_at hl 0 rfl) ?_
        refine rM_get C hM 13 (by decide) (fM_13 ad σ) q1403 rfl dX10_take_138 ?_
        refine lv_iload_n hx hb dX10_take_141 rfl (lv_at hl 2 rfl) ?_
        refine rM_iald C hM 13 7 (wM_13 dA ad σ) hw.1 dX10_take_142 ?_
        have hw := hw.2
        refine rM_iast C hM 19 9 (wM_19 dA ad σ) (wM_s19 dA ad σ _ _) hw.1 dX10_take_143 (fun σ1 H locs eσ hM => ?_)
        have hw := hw.2 σ1 eσ
        clear eσ
        obtain ⟨x2, ex2⟩ : ∃ y : Int32, y = v1 + 1 := ⟨_, rfl⟩
        have hw := hw x2 ex2
        refine lv_iinc (v := x2) (lv' := [(1, .int x2), (0, .ref (ad 0)), (2, .int v2), (3, .int v3)]) hx hb dX10_take_144 hl (k := 1) rfl (by rw [ex2]; rfl) (by decide) rfl (fun ls hl => ?_)
        exact wk_take_147 C hK46 x2 v2 σ1 _ _ ls hw hM (lv_sub hl [1, 0, 2] rfl)
    · have hw := hw.2 hc
      refine lv_aload_n hx hb dX10_take_90 rfl (lv_at hl 0 rfl) ?_
      refine rM_get C hM 19 (by decide) (fM_19 ad σ) q1409 rfl dX10_take_91 ?_
      refine lv_bipush (v := 7) hx hb dX10_take_94 (by decide) ?_
      refine lv_iload_n hx hb dX10_take_96 rfl (lv_at hl 2 rfl) ?_
      refine lv_imul hx hb dX10_take_97 ?_
      refine lv_iload_n hx hb dX10_take_98 rfl (lv_at hl 3 rfl) ?_
      refine lv_iadd hx hb dX10_take_99 ?_
      refine lv_aload_n hx hb dX10_take_100 rfl (lv_at hl 0 rfl) ?_
      refine rM_get C hM 12 (by decide) (fM_12 ad σ) q1402 rfl dX10_take_101 ?_
      refine lv_bipush (v := 7) hx hb dX10_take_104 (by decide) ?_
      refine lv_iload_n hx hb dX10_take_106 rfl (lv_at hl 2 rfl) ?_
      refine lv_imul hx hb dX10_take_107 ?_
      refine lv_iload_n hx hb dX10_take_108 rfl (lv_at hl 3 rfl) ?_
      refine lv_iadd hx hb dX10_take_109 ?_
      refine rM_iald C hM 12 6 (wM_12 dA ad σ) hw.1 dX10_take_110 ?_
      have hw := hw.2
      refine rM_iast C hM 19 9 (wM_19 dA ad σ) (wM_s19 dA ad σ _ _) hw.1 dX10_take_111 (fun σ3 H locs eσ hM => ?_)
      have hw := hw.2 σ3 eσ
      clear eσ
      obtain ⟨x4, ex4⟩ : ∃ y : Int32, y = v3 + 1 := ⟨_, rfl⟩
      have hw := hw x4 ex4
      refine lv_iinc (v := x4) (lv' := [(3, .int x4), (0, .ref (ad 0)), (1, .int v1), (2, .int v2)]) hx hb dX10_take_112 hl (k := 3) rfl (by rw [ex4]; rfl) (by decide) rfl (fun ls hl => ?_)
      refine lv_goto (tgt := 82) hx hb dX10_take_115 (by decide) ?_
      exact ih v1 v2 x4 σ3 _ _ ls hw hM (lv_sub hl [1, 2, 3, 0] rfl)
set_option maxHeartbeats 4000000 in
theorem wk_take_56 {p : Program} {l : Launch} {e : Env} {s : State} {m : MethodId} {args : Array Value} {below : List Frame} {meth : Method} {c : Code} {D : va_G} {dA : Nat → ClassId} {ad : Nat → Nat} {σ0 : St} {sz : Nat} (C : CxM p s m meth c args (AM dA ad σ0 sz) RX10 cX10_take 4 none) {Qr : St → Prop} {K46 : Int32 → Int32 → St → Prop} (hK46 : ∀ (v1 : Int32) (v2 : Int32) (σ : St) (H : Heap) (locs : List Loc) (ls : Array Slot), K46 v1 v2 σ → wM D dA ad (AM dA ad σ0 sz) s σ H locs → lv_has ls 4 [(0, .ref (ad 0)), (1, .int v1), (2, .int v2)] → W p l e rm_take s m args below meth c H locs 0 0 (MQ below (va_Qv Qr (BM D dA ad (AM dA ad σ0 sz)) (AM dA ad σ0 sz)) args s 0 0 (AM dA ad σ0 sz)) (F0 m 46 ls [])) : ∀ (n : Nat) (v1 : Int32) (v2 : Int32) (v3 : Int32) (σ : St) (H : Heap) (locs : List Loc) (ls : Array Slot), wp_take_56 Qr K46 n v1 v2 v3 σ → wM D dA ad (AM dA ad σ0 sz) s σ H locs → lv_has ls 4 [(0, .ref (ad 0)), (1, .int v1), (2, .int v2), (3, .int v3)] → W p l e rm_take s m args below meth c H locs 0 0 (MQ below (va_Qv Qr (BM D dA ad (AM dA ad σ0 sz)) (AM dA ad σ0 sz)) args s 0 0 (AM dA ad σ0 sz)) (F0 m 56 ls []) := by
  intro n
  induction n with
  | zero => intro v1 v2 v3 σ H locs ls hw; exact hw.elim
  | succ n56 ih =>
    intro v1 v2 v3 σ H locs ls hw hM hl
    have hx := C.1
    have hb := C.2.1
    have hown := C.2.2.2.2.2.1
    have hts := C.2.2.2.2.2.2.1
    unfold wp_take_56 at hw
    refine lv_iload_n hx hb dX10_take_56 rfl (lv_at hl 3 rfl) ?_
    refine lv_bipush (v := 7) hx hb dX10_take_57 (by decide) ?_
    refine lv_icmp_ge (tgt := 80) hx hb dX10_take_59 (by decide) (fun hc => ?_) (fun hc => ?_)
    · have hw := hw.1 hc
      refine lv_iconst (v := 0) hx hb dX10_take_80 (by decide) ?_
      refine lv_istore_n (lv' := [(3, .int 0), (0, .ref (ad 0)), (1, .int v1), (2, .int v2)]) hx hb dX10_take_81 rfl hl (by decide) rfl (fun ls hl => ?_)
      obtain ⟨n82, hw⟩ := hw
      exact wk_take_82 C hK46 n82 v1 v2 0 σ _ _ ls hw hM (lv_sub hl [1, 2, 3, 0] rfl)
    · have hw := hw.2 hc
      refine lv_aload_n hx hb dX10_take_62 rfl (lv_at hl 0 rfl) ?_
      refine rM_get C hM 19 (by decide) (fM_19 ad σ) q1409 rfl dX10_take_63 ?_
      refine lv_bipush (v := 7) hx hb dX10_take_66 (by decide) ?_
      refine lv_iload_n hx hb dX10_take_68 rfl (lv_at hl 2 rfl) ?_
      refine lv_imul hx hb dX10_take_69 ?_
      refine lv_iload_n hx hb dX10_take_70 rfl (lv_at hl 3 rfl) ?_
      refine lv_iadd hx hb dX10_take_71 ?_
      refine lv_iconst (v := 0) hx hb dX10_take_72 (by decide) ?_
      refine rM_iast C hM 19 9 (wM_19 dA ad σ) (wM_s19 dA ad σ _ _) hw.1 dX10_take_73 (fun σ1 H locs eσ hM => ?_)
      have hw := hw.2 σ1 eσ
      clear eσ
      obtain ⟨x2, ex2⟩ : ∃ y : Int32, y = v3 + 1 := ⟨_, rfl⟩
      have hw := hw x2 ex2
      refine lv_iinc (v := x2) (lv' := [(3, .int x2), (0, .ref (ad 0)), (1, .int v1), (2, .int v2)]) hx hb dX10_take_74 hl (k := 3) rfl (by rw [ex2]; rfl) (by decide) rfl (fun ls hl => ?_)
      refine lv_goto (tgt := 56) hx hb dX10_take_77 (by decide) ?_
      exact ih v1 v2 x2 σ1 _ _ ls hw hM (lv_sub hl [1, 2, 3, 0] rfl)
set_option maxHeartbeats 4000000 in
theorem wk_take_46 {p : Program} {l : Launch} {e : Env} {s : State} {m : MethodId} {args : Array Value} {below : List Frame} {meth : Method} {c : Code} {D : va_G} {dA : Nat → ClassId} {ad : Nat → Nat} {σ0 : St} {sz : Nat} (C : CxM p s m meth c args (AM dA ad σ0 sz) RX10 cX10_take 4 none) {Qr : St → Prop} : ∀ (n : Nat) (v1 : Int32) (v2 : Int32) (σ : St) (H : Heap) (locs : List Loc) (ls : Array Slot), wp_take_46 Qr n v1 v2 σ → wM D dA ad (AM dA ad σ0 sz) s σ H locs → lv_has ls 4 [(0, .ref (ad 0)), (1, .int v1), (2, .int v2)] → W p l e rm_take s m args below meth c H locs 0 0 (MQ below (va_Qv Qr (BM D dA ad (AM dA ad σ0 sz)) (AM dA ad σ0 sz)) args s 0 0 (AM dA ad σ0 sz)) (F0 m 46 ls []) := by
  intro n
  induction n with
  | zero => intro v1 v2 σ H locs ls hw; exact hw.elim
  | succ n46 ih =>
    intro v1 v2 σ H locs ls hw hM hl
    have hx := C.1
    have hb := C.2.1
    have hown := C.2.2.2.2.2.1
    have hts := C.2.2.2.2.2.2.1
    unfold wp_take_46 at hw
    refine lv_iload_n hx hb dX10_take_46 rfl (lv_at hl 2 rfl) ?_
    refine lv_aload_n hx hb dX10_take_47 rfl (lv_at hl 0 rfl) ?_
    refine rM_get C hM 15 (by decide) (fM_15 ad σ) q1405 rfl dX10_take_48 ?_
    refine lv_icmp_ge (tgt := 179) hx hb dX10_take_51 (by decide) (fun hc => ?_) (fun hc => ?_)
    · have hw := hw.1 hc
      refine lv_iconst (v := 0) hx hb dX10_take_179 (by decide) ?_
      refine lv_istore_n (lv' := [(2, .int 0), (0, .ref (ad 0)), (1, .int v1)]) hx hb dX10_take_180 rfl hl (by decide) rfl (fun ls hl => ?_)
      obtain ⟨n181, hw⟩ := hw
      exact wk_take_181 C  n181 0 σ _ _ ls hw hM (lv_sub hl [1, 0] rfl)
    · have hw := hw.2 hc
      refine lv_iconst (v := 0) hx hb dX10_take_54 (by decide) ?_
      refine lv_istore_n (lv' := [(3, .int 0), (0, .ref (ad 0)), (1, .int v1), (2, .int v2)]) hx hb dX10_take_55 rfl hl (by decide) rfl (fun ls hl => ?_)
      obtain ⟨n56, hw⟩ := hw
      exact wk_take_56 C ih n56 v1 v2 0 σ _ _ ls hw hM (lv_sub hl [1, 2, 3, 0] rfl)
set_option maxHeartbeats 4000000 in
/-- private void take(); -/
theorem mt_take (l : Launch) (D : va_G) (dA : Nat → ClassId) (ad : Nat → Nat) (sz : Nat) (σ : St) (Qr : St → Prop) (hw : wp_take  σ Qr) : Met l yX10_take (ws_ yX10_take cX10_take 4 none) rm_take (PcM D dA ad σ sz [.ref (ad 0)]) (va_Qv Qr (BM D dA ad (AM dA ad σ sz)) (AM dA ad σ sz)) 0 0 (AM dA ad σ sz) := by
  refine Met.ofW (cc := cX10_take) (maxL := 4) (ret := none) (by decide) rfl ?_
  intro p e s m args below meth c s₁ B hml hv
  obtain ⟨rfl, hsz, hP, hK, hD0⟩ := hv
  subst hsz
  have hts0 := atoms_spec (ws := ws_ yX10_take cX10_take 4 none) B.pre
  have C : CxM p s m meth c _ (AM dA ad σ s.heap.size) RX10 cX10_take 4 none := ⟨B.exec, B.bytes, B.returns, B.notSynchronized, hml, findClass_of_methodNamed B.named, fun w h => hts0 w (List.mem_cons_of_mem _ h), fun q h => Or.inr h⟩
  have hM : wM D dA ad (AM dA ad σ s.heap.size) s σ s.heap [] := ⟨hK, hP, hD0.self, va_S.rf⟩
  have hx := C.1
  have hb := C.2.1
  have hown := C.2.2.2.2.2.1
  have hts := C.2.2.2.2.2.2.1
  have hl := lv_entry ([.ref (ad 0)]) (n := 4) (Nat.le_of_ble_eq_true rfl)
  rw [lg_entry_eq]
  generalize (lg_sl ([.ref (ad 0)]) ++ List.replicate (4 - (lg_sl ([.ref (ad 0)])).length) Slot.unset).toArray = ls at hl ⊢
  have hl : lv_has ls 4 [(0, .ref (ad 0))] := hl
  unfold wp_take at hw
  refine lv_aload_n hx hb dX10_take_0 rfl (lv_at hl 0 rfl) ?_
  refine lv_iconst (v := (-1)) hx hb dX10_take_1 (by decide) ?_
  refine rM_putI C hM 3 (by decide) (fM_s3 dA ad σ _) q1393 rfl rfl (tyX10_ok 3 (by decide)) rfl rfl dX10_take_2 (fun σ1 H locs eσ hM => ?_)
  have hw := hw σ1 eσ
  clear eσ
  refine lv_aload_n hx hb dX10_take_5 rfl (lv_at hl 0 rfl) ?_
  refine lv_iconst (v := 1) hx hb dX10_take_6 (by decide) ?_
  refine rM_putI C hM 14 (by decide) (fM_s14 dA ad σ1 _) q1404 rfl rfl (tyX10_ok 14 (by decide)) (isB_n isB_1) (isB_f isB_1) dX10_take_7 (fun σ2 H locs eσ hM => ?_)
  have hw := hw σ2 eσ
  clear eσ
  refine lv_aload_n hx hb dX10_take_10 rfl (lv_at hl 0 rfl) ?_
  refine lv_aload_n hx hb dX10_take_11 rfl (lv_at hl 0 rfl) ?_
  refine rM_get C hM 11 (by decide) (fM_11 ad σ2) q1401 rfl dX10_take_12 ?_
  refine rM_putI C hM 15 (by decide) (fM_s15 dA ad σ2 _) q1405 rfl rfl (tyX10_ok 15 (by decide)) rfl rfl dX10_take_15 (fun σ3 H locs eσ hM => ?_)
  have hw := hw σ3 eσ
  clear eσ
  refine lv_aload_n hx hb dX10_take_18 rfl (lv_at hl 0 rfl) ?_
  refine lv_aload_n hx hb dX10_take_19 rfl (lv_at hl 0 rfl) ?_
  refine rM_get C hM 9 (by decide) (fM_9 ad σ3) q1399 rfl dX10_take_20 ?_
  refine rM_putI C hM 16 (by decide) (fM_s16 dA ad σ3 _) q1406 rfl rfl (tyX10_ok 16 (by decide)) rfl rfl dX10_take_23 (fun σ4 H locs eσ hM => ?_)
  have hw := hw σ4 eσ
  clear eσ
  refine lv_aload_n hx hb dX10_take_26 rfl (lv_at hl 0 rfl) ?_
  refine lv_aload_n hx hb dX10_take_27 rfl (lv_at hl 0 rfl) ?_
  refine rM_get C hM 9 (by decide) (fM_9 ad σ4) q1399 rfl dX10_take_28 ?_
  refine lv_aload_n hx hb dX10_take_31 rfl (lv_at hl 0 rfl) ?_
  refine rM_get C hM 10 (by decide) (fM_10 ad σ4) q1400 rfl dX10_take_32 ?_
  refine lv_iadd hx hb dX10_take_35 ?_
  refine rM_putI C hM 17 (by decide) (fM_s17 dA ad σ4 _) q1407 rfl rfl (tyX10_ok 17 (by decide)) rfl rfl dX10_take_36 (fun σ5 H locs eσ hM => ?_)
  have hw := hw σ5 eσ
  clear eσ
  refine lv_aload_n hx hb dX10_take_39 rfl (lv_at hl 0 rfl) ?_
  refine rM_get C hM 9 (by decide) (fM_9 ad σ5) q1399 rfl dX10_take_40 ?_
  refine lv_topi (fun x6 ex6 => ?_)
  have hw := hw x6 ex6
  refine lv_istore_n (lv' := [(1, .int x6), (0, .ref (ad 0))]) hx hb dX10_take_43 rfl hl (by decide) rfl (fun ls hl => ?_)
  refine lv_iconst (v := 0) hx hb dX10_take_44 (by decide) ?_
  refine lv_istore_n (lv' := [(2, .int 0), (1, .int x6), (0, .ref (ad 0))]) hx hb dX10_take_45 rfl hl (by decide) rfl (fun ls hl => ?_)
  obtain ⟨n46, hw⟩ := hw
  exact wk_take_46 C  n46 x6 0 σ5 _ _ ls hw hM (lv_sub hl [2, 1, 0] rfl)
abbrev rm_read : Room := { frames := 2, cells := 0, slots := 0, locals := 51 }
set_option maxHeartbeats 4000000 in
/-- public int read(); -/
theorem mt_read (l : Launch) (D : va_G) (dA : Nat → ClassId) (ad : Nat → Nat) (sz : Nat) (σ : St) (Qr : Int32 → St → Prop) (hw : wp_read  σ Qr) : Met l yX10_read (ws_ yX10_read cX10_read 3 (some .int)) rm_read (PcM D dA ad σ sz [.ref (ad 0)]) (va_Qi Qr (BM D dA ad (AM dA ad σ sz)) (AM dA ad σ sz)) 0 0 (AM dA ad σ sz) := by
  refine Met.ofW (cc := cX10_read) (maxL := 3) (ret := (some .int)) (by decide) rfl ?_
  intro p e s m args below meth c s₁ B hml hv
  obtain ⟨rfl, hsz, hP, hK, hD0⟩ := hv
  subst hsz
  have hts0 := atoms_spec (ws := ws_ yX10_read cX10_read 3 (some .int)) B.pre
  have C : CxM p s m meth c _ (AM dA ad σ s.heap.size) RX10 cX10_read 3 (some .int) := ⟨B.exec, B.bytes, B.returns, B.notSynchronized, hml, findClass_of_methodNamed B.named, fun w h => hts0 w (List.mem_cons_of_mem _ h), fun q h => Or.inr h⟩
  have hM : wM D dA ad (AM dA ad σ s.heap.size) s σ s.heap [] := ⟨hK, hP, hD0.self, va_S.rf⟩
  have hx := C.1
  have hb := C.2.1
  have hown := C.2.2.2.2.2.1
  have hts := C.2.2.2.2.2.2.1
  have hl := lv_entry ([.ref (ad 0)]) (n := 3) (Nat.le_of_ble_eq_true rfl)
  rw [lg_entry_eq]
  generalize (lg_sl ([.ref (ad 0)]) ++ List.replicate (3 - (lg_sl ([.ref (ad 0)])).length) Slot.unset).toArray = ls at hl ⊢
  have hl : lv_has ls 3 [(0, .ref (ad 0))] := hl
  unfold wp_read at hw
  refine lv_aload_n hx hb dX10_read_0 rfl (lv_at hl 0 rfl) ?_
  refine lv_iconst (v := 0) hx hb dX10_read_1 (by decide) ?_
  refine rM_putI C hM 0 (by decide) (fM_s0 dA ad σ _) q1390 rfl rfl (tyX10_ok 0 (by decide)) rfl rfl dX10_read_2 (fun σ1 H locs eσ hM => ?_)
  have hw := hw σ1 eσ
  clear eσ
  refine lv_aload_n hx hb dX10_read_5 rfl (lv_at hl 0 rfl) ?_
  refine rM_callVv (n := 0) (As := []) C hM hl.1 (mt_cut l D dA ad _ σ1  _ hw) (lw_V q1515 q1517 qs46 q93 q1518) rfl rfl (by decide +kernel) ⟨Nat.le_of_ble_eq_true rfl, Nat.le_of_ble_eq_true rfl⟩ rfl (Nat.le_of_ble_eq_true rfl) ⟨Nat.zero_le _, Nat.zero_le _⟩ rfl dX10_read_6 (fun σ2 H locs hw hM => ?_)
  refine lv_aload_n hx hb dX10_read_9 rfl (lv_at hl 0 rfl) ?_
  refine lv_iconst (v := 0) hx hb dX10_read_10 (by decide) ?_
  refine rM_putI C hM 2 (by decide) (fM_s2 dA ad σ2 _) q1392 rfl rfl (tyX10_ok 2 (by decide)) rfl rfl dX10_read_11 (fun σ3 H locs eσ hM => ?_)
  have hw := hw σ3 eσ
  clear eσ
  refine lv_aload_n hx hb dX10_read_14 rfl (lv_at hl 0 rfl) ?_
  refine rM_callVi (n := 0) (As := []) C hM hl.1 (mt_bad l D dA ad _ σ3  _ hw) (lw_V q1527 q1529 qs49 q93 q1530) rfl rfl (by decide +kernel) ⟨Nat.le_of_ble_eq_true rfl, Nat.le_of_ble_eq_true rfl⟩ rfl (Nat.le_of_ble_eq_true rfl) ⟨Nat.zero_le _, Nat.zero_le _⟩ rfl dX10_read_15 (fun x5 σ4 H locs hw hM => ?_)
  refine lv_istore_n (lv' := [(1, .int x5), (0, .ref (ad 0))]) hx hb dX10_read_18 rfl hl (by decide) rfl (fun ls hl => ?_)
  refine lv_iload_n hx hb dX10_read_19 rfl (lv_at hl 0 rfl) ?_
  refine lv_if_lt (tgt := 35) hx hb dX10_read_20 (by decide) (fun hc => ?_) (fun hc => ?_)
  · have hw := hw.1 hc
    refine lv_aload_n hx hb dX10_read_35 rfl (lv_at hl 1 rfl) ?_
    refine rM_callVi (n := 0) (As := []) C hM hl.1 (mt_build l D dA ad _ σ4  _ hw) (lw_V q1535 q1537 qs51 q93 q1538) rfl rfl (by decide +kernel) ⟨Nat.le_of_ble_eq_true rfl, Nat.le_of_ble_eq_true rfl⟩ rfl (Nat.le_of_ble_eq_true rfl) ⟨Nat.zero_le _, Nat.zero_le _⟩ rfl dX10_read_36 (fun x7 σ6 H locs hw hM => ?_)
    refine lv_istore_n (lv' := [(2, .int x7), (1, .int x5), (0, .ref (ad 0))]) hx hb dX10_read_39 rfl hl (by decide) rfl (fun ls hl => ?_)
    refine lv_iload_n hx hb dX10_read_40 rfl (lv_at hl 0 rfl) ?_
    refine lv_if_eq (tgt := 46) hx hb dX10_read_41 (by decide) (fun hc => ?_) (fun hc => ?_)
    · have hw := hw.1 hc
      refine lv_aload_n hx hb dX10_read_46 rfl (lv_at hl 2 rfl) ?_
      refine rM_callVv (n := 0) (As := []) C hM hl.1 (mt_take l D dA ad _ σ6  _ hw) (lw_V q1543 q1545 qs53 q93 q1546) rfl rfl (by decide +kernel) ⟨Nat.le_of_ble_eq_true rfl, Nat.le_of_ble_eq_true rfl⟩ rfl (Nat.le_of_ble_eq_true rfl) ⟨Nat.zero_le _, Nat.zero_le _⟩ rfl dX10_read_47 (fun σ8 H locs hw hM => ?_)
      refine lv_iconst (v := 0) hx hb dX10_read_50 (by decide) ?_
      exact rM_iret C hM hw dX10_read_51
    · have hw := hw.2 hc
      refine lv_iload_n hx hb dX10_read_44 rfl (lv_at hl 0 rfl) ?_
      exact rM_iret C hM hw dX10_read_45
  · have hw := hw.2 hc
    refine lv_aload_n hx hb dX10_read_23 rfl (lv_at hl 1 rfl) ?_
    refine lv_iconst (v := 1) hx hb dX10_read_24 (by decide) ?_
    refine lv_aload_n hx hb dX10_read_25 rfl (lv_at hl 1 rfl) ?_
    refine rM_get C hM 5 (by decide) (fM_5 ad σ4) q1395 rfl dX10_read_26 ?_
    refine lv_iload_n hx hb dX10_read_29 rfl (lv_at hl 0 rfl) ?_
    refine rM_iald C hM 5 3 (wM_5 dA ad σ4) hw.1 dX10_read_30 ?_
    have hw := hw.2
    refine rM_callVi (n := 2) (As := [.int 1, .int (gA σ4 5 x5)]) C hM hl.1 (mt_fault l D dA ad _ σ4 1 (gA σ4 5 x5) _ hw) (lw_V q1531 q1533 qs50 q93 q1534) rfl rfl (by decide +kernel) ⟨Nat.le_of_ble_eq_true rfl, Nat.le_of_ble_eq_true rfl⟩ rfl (Nat.le_of_ble_eq_true rfl) ⟨Nat.zero_le _, Nat.zero_le _⟩ rfl dX10_read_31 (fun x10 σ9 H locs hw hM => ?_)
    exact rM_iret C hM hw dX10_read_34
abbrev rm_place : Room := { frames := 0, cells := 0, slots := 0, locals := 0 }
set_option maxHeartbeats 4000000 in
/-- public int place(); -/
theorem mt_place (l : Launch) (D : va_G) (dA : Nat → ClassId) (ad : Nat → Nat) (sz : Nat) (σ : St) (Qr : Int32 → St → Prop) (hw : wp_place  σ Qr) : Met l yX10_place (ws_ yX10_place cX10_place 1 (some .int)) rm_place (PcM D dA ad σ sz [.ref (ad 0)]) (va_Qi Qr (BM D dA ad (AM dA ad σ sz)) (AM dA ad σ sz)) 0 0 (AM dA ad σ sz) := by
  refine Met.ofW (cc := cX10_place) (maxL := 1) (ret := (some .int)) (by decide) rfl ?_
  intro p e s m args below meth c s₁ B hml hv
  obtain ⟨rfl, hsz, hP, hK, hD0⟩ := hv
  subst hsz
  have hts0 := atoms_spec (ws := ws_ yX10_place cX10_place 1 (some .int)) B.pre
  have C : CxM p s m meth c _ (AM dA ad σ s.heap.size) RX10 cX10_place 1 (some .int) := ⟨B.exec, B.bytes, B.returns, B.notSynchronized, hml, findClass_of_methodNamed B.named, fun w h => hts0 w (List.mem_cons_of_mem _ h), fun q h => Or.inr h⟩
  have hM : wM D dA ad (AM dA ad σ s.heap.size) s σ s.heap [] := ⟨hK, hP, hD0.self, va_S.rf⟩
  have hx := C.1
  have hb := C.2.1
  have hown := C.2.2.2.2.2.1
  have hts := C.2.2.2.2.2.2.1
  have hl := lv_entry ([.ref (ad 0)]) (n := 1) (Nat.le_of_ble_eq_true rfl)
  rw [lg_entry_eq]
  generalize (lg_sl ([.ref (ad 0)]) ++ List.replicate (1 - (lg_sl ([.ref (ad 0)])).length) Slot.unset).toArray = ls at hl ⊢
  have hl : lv_has ls 1 [(0, .ref (ad 0))] := hl
  unfold wp_place at hw
  refine lv_aload_n hx hb dX10_place_0 rfl (lv_at hl 0 rfl) ?_
  refine lv_iconst (v := 0) hx hb dX10_place_1 (by decide) ?_
  refine rM_putI C hM 0 (by decide) (fM_s0 dA ad σ _) q1390 rfl rfl (tyX10_ok 0 (by decide)) rfl rfl dX10_place_2 (fun σ1 H locs eσ hM => ?_)
  have hw := hw σ1 eσ
  clear eσ
  refine lv_aload_n hx hb dX10_place_5 rfl (lv_at hl 0 rfl) ?_
  refine rM_get C hM 3 (by decide) (fM_3 ad σ1) q1393 rfl dX10_place_6 ?_
  exact rM_iret C hM hw dX10_place_9
abbrev rm_count : Room := { frames := 0, cells := 0, slots := 0, locals := 0 }
set_option maxHeartbeats 4000000 in
theorem wk_count_52 {p : Program} {l : Launch} {e : Env} {s : State} {m : MethodId} {args : Array Value} {below : List Frame} {meth : Method} {c : Code} {D : va_G} {dA : Nat → ClassId} {ad : Nat → Nat} {σ0 : St} {sz : Nat} (C : CxM p s m meth c args (AM dA ad σ0 sz) RX10 cX10_count 2 (some .int)) {Qr : Int32 → St → Prop} : ∀ (u0 : Int32) (σ : St) (H : Heap) (locs : List Loc) (ls : Array Slot), wp_count_52 Qr u0 σ → wM D dA ad (AM dA ad σ0 sz) s σ H locs → lv_has ls 2 [(0, .ref (ad 0))] → W p l e rm_count s m args below meth c H locs 0 0 (MQ below (va_Qi Qr (BM D dA ad (AM dA ad σ0 sz)) (AM dA ad σ0 sz)) args s 0 0 (AM dA ad σ0 sz)) (F0 m 52 ls [.int u0]) := by
  intro u0 σ H locs ls hw hM hl
  have hx := C.1
  have hb := C.2.1
  have hown := C.2.2.2.2.2.1
  have hts := C.2.2.2.2.2.2.1
  unfold wp_count_52 at hw
  exact rM_iret C hM hw dX10_count_52
set_option maxHeartbeats 4000000 in
/-- public int count(int); -/
theorem mt_count (l : Launch) (D : va_G) (dA : Nat → ClassId) (ad : Nat → Nat) (sz : Nat) (σ : St) (p1 : Int32) (Qr : Int32 → St → Prop) (hw : wp_count p1 σ Qr) : Met l yX10_count (ws_ yX10_count cX10_count 2 (some .int)) rm_count (PcM D dA ad σ sz [.ref (ad 0), .int p1]) (va_Qi Qr (BM D dA ad (AM dA ad σ sz)) (AM dA ad σ sz)) 0 0 (AM dA ad σ sz) := by
  refine Met.ofW (cc := cX10_count) (maxL := 2) (ret := (some .int)) (by decide) rfl ?_
  intro p e s m args below meth c s₁ B hml hv
  obtain ⟨rfl, hsz, hP, hK, hD0⟩ := hv
  subst hsz
  have hts0 := atoms_spec (ws := ws_ yX10_count cX10_count 2 (some .int)) B.pre
  have C : CxM p s m meth c _ (AM dA ad σ s.heap.size) RX10 cX10_count 2 (some .int) := ⟨B.exec, B.bytes, B.returns, B.notSynchronized, hml, findClass_of_methodNamed B.named, fun w h => hts0 w (List.mem_cons_of_mem _ h), fun q h => Or.inr h⟩
  have hM : wM D dA ad (AM dA ad σ s.heap.size) s σ s.heap [] := ⟨hK, hP, hD0.self, va_S.rf⟩
  have hx := C.1
  have hb := C.2.1
  have hown := C.2.2.2.2.2.1
  have hts := C.2.2.2.2.2.2.1
  have hl := lv_entry ([.ref (ad 0), .int p1]) (n := 2) (Nat.le_of_ble_eq_true rfl)
  rw [lg_entry_eq]
  generalize (lg_sl ([.ref (ad 0), .int p1]) ++ List.replicate (2 - (lg_sl ([.ref (ad 0), .int p1])).length) Slot.unset).toArray = ls at hl ⊢
  have hl : lv_has ls 2 [(0, .ref (ad 0)), (1, .int p1)] := hl
  unfold wp_count at hw
  refine lv_aload_n hx hb dX10_count_0 rfl (lv_at hl 0 rfl) ?_
  refine lv_iconst (v := 0) hx hb dX10_count_1 (by decide) ?_
  refine rM_putI C hM 0 (by decide) (fM_s0 dA ad σ _) q1390 rfl rfl (tyX10_ok 0 (by decide)) rfl rfl dX10_count_2 (fun σ1 H locs eσ hM => ?_)
  have hw := hw σ1 eσ
  clear eσ
  refine lv_aload_n hx hb dX10_count_5 rfl (lv_at hl 0 rfl) ?_
  refine rM_get C hM 14 (by decide) (fM_14 ad σ1) q1404 rfl dX10_count_6 ?_
  refine lv_if_ne (tgt := 16) hx hb dX10_count_9 (by decide) (fun hc => ?_) (fun hc => ?_)
  · have hw := hw.1 hc
    refine lv_iload_n hx hb dX10_count_16 rfl (lv_at hl 1 rfl) ?_
    refine lv_if_ne (tgt := 27) hx hb dX10_count_17 (by decide) (fun hc => ?_) (fun hc => ?_)
    · have hw := hw.1 hc
      refine lv_iload_n hx hb dX10_count_27 rfl (lv_at hl 1 rfl) ?_
      refine lv_iconst (v := 1) hx hb dX10_count_28 (by decide) ?_
      refine lv_icmp_ne (tgt := 39) hx hb dX10_count_29 (by decide) (fun hc => ?_) (fun hc => ?_)
      · have hw := hw.1 hc
        refine lv_iload_n hx hb dX10_count_39 rfl (lv_at hl 1 rfl) ?_
        refine lv_iconst (v := 2) hx hb dX10_count_40 (by decide) ?_
        refine lv_icmp_ne (tgt := 51) hx hb dX10_count_41 (by decide) (fun hc => ?_) (fun hc => ?_)
        · have hw := hw.1 hc
          refine lv_iconst (v := (-1)) hx hb dX10_count_51 (by decide) ?_
          exact wk_count_52 C  (-1) σ1 _ _ ls hw hM (lv_sub hl [0] rfl)
        · have hw := hw.2 hc
          refine lv_aload_n hx hb dX10_count_44 rfl (lv_at hl 0 rfl) ?_
          refine rM_get C hM 16 (by decide) (fM_16 ad σ1) q1406 rfl dX10_count_45 ?_
          refine lv_goto (tgt := 52) hx hb dX10_count_48 (by decide) ?_
          exact wk_count_52 C  ((gI σ1 16)) σ1 _ _ ls hw hM (lv_sub hl [0] rfl)
      · have hw := hw.2 hc
        refine lv_aload_n hx hb dX10_count_32 rfl (lv_at hl 0 rfl) ?_
        refine rM_get C hM 17 (by decide) (fM_17 ad σ1) q1407 rfl dX10_count_33 ?_
        refine lv_goto (tgt := 52) hx hb dX10_count_36 (by decide) ?_
        exact wk_count_52 C  ((gI σ1 17)) σ1 _ _ ls hw hM (lv_sub hl [0] rfl)
    · have hw := hw.2 hc
      refine lv_aload_n hx hb dX10_count_20 rfl (lv_at hl 0 rfl) ?_
      refine rM_get C hM 15 (by decide) (fM_15 ad σ1) q1405 rfl dX10_count_21 ?_
      refine lv_goto (tgt := 52) hx hb dX10_count_24 (by decide) ?_
      exact wk_count_52 C  ((gI σ1 15)) σ1 _ _ ls hw hM (lv_sub hl [0] rfl)
  · have hw := hw.2 hc
    refine lv_iconst (v := (-1)) hx hb dX10_count_12 (by decide) ?_
    refine lv_goto (tgt := 52) hx hb dX10_count_13 (by decide) ?_
    exact wk_count_52 C  (-1) σ1 _ _ ls hw hM (lv_sub hl [0] rfl)
abbrev rm_letter : Room := { frames := 0, cells := 0, slots := 0, locals := 0 }
set_option maxHeartbeats 4000000 in
theorem wk_letter_34 {p : Program} {l : Launch} {e : Env} {s : State} {m : MethodId} {args : Array Value} {below : List Frame} {meth : Method} {c : Code} {D : va_G} {dA : Nat → ClassId} {ad : Nat → Nat} {σ0 : St} {sz : Nat} (C : CxM p s m meth c args (AM dA ad σ0 sz) RX10 cX10_letter 2 (some .int)) {Qr : Int32 → St → Prop} : ∀ (u0 : Int32) (σ : St) (H : Heap) (locs : List Loc) (ls : Array Slot), wp_letter_34 Qr u0 σ → wM D dA ad (AM dA ad σ0 sz) s σ H locs → lv_has ls 2 [(0, .ref (ad 0))] → W p l e rm_letter s m args below meth c H locs 0 0 (MQ below (va_Qi Qr (BM D dA ad (AM dA ad σ0 sz)) (AM dA ad σ0 sz)) args s 0 0 (AM dA ad σ0 sz)) (F0 m 34 ls [.int u0]) := by
  intro u0 σ H locs ls hw hM hl
  have hx := C.1
  have hb := C.2.1
  have hown := C.2.2.2.2.2.1
  have hts := C.2.2.2.2.2.2.1
  unfold wp_letter_34 at hw
  exact rM_iret C hM hw dX10_letter_34
set_option maxHeartbeats 4000000 in
theorem wk_letter_33 {p : Program} {l : Launch} {e : Env} {s : State} {m : MethodId} {args : Array Value} {below : List Frame} {meth : Method} {c : Code} {D : va_G} {dA : Nat → ClassId} {ad : Nat → Nat} {σ0 : St} {sz : Nat} (C : CxM p s m meth c args (AM dA ad σ0 sz) RX10 cX10_letter 2 (some .int)) {Qr : Int32 → St → Prop} : ∀ (σ : St) (H : Heap) (locs : List Loc) (ls : Array Slot), wp_letter_33 Qr σ → wM D dA ad (AM dA ad σ0 sz) s σ H locs → lv_has ls 2 [(0, .ref (ad 0))] → W p l e rm_letter s m args below meth c H locs 0 0 (MQ below (va_Qi Qr (BM D dA ad (AM dA ad σ0 sz)) (AM dA ad σ0 sz)) args s 0 0 (AM dA ad σ0 sz)) (F0 m 33 ls []) := by
  intro σ H locs ls hw hM hl
  have hx := C.1
  have hb := C.2.1
  have hown := C.2.2.2.2.2.1
  have hts := C.2.2.2.2.2.2.1
  unfold wp_letter_33 at hw
  refine lv_iconst (v := (-1)) hx hb dX10_letter_33 (by decide) ?_
  exact wk_letter_34 C  (-1) σ _ _ ls hw hM (lv_sub hl [0] rfl)
set_option maxHeartbeats 4000000 in
/-- public int letter(int); -/
theorem mt_letter (l : Launch) (D : va_G) (dA : Nat → ClassId) (ad : Nat → Nat) (sz : Nat) (σ : St) (p1 : Int32) (Qr : Int32 → St → Prop) (hw : wp_letter p1 σ Qr) : Met l yX10_letter (ws_ yX10_letter cX10_letter 2 (some .int)) rm_letter (PcM D dA ad σ sz [.ref (ad 0), .int p1]) (va_Qi Qr (BM D dA ad (AM dA ad σ sz)) (AM dA ad σ sz)) 0 0 (AM dA ad σ sz) := by
  refine Met.ofW (cc := cX10_letter) (maxL := 2) (ret := (some .int)) (by decide) rfl ?_
  intro p e s m args below meth c s₁ B hml hv
  obtain ⟨rfl, hsz, hP, hK, hD0⟩ := hv
  subst hsz
  have hts0 := atoms_spec (ws := ws_ yX10_letter cX10_letter 2 (some .int)) B.pre
  have C : CxM p s m meth c _ (AM dA ad σ s.heap.size) RX10 cX10_letter 2 (some .int) := ⟨B.exec, B.bytes, B.returns, B.notSynchronized, hml, findClass_of_methodNamed B.named, fun w h => hts0 w (List.mem_cons_of_mem _ h), fun q h => Or.inr h⟩
  have hM : wM D dA ad (AM dA ad σ s.heap.size) s σ s.heap [] := ⟨hK, hP, hD0.self, va_S.rf⟩
  have hx := C.1
  have hb := C.2.1
  have hown := C.2.2.2.2.2.1
  have hts := C.2.2.2.2.2.2.1
  have hl := lv_entry ([.ref (ad 0), .int p1]) (n := 2) (Nat.le_of_ble_eq_true rfl)
  rw [lg_entry_eq]
  generalize (lg_sl ([.ref (ad 0), .int p1]) ++ List.replicate (2 - (lg_sl ([.ref (ad 0), .int p1])).length) Slot.unset).toArray = ls at hl ⊢
  have hl : lv_has ls 2 [(0, .ref (ad 0)), (1, .int p1)] := hl
  unfold wp_letter at hw
  refine lv_aload_n hx hb dX10_letter_0 rfl (lv_at hl 0 rfl) ?_
  refine lv_iconst (v := 0) hx hb dX10_letter_1 (by decide) ?_
  refine rM_putI C hM 0 (by decide) (fM_s0 dA ad σ _) q1390 rfl rfl (tyX10_ok 0 (by decide)) rfl rfl dX10_letter_2 (fun σ1 H locs eσ hM => ?_)
  have hw := hw σ1 eσ
  clear eσ
  refine lv_aload_n hx hb dX10_letter_5 rfl (lv_at hl 0 rfl) ?_
  refine rM_get C hM 14 (by decide) (fM_14 ad σ1) q1404 rfl dX10_letter_6 ?_
  refine lv_if_eq (tgt := 33) hx hb dX10_letter_9 (by decide) (fun hc => ?_) (fun hc => ?_)
  · have hw := hw.1 hc
    exact wk_letter_33 C   σ1 _ _ ls hw hM (lv_sub hl [0] rfl)
  · have hw := hw.2 hc
    refine lv_iload_n hx hb dX10_letter_12 rfl (lv_at hl 1 rfl) ?_
    refine lv_if_lt (tgt := 33) hx hb dX10_letter_13 (by decide) (fun hc => ?_) (fun hc => ?_)
    · have hw := hw.1 hc
      exact wk_letter_33 C   σ1 _ _ ls hw hM (lv_sub hl [0] rfl)
    · have hw := hw.2 hc
      refine lv_iload_n hx hb dX10_letter_16 rfl (lv_at hl 1 rfl) ?_
      refine lv_aload_n hx hb dX10_letter_17 rfl (lv_at hl 0 rfl) ?_
      refine rM_get C hM 16 (by decide) (fM_16 ad σ1) q1406 rfl dX10_letter_18 ?_
      refine lv_icmp_ge (tgt := 33) hx hb dX10_letter_21 (by decide) (fun hc => ?_) (fun hc => ?_)
      · have hw := hw.1 hc
        exact wk_letter_33 C   σ1 _ _ ls hw hM (lv_sub hl [0] rfl)
      · have hw := hw.2 hc
        refine lv_aload_n hx hb dX10_letter_24 rfl (lv_at hl 0 rfl) ?_
        refine rM_get C hM 18 (by decide) (fM_18 ad σ1) q1408 rfl dX10_letter_25 ?_
        refine lv_iload_n hx hb dX10_letter_28 rfl (lv_at hl 1 rfl) ?_
        refine rM_iald C hM 18 8 (wM_18 dA ad σ1) hw.1 dX10_letter_29 ?_
        have hw := hw.2
        refine lv_goto (tgt := 34) hx hb dX10_letter_30 (by decide) ?_
        exact wk_letter_34 C  ((gA σ1 18 p1)) σ1 _ _ ls hw hM (lv_sub hl [0] rfl)
abbrev rm_number : Room := { frames := 0, cells := 0, slots := 0, locals := 0 }
set_option maxHeartbeats 4000000 in
theorem wk_number_62 {p : Program} {l : Launch} {e : Env} {s : State} {m : MethodId} {args : Array Value} {below : List Frame} {meth : Method} {c : Code} {D : va_G} {dA : Nat → ClassId} {ad : Nat → Nat} {σ0 : St} {sz : Nat} (C : CxM p s m meth c args (AM dA ad σ0 sz) RX10 cX10_number 3 (some .int)) {Qr : Int32 → St → Prop} : ∀ (u0 : Int32) (σ : St) (H : Heap) (locs : List Loc) (ls : Array Slot), wp_number_62 Qr u0 σ → wM D dA ad (AM dA ad σ0 sz) s σ H locs → lv_has ls 3 [(0, .ref (ad 0))] → W p l e rm_number s m args below meth c H locs 0 0 (MQ below (va_Qi Qr (BM D dA ad (AM dA ad σ0 sz)) (AM dA ad σ0 sz)) args s 0 0 (AM dA ad σ0 sz)) (F0 m 62 ls [.int u0]) := by
  intro u0 σ H locs ls hw hM hl
  have hx := C.1
  have hb := C.2.1
  have hown := C.2.2.2.2.2.1
  have hts := C.2.2.2.2.2.2.1
  unfold wp_number_62 at hw
  exact rM_iret C hM hw dX10_number_62
set_option maxHeartbeats 4000000 in
theorem wk_number_37 {p : Program} {l : Launch} {e : Env} {s : State} {m : MethodId} {args : Array Value} {below : List Frame} {meth : Method} {c : Code} {D : va_G} {dA : Nat → ClassId} {ad : Nat → Nat} {σ0 : St} {sz : Nat} (C : CxM p s m meth c args (AM dA ad σ0 sz) RX10 cX10_number 3 (some .int)) {Qr : Int32 → St → Prop} : ∀ (v1 : Int32) (v2 : Int32) (u1 : Int32) (σ : St) (H : Heap) (locs : List Loc) (ls : Array Slot), wp_number_37 Qr v1 v2 u1 σ → wM D dA ad (AM dA ad σ0 sz) s σ H locs → lv_has ls 3 [(0, .ref (ad 0)), (1, .int v1), (2, .int v2)] → W p l e rm_number s m args below meth c H locs 0 0 (MQ below (va_Qi Qr (BM D dA ad (AM dA ad σ0 sz)) (AM dA ad σ0 sz)) args s 0 0 (AM dA ad σ0 sz)) (F0 m 37 ls [.int u1, .ref (ad 0)]) := by
  intro v1 v2 u1 σ H locs ls hw hM hl
  have hx := C.1
  have hb := C.2.1
  have hown := C.2.2.2.2.2.1
  have hts := C.2.2.2.2.2.2.1
  unfold wp_number_37 at hw
  refine rM_putI C hM 0 (by decide) (fM_s0 dA ad σ _) q1390 rfl rfl (tyX10_ok 0 (by decide)) rfl rfl dX10_number_37 (fun σ1 H locs eσ hM => ?_)
  have hw := hw σ1 eσ
  clear eσ
  refine lv_aload_n hx hb dX10_number_40 rfl (lv_at hl 0 rfl) ?_
  refine rM_get C hM 0 (by decide) (fM_0 ad σ1) q1390 rfl dX10_number_41 ?_
  refine lv_if_ne (tgt := 61) hx hb dX10_number_44 (by decide) (fun hc => ?_) (fun hc => ?_)
  · have hw := hw.1 hc
    refine lv_iconst (v := 0) hx hb dX10_number_61 (by decide) ?_
    exact wk_number_62 C  0 σ1 _ _ ls hw hM (lv_sub hl [0] rfl)
  · have hw := hw.2 hc
    refine lv_aload_n hx hb dX10_number_47 rfl (lv_at hl 0 rfl) ?_
    refine rM_get C hM 19 (by decide) (fM_19 ad σ1) q1409 rfl dX10_number_48 ?_
    refine lv_bipush (v := 7) hx hb dX10_number_51 (by decide) ?_
    refine lv_iload_n hx hb dX10_number_53 rfl (lv_at hl 1 rfl) ?_
    refine lv_imul hx hb dX10_number_54 ?_
    refine lv_iload_n hx hb dX10_number_55 rfl (lv_at hl 2 rfl) ?_
    refine lv_iadd hx hb dX10_number_56 ?_
    refine rM_iald C hM 19 9 (wM_19 dA ad σ1) hw.1 dX10_number_57 ?_
    have hw := hw.2
    refine lv_goto (tgt := 62) hx hb dX10_number_58 (by decide) ?_
    exact wk_number_62 C  ((gA σ1 19 ((7 * v1) + v2))) σ1 _ _ ls hw hM (lv_sub hl [0] rfl)
set_option maxHeartbeats 4000000 in
theorem wk_number_36 {p : Program} {l : Launch} {e : Env} {s : State} {m : MethodId} {args : Array Value} {below : List Frame} {meth : Method} {c : Code} {D : va_G} {dA : Nat → ClassId} {ad : Nat → Nat} {σ0 : St} {sz : Nat} (C : CxM p s m meth c args (AM dA ad σ0 sz) RX10 cX10_number 3 (some .int)) {Qr : Int32 → St → Prop} : ∀ (v1 : Int32) (v2 : Int32) (σ : St) (H : Heap) (locs : List Loc) (ls : Array Slot), wp_number_36 Qr v1 v2 σ → wM D dA ad (AM dA ad σ0 sz) s σ H locs → lv_has ls 3 [(0, .ref (ad 0)), (1, .int v1), (2, .int v2)] → W p l e rm_number s m args below meth c H locs 0 0 (MQ below (va_Qi Qr (BM D dA ad (AM dA ad σ0 sz)) (AM dA ad σ0 sz)) args s 0 0 (AM dA ad σ0 sz)) (F0 m 36 ls [.ref (ad 0)]) := by
  intro v1 v2 σ H locs ls hw hM hl
  have hx := C.1
  have hb := C.2.1
  have hown := C.2.2.2.2.2.1
  have hts := C.2.2.2.2.2.2.1
  unfold wp_number_36 at hw
  refine lv_iconst (v := 1) hx hb dX10_number_36 (by decide) ?_
  exact wk_number_37 C  v1 v2 1 σ _ _ ls hw hM (lv_sub hl [0, 1, 2] rfl)
set_option maxHeartbeats 4000000 in
/-- public int number(int, int); -/
theorem mt_number (l : Launch) (D : va_G) (dA : Nat → ClassId) (ad : Nat → Nat) (sz : Nat) (σ : St) (p1 : Int32) (p2 : Int32) (Qr : Int32 → St → Prop) (hw : wp_number p1 p2 σ Qr) : Met l yX10_number (ws_ yX10_number cX10_number 3 (some .int)) rm_number (PcM D dA ad σ sz [.ref (ad 0), .int p1, .int p2]) (va_Qi Qr (BM D dA ad (AM dA ad σ sz)) (AM dA ad σ sz)) 0 0 (AM dA ad σ sz) := by
  refine Met.ofW (cc := cX10_number) (maxL := 3) (ret := (some .int)) (by decide) rfl ?_
  intro p e s m args below meth c s₁ B hml hv
  obtain ⟨rfl, hsz, hP, hK, hD0⟩ := hv
  subst hsz
  have hts0 := atoms_spec (ws := ws_ yX10_number cX10_number 3 (some .int)) B.pre
  have C : CxM p s m meth c _ (AM dA ad σ s.heap.size) RX10 cX10_number 3 (some .int) := ⟨B.exec, B.bytes, B.returns, B.notSynchronized, hml, findClass_of_methodNamed B.named, fun w h => hts0 w (List.mem_cons_of_mem _ h), fun q h => Or.inr h⟩
  have hM : wM D dA ad (AM dA ad σ s.heap.size) s σ s.heap [] := ⟨hK, hP, hD0.self, va_S.rf⟩
  have hx := C.1
  have hb := C.2.1
  have hown := C.2.2.2.2.2.1
  have hts := C.2.2.2.2.2.2.1
  have hl := lv_entry ([.ref (ad 0), .int p1, .int p2]) (n := 3) (Nat.le_of_ble_eq_true rfl)
  rw [lg_entry_eq]
  generalize (lg_sl ([.ref (ad 0), .int p1, .int p2]) ++ List.replicate (3 - (lg_sl ([.ref (ad 0), .int p1, .int p2])).length) Slot.unset).toArray = ls at hl ⊢
  have hl : lv_has ls 3 [(0, .ref (ad 0)), (1, .int p1), (2, .int p2)] := hl
  unfold wp_number at hw
  refine lv_aload_n hx hb dX10_number_0 rfl (lv_at hl 0 rfl) ?_
  refine lv_aload_n hx hb dX10_number_1 rfl (lv_at hl 0 rfl) ?_
  refine rM_get C hM 14 (by decide) (fM_14 ad σ) q1404 rfl dX10_number_2 ?_
  refine lv_if_eq (tgt := 36) hx hb dX10_number_5 (by decide) (fun hc => ?_) (fun hc => ?_)
  · have hw := hw.1 hc
    exact wk_number_36 C  p1 p2 σ _ _ ls hw hM (lv_sub hl [0, 1, 2] rfl)
  · have hw := hw.2 hc
    refine lv_iload_n hx hb dX10_number_8 rfl (lv_at hl 1 rfl) ?_
    refine lv_if_lt (tgt := 36) hx hb dX10_number_9 (by decide) (fun hc => ?_) (fun hc => ?_)
    · have hw := hw.1 hc
      exact wk_number_36 C  p1 p2 σ _ _ ls hw hM (lv_sub hl [0, 1, 2] rfl)
    · have hw := hw.2 hc
      refine lv_iload_n hx hb dX10_number_12 rfl (lv_at hl 1 rfl) ?_
      refine lv_aload_n hx hb dX10_number_13 rfl (lv_at hl 0 rfl) ?_
      refine rM_get C hM 15 (by decide) (fM_15 ad σ) q1405 rfl dX10_number_14 ?_
      refine lv_icmp_ge (tgt := 36) hx hb dX10_number_17 (by decide) (fun hc => ?_) (fun hc => ?_)
      · have hw := hw.1 hc
        exact wk_number_36 C  p1 p2 σ _ _ ls hw hM (lv_sub hl [0, 1, 2] rfl)
      · have hw := hw.2 hc
        refine lv_iload_n hx hb dX10_number_20 rfl (lv_at hl 2 rfl) ?_
        refine lv_if_lt (tgt := 36) hx hb dX10_number_21 (by decide) (fun hc => ?_) (fun hc => ?_)
        · have hw := hw.1 hc
          exact wk_number_36 C  p1 p2 σ _ _ ls hw hM (lv_sub hl [0, 1, 2] rfl)
        · have hw := hw.2 hc
          refine lv_iload_n hx hb dX10_number_24 rfl (lv_at hl 2 rfl) ?_
          refine lv_aload_n hx hb dX10_number_25 rfl (lv_at hl 0 rfl) ?_
          refine rM_get C hM 17 (by decide) (fM_17 ad σ) q1407 rfl dX10_number_26 ?_
          refine lv_icmp_gt (tgt := 36) hx hb dX10_number_29 (by decide) (fun hc => ?_) (fun hc => ?_)
          · have hw := hw.1 hc
            exact wk_number_36 C  p1 p2 σ _ _ ls hw hM (lv_sub hl [0, 1, 2] rfl)
          · have hw := hw.2 hc
            refine lv_iconst (v := 0) hx hb dX10_number_32 (by decide) ?_
            refine lv_goto (tgt := 37) hx hb dX10_number_33 (by decide) ?_
            exact wk_number_37 C  p1 p2 0 σ _ _ ls hw hM (lv_sub hl [0, 1, 2] rfl)
abbrev rm_dot_30 : Room := { frames := 0, cells := 0, slots := 0, locals := 0 }
set_option maxHeartbeats 4000000 in
theorem wk_dot_30_6 {p : Program} {l : Launch} {e : Env} {s : State} {m : MethodId} {args : Array Value} {below : List Frame} {meth : Method} {c : Code} {D : va_G} {dA : Nat → ClassId} {ad : Nat → Nat} {σ0 : St} {sz : Nat} (C : CxM p s m meth c args (AM dA ad σ0 sz) RX10 cX10_dot 7 (some .long)) {Qr : Int64 → St → Prop} : ∀ (n : Nat) (v1 : Int32) (v3 : Int32) (v4 : Int64) (v6 : Int32) (σ : St) (H : Heap) (locs : List Loc) (ls : Array Slot), wp_dot_30_6 Qr n v1 v3 v4 v6 σ → wM D dA ad (AM dA ad σ0 sz) s σ H locs → lv_has ls 7 [(0, .ref (ad 0)), (1, .int v1), (2, .ref (ad 30)), (3, .int v3), (4, .long v4), (6, .int v6)] → W p l e rm_dot_30 s m args below meth c H locs 0 0 (MQ below (va_Ql Qr (BM D dA ad (AM dA ad σ0 sz)) (AM dA ad σ0 sz)) args s 0 0 (AM dA ad σ0 sz)) (F0 m 6 ls []) := by
  intro n
  induction n with
  | zero => intro v1 v3 v4 v6 σ H locs ls hw; exact hw.elim
  | succ n6 ih =>
    intro v1 v3 v4 v6 σ H locs ls hw hM hl
    have hx := C.1
    have hb := C.2.1
    have hown := C.2.2.2.2.2.1
    have hts := C.2.2.2.2.2.2.1
    unfold wp_dot_30_6 at hw
    refine lv_iload hx hb dX10_dot_6 (lv_at hl 5 rfl) ?_
    refine lv_aload_n hx hb dX10_dot_8 rfl (lv_at hl 0 rfl) ?_
    refine rM_get C hM 17 (by decide) (fM_17 ad σ) q1407 rfl dX10_dot_9 ?_
    refine lv_icmp_ge (tgt := 46) hx hb dX10_dot_12 (by decide) (fun hc => ?_) (fun hc => ?_)
    · have hw := hw.1 hc
      refine lv_lload hx hb dX10_dot_46 (lv_at hl 4 rfl) ?_
      exact rM_lret C hM hw dX10_dot_48
    · have hw := hw.2 hc
      refine lv_lload hx hb dX10_dot_15 (lv_at hl 4 rfl) ?_
      refine lv_aload_n hx hb dX10_dot_17 rfl (lv_at hl 0 rfl) ?_
      refine rM_get C hM 19 (by decide) (fM_19 ad σ) q1409 rfl dX10_dot_18 ?_
      refine lv_bipush (v := 7) hx hb dX10_dot_21 (by decide) ?_
      refine lv_iload_n hx hb dX10_dot_23 rfl (lv_at hl 1 rfl) ?_
      refine lv_imul hx hb dX10_dot_24 ?_
      refine lv_iload hx hb dX10_dot_25 (lv_at hl 5 rfl) ?_
      refine lv_iadd hx hb dX10_dot_27 ?_
      refine rM_iald C hM 19 9 (wM_19 dA ad σ) hw.1 dX10_dot_28 ?_
      have hw := hw.2
      refine lv_i2l hx hb dX10_dot_29 rfl ?_
      refine lv_aload_n hx hb dX10_dot_30 rfl (lv_at hl 2 rfl) ?_
      refine lv_iload_n hx hb dX10_dot_31 rfl (lv_at hl 3 rfl) ?_
      refine lv_iload hx hb dX10_dot_32 (lv_at hl 5 rfl) ?_
      refine lv_iadd hx hb dX10_dot_34 ?_
      refine rM_lald C hM 30 18 (wM_30 dA ad σ) hw.1 dX10_dot_35 ?_
      have hw := hw.2
      refine lv_lmul hx hb dX10_dot_36 ?_
      refine lv_ladd hx hb dX10_dot_37 ?_
      refine lv_topl (fun y1 ey1 => ?_)
      have hw := hw y1 ey1
      refine lv_lstore (lv' := [(4, .long y1), (0, .ref (ad 0)), (1, .int v1), (2, .ref (ad 30)), (3, .int v3), (6, .int v6)]) hx hb dX10_dot_38 hl (by decide) rfl (fun ls hl => ?_)
      obtain ⟨x2, ex2⟩ : ∃ y : Int32, y = v6 + 1 := ⟨_, rfl⟩
      have hw := hw x2 ex2
      refine lv_iinc (v := x2) (lv' := [(6, .int x2), (4, .long y1), (0, .ref (ad 0)), (1, .int v1), (2, .ref (ad 30)), (3, .int v3)]) hx hb dX10_dot_40 hl (k := 5) rfl (by rw [ex2]; rfl) (by decide) rfl (fun ls hl => ?_)
      refine lv_goto (tgt := 6) hx hb dX10_dot_43 (by decide) ?_
      exact ih v1 v3 y1 x2 σ _ _ ls hw hM (lv_sub hl [2, 3, 4, 5, 1, 0] rfl)
set_option maxHeartbeats 4000000 in
/-- private long dot(int, long[], int); -/
theorem mt_dot_30 (l : Launch) (D : va_G) (dA : Nat → ClassId) (ad : Nat → Nat) (sz : Nat) (σ : St) (p1 : Int32) (p3 : Int32) (Qr : Int64 → St → Prop) (hw : wp_dot_30 p1 p3 σ Qr) : Met l yX10_dot (ws_ yX10_dot cX10_dot 7 (some .long)) rm_dot_30 (PcM D dA ad σ sz [.ref (ad 0), .int p1, .ref (ad 30), .int p3]) (va_Ql Qr (BM D dA ad (AM dA ad σ sz)) (AM dA ad σ sz)) 0 0 (AM dA ad σ sz) := by
  refine Met.ofW (cc := cX10_dot) (maxL := 7) (ret := (some .long)) (by decide) rfl ?_
  intro p e s m args below meth c s₁ B hml hv
  obtain ⟨rfl, hsz, hP, hK, hD0⟩ := hv
  subst hsz
  have hts0 := atoms_spec (ws := ws_ yX10_dot cX10_dot 7 (some .long)) B.pre
  have C : CxM p s m meth c _ (AM dA ad σ s.heap.size) RX10 cX10_dot 7 (some .long) := ⟨B.exec, B.bytes, B.returns, B.notSynchronized, hml, findClass_of_methodNamed B.named, fun w h => hts0 w (List.mem_cons_of_mem _ h), fun q h => Or.inr h⟩
  have hM : wM D dA ad (AM dA ad σ s.heap.size) s σ s.heap [] := ⟨hK, hP, hD0.self, va_S.rf⟩
  have hx := C.1
  have hb := C.2.1
  have hown := C.2.2.2.2.2.1
  have hts := C.2.2.2.2.2.2.1
  have hl := lv_entry ([.ref (ad 0), .int p1, .ref (ad 30), .int p3]) (n := 7) (Nat.le_of_ble_eq_true rfl)
  rw [lg_entry_eq]
  generalize (lg_sl ([.ref (ad 0), .int p1, .ref (ad 30), .int p3]) ++ List.replicate (7 - (lg_sl ([.ref (ad 0), .int p1, .ref (ad 30), .int p3])).length) Slot.unset).toArray = ls at hl ⊢
  have hl : lv_has ls 7 [(0, .ref (ad 0)), (1, .int p1), (2, .ref (ad 30)), (3, .int p3)] := hl
  unfold wp_dot_30 at hw
  refine lv_lconst (v := 0) hx hb dX10_dot_0 (by decide) ?_
  refine lv_lstore (lv' := [(4, .long 0), (0, .ref (ad 0)), (1, .int p1), (2, .ref (ad 30)), (3, .int p3)]) hx hb dX10_dot_1 hl (by decide) rfl (fun ls hl => ?_)
  refine lv_iconst (v := 0) hx hb dX10_dot_3 (by decide) ?_
  refine lv_istore (lv' := [(6, .int 0), (4, .long 0), (0, .ref (ad 0)), (1, .int p1), (2, .ref (ad 30)), (3, .int p3)]) hx hb dX10_dot_4 hl (by decide) rfl (fun ls hl => ?_)
  obtain ⟨n6, hw⟩ := hw
  exact wk_dot_30_6 C  n6 p1 p3 0 0 σ _ _ ls hw hM (lv_sub hl [2, 3, 4, 5, 1, 0] rfl)
abbrev rm_size : Room := { frames := 0, cells := 0, slots := 0, locals := 0 }
set_option maxHeartbeats 4000000 in
theorem wk_size_12 {p : Program} {l : Launch} {e : Env} {s : State} {m : MethodId} {args : Array Value} {below : List Frame} {meth : Method} {c : Code} {D : va_G} {dA : Nat → ClassId} {ad : Nat → Nat} {σ0 : St} {sz : Nat} (C : CxM p s m meth c args (AM dA ad σ0 sz) RX10 cX10_size 2 (some .long)) {Qr : Int64 → St → Prop} : ∀ (u0 : Int64) (σ : St) (H : Heap) (locs : List Loc) (ls : Array Slot), wp_size_12 Qr u0 σ → wM D dA ad (AM dA ad σ0 sz) s σ H locs → lv_has ls 2 [] → W p l e rm_size s m args below meth c H locs 0 0 (MQ below (va_Ql Qr (BM D dA ad (AM dA ad σ0 sz)) (AM dA ad σ0 sz)) args s 0 0 (AM dA ad σ0 sz)) (F0 m 12 ls [.long u0]) := by
  intro u0 σ H locs ls hw hM hl
  have hx := C.1
  have hb := C.2.1
  have hown := C.2.2.2.2.2.1
  have hts := C.2.2.2.2.2.2.1
  unfold wp_size_12 at hw
  exact rM_lret C hM hw dX10_size_12
set_option maxHeartbeats 4000000 in
/-- private static long size(long); -/
theorem mt_size (l : Launch) (D : va_G) (dA : Nat → ClassId) (ad : Nat → Nat) (sz : Nat) (σ : St) (p0 : Int64) (Qr : Int64 → St → Prop) (hw : wp_size p0 σ Qr) : Met l yX10_size (ws_ yX10_size cX10_size 2 (some .long)) rm_size (PcM D dA ad σ sz [.long p0]) (va_Ql Qr (BM D dA ad (AM dA ad σ sz)) (AM dA ad σ sz)) 0 0 (AM dA ad σ sz) := by
  refine Met.ofW (cc := cX10_size) (maxL := 2) (ret := (some .long)) (by decide) rfl ?_
  intro p e s m args below meth c s₁ B hml hv
  obtain ⟨rfl, hsz, hP, hK, hD0⟩ := hv
  subst hsz
  have hts0 := atoms_spec (ws := ws_ yX10_size cX10_size 2 (some .long)) B.pre
  have C : CxM p s m meth c _ (AM dA ad σ s.heap.size) RX10 cX10_size 2 (some .long) := ⟨B.exec, B.bytes, B.returns, B.notSynchronized, hml, findClass_of_methodNamed B.named, fun w h => hts0 w (List.mem_cons_of_mem _ h), fun q h => Or.inr h⟩
  have hM : wM D dA ad (AM dA ad σ s.heap.size) s σ s.heap [] := ⟨hK, hP, hD0.self, va_S.rf⟩
  have hx := C.1
  have hb := C.2.1
  have hown := C.2.2.2.2.2.1
  have hts := C.2.2.2.2.2.2.1
  have hl := lv_entry ([.long p0]) (n := 2) (Nat.le_of_ble_eq_true rfl)
  rw [lg_entry_eq]
  generalize (lg_sl ([.long p0]) ++ List.replicate (2 - (lg_sl ([.long p0])).length) Slot.unset).toArray = ls at hl ⊢
  have hl : lv_has ls 2 [(0, .long p0)] := hl
  unfold wp_size at hw
  refine lv_lload_n hx hb dX10_size_0 rfl (lv_at hl 0 rfl) ?_
  refine lv_lconst (v := 0) hx hb dX10_size_1 (by decide) ?_
  refine W.lcmp hx hb dX10_size_2 ?_
  refine lv_if_ge (tgt := 11) hx hb dX10_size_3 (by decide) (fun hc => ?_) (fun hc => ?_)
  · have hw := hw.1 hc
    refine lv_lload_n hx hb dX10_size_11 rfl (lv_at hl 0 rfl) ?_
    exact wk_size_12 C  p0 σ _ _ ls hw hM (lv_sub hl [] rfl)
  · have hw := hw.2 hc
    refine lv_lload_n hx hb dX10_size_6 rfl (lv_at hl 0 rfl) ?_
    refine lv_lneg hx hb dX10_size_7 ?_
    refine lv_goto (tgt := 12) hx hb dX10_size_8 (by decide) ?_
    exact wk_size_12 C  ((-p0)) σ _ _ ls hw hM (lv_sub hl [] rfl)
abbrev rm_exchange : Room := { frames := 0, cells := 0, slots := 0, locals := 0 }
set_option maxHeartbeats 4000000 in
theorem wk_exchange_2 {p : Program} {l : Launch} {e : Env} {s : State} {m : MethodId} {args : Array Value} {below : List Frame} {meth : Method} {c : Code} {D : va_G} {dA : Nat → ClassId} {ad : Nat → Nat} {σ0 : St} {sz : Nat} (C : CxM p s m meth c args (AM dA ad σ0 sz) RX10 cX10_exchange 6 none) {Qr : St → Prop} : ∀ (n : Nat) (v1 : Int32) (v2 : Int32) (v3 : Int32) (σ : St) (H : Heap) (locs : List Loc) (ls : Array Slot), wp_exchange_2 Qr n v1 v2 v3 σ → wM D dA ad (AM dA ad σ0 sz) s σ H locs → lv_has ls 6 [(0, .ref (ad 0)), (1, .int v1), (2, .int v2), (3, .int v3)] → W p l e rm_exchange s m args below meth c H locs 0 0 (MQ below (va_Qv Qr (BM D dA ad (AM dA ad σ0 sz)) (AM dA ad σ0 sz)) args s 0 0 (AM dA ad σ0 sz)) (F0 m 2 ls []) := by
  intro n
  induction n with
  | zero => intro v1 v2 v3 σ H locs ls hw; exact hw.elim
  | succ n2 ih =>
    intro v1 v2 v3 σ H locs ls hw hM hl
    have hx := C.1
    have hb := C.2.1
    have hown := C.2.2.2.2.2.1
    have hts := C.2.2.2.2.2.2.1
    unfold wp_exchange_2 at hw
    refine lv_iload_n hx hb dX10_exchange_2 rfl (lv_at hl 3 rfl) ?_
    refine lv_aload_n hx hb dX10_exchange_3 rfl (lv_at hl 0 rfl) ?_
    refine rM_get C hM 17 (by decide) (fM_17 ad σ) q1407 rfl dX10_exchange_4 ?_
    refine lv_icmp_ge (tgt := 64) hx hb dX10_exchange_7 (by decide) (fun hc => ?_) (fun hc => ?_)
    · have hw := hw.1 hc
      exact rM_vret C hM hw dX10_exchange_64
    · have hw := hw.2 hc
      refine lv_aload_n hx hb dX10_exchange_10 rfl (lv_at hl 0 rfl) ?_
      refine rM_get C hM 30 (by decide) (fM_30 ad σ) q1420 rfl dX10_exchange_11 ?_
      refine lv_bipush (v := 6) hx hb dX10_exchange_14 (by decide) ?_
      refine lv_iload_n hx hb dX10_exchange_16 rfl (lv_at hl 1 rfl) ?_
      refine lv_imul hx hb dX10_exchange_17 ?_
      refine lv_iload_n hx hb dX10_exchange_18 rfl (lv_at hl 3 rfl) ?_
      refine lv_iadd hx hb dX10_exchange_19 ?_
      refine rM_lald C hM 30 18 (wM_30 dA ad σ) hw.1 dX10_exchange_20 ?_
      have hw := hw.2
      refine lv_topl (fun y1 ey1 => ?_)
      have hw := hw y1 ey1
      refine lv_lstore (lv' := [(4, .long y1), (0, .ref (ad 0)), (1, .int v1), (2, .int v2), (3, .int v3)]) hx hb dX10_exchange_21 hl (by decide) rfl (fun ls hl => ?_)
      refine lv_aload_n hx hb dX10_exchange_23 rfl (lv_at hl 1 rfl) ?_
      refine rM_get C hM 30 (by decide) (fM_30 ad σ) q1420 rfl dX10_exchange_24 ?_
      refine lv_bipush (v := 6) hx hb dX10_exchange_27 (by decide) ?_
      refine lv_iload_n hx hb dX10_exchange_29 rfl (lv_at hl 2 rfl) ?_
      refine lv_imul hx hb dX10_exchange_30 ?_
      refine lv_iload_n hx hb dX10_exchange_31 rfl (lv_at hl 4 rfl) ?_
      refine lv_iadd hx hb dX10_exchange_32 ?_
      refine lv_aload_n hx hb dX10_exchange_33 rfl (lv_at hl 1 rfl) ?_
      refine rM_get C hM 30 (by decide) (fM_30 ad σ) q1420 rfl dX10_exchange_34 ?_
      refine lv_bipush (v := 6) hx hb dX10_exchange_37 (by decide) ?_
      refine lv_iload_n hx hb dX10_exchange_39 rfl (lv_at hl 3 rfl) ?_
      refine lv_imul hx hb dX10_exchange_40 ?_
      refine lv_iload_n hx hb dX10_exchange_41 rfl (lv_at hl 4 rfl) ?_
      refine lv_iadd hx hb dX10_exchange_42 ?_
      refine rM_lald C hM 30 18 (wM_30 dA ad σ) hw.1 dX10_exchange_43 ?_
      have hw := hw.2
      refine rM_last C hM 30 18 (wM_30 dA ad σ) (wM_s30 dA ad σ _ _) hw.1 dX10_exchange_44 (fun σ2 H locs eσ hM => ?_)
      have hw := hw.2 σ2 eσ
      clear eσ
      refine lv_aload_n hx hb dX10_exchange_45 rfl (lv_at hl 1 rfl) ?_
      refine rM_get C hM 30 (by decide) (fM_30 ad σ2) q1420 rfl dX10_exchange_46 ?_
      refine lv_bipush (v := 6) hx hb dX10_exchange_49 (by decide) ?_
      refine lv_iload_n hx hb dX10_exchange_51 rfl (lv_at hl 3 rfl) ?_
      refine lv_imul hx hb dX10_exchange_52 ?_
      refine lv_iload_n hx hb dX10_exchange_53 rfl (lv_at hl 4 rfl) ?_
      refine lv_iadd hx hb dX10_exchange_54 ?_
      refine lv_lload hx hb dX10_exchange_55 (lv_at hl 0 rfl) ?_
      refine rM_last C hM 30 18 (wM_30 dA ad σ2) (wM_s30 dA ad σ2 _ _) hw.1 dX10_exchange_57 (fun σ3 H locs eσ hM => ?_)
      have hw := hw.2 σ3 eσ
      clear eσ
      obtain ⟨x4, ex4⟩ : ∃ y : Int32, y = v3 + 1 := ⟨_, rfl⟩
      have hw := hw x4 ex4
      refine lv_iinc (v := x4) (lv' := [(3, .int x4), (4, .long y1), (0, .ref (ad 0)), (1, .int v1), (2, .int v2)]) hx hb dX10_exchange_58 hl (k := 4) rfl (by rw [ex4]; rfl) (by decide) rfl (fun ls hl => ?_)
      refine lv_goto (tgt := 2) hx hb dX10_exchange_61 (by decide) ?_
      exact ih v1 v2 x4 σ3 _ _ ls hw hM (lv_sub hl [2, 3, 4, 0] rfl)
set_option maxHeartbeats 4000000 in
/-- private void exchange(int, int); -/
theorem mt_exchange (l : Launch) (D : va_G) (dA : Nat → ClassId) (ad : Nat → Nat) (sz : Nat) (σ : St) (p1 : Int32) (p2 : Int32) (Qr : St → Prop) (hw : wp_exchange p1 p2 σ Qr) : Met l yX10_exchange (ws_ yX10_exchange cX10_exchange 6 none) rm_exchange (PcM D dA ad σ sz [.ref (ad 0), .int p1, .int p2]) (va_Qv Qr (BM D dA ad (AM dA ad σ sz)) (AM dA ad σ sz)) 0 0 (AM dA ad σ sz) := by
  refine Met.ofW (cc := cX10_exchange) (maxL := 6) (ret := none) (by decide) rfl ?_
  intro p e s m args below meth c s₁ B hml hv
  obtain ⟨rfl, hsz, hP, hK, hD0⟩ := hv
  subst hsz
  have hts0 := atoms_spec (ws := ws_ yX10_exchange cX10_exchange 6 none) B.pre
  have C : CxM p s m meth c _ (AM dA ad σ s.heap.size) RX10 cX10_exchange 6 none := ⟨B.exec, B.bytes, B.returns, B.notSynchronized, hml, findClass_of_methodNamed B.named, fun w h => hts0 w (List.mem_cons_of_mem _ h), fun q h => Or.inr h⟩
  have hM : wM D dA ad (AM dA ad σ s.heap.size) s σ s.heap [] := ⟨hK, hP, hD0.self, va_S.rf⟩
  have hx := C.1
  have hb := C.2.1
  have hown := C.2.2.2.2.2.1
  have hts := C.2.2.2.2.2.2.1
  have hl := lv_entry ([.ref (ad 0), .int p1, .int p2]) (n := 6) (Nat.le_of_ble_eq_true rfl)
  rw [lg_entry_eq]
  generalize (lg_sl ([.ref (ad 0), .int p1, .int p2]) ++ List.replicate (6 - (lg_sl ([.ref (ad 0), .int p1, .int p2])).length) Slot.unset).toArray = ls at hl ⊢
  have hl : lv_has ls 6 [(0, .ref (ad 0)), (1, .int p1), (2, .int p2)] := hl
  unfold wp_exchange at hw
  refine lv_iconst (v := 0) hx hb dX10_exchange_0 (by decide) ?_
  refine lv_istore_n (lv' := [(3, .int 0), (0, .ref (ad 0)), (1, .int p1), (2, .int p2)]) hx hb dX10_exchange_1 rfl hl (by decide) rfl (fun ls hl => ?_)
  obtain ⟨n2, hw⟩ := hw
  exact wk_exchange_2 C  n2 p1 p2 0 σ _ _ ls hw hM (lv_sub hl [1, 2, 3, 0] rfl)
abbrev rm_lose : Room := { frames := 0, cells := 0, slots := 0, locals := 0 }
set_option maxHeartbeats 4000000 in
theorem wk_lose_3 {p : Program} {l : Launch} {e : Env} {s : State} {m : MethodId} {args : Array Value} {below : List Frame} {meth : Method} {c : Code} {D : va_G} {dA : Nat → ClassId} {ad : Nat → Nat} {σ0 : St} {sz : Nat} (C : CxM p s m meth c args (AM dA ad σ0 sz) RX10 cX10_lose 6 none) {Qr : St → Prop} : ∀ (n : Nat) (v1 : Int32) (v2 : Int32) (v3 : Int64) (v5 : Int32) (σ : St) (H : Heap) (locs : List Loc) (ls : Array Slot), wp_lose_3 Qr n v1 v2 v3 v5 σ → wM D dA ad (AM dA ad σ0 sz) s σ H locs → lv_has ls 6 [(0, .ref (ad 0)), (1, .int v1), (2, .int v2), (3, .long v3), (5, .int v5)] → W p l e rm_lose s m args below meth c H locs 0 0 (MQ below (va_Qv Qr (BM D dA ad (AM dA ad σ0 sz)) (AM dA ad σ0 sz)) args s 0 0 (AM dA ad σ0 sz)) (F0 m 3 ls []) := by
  intro n
  induction n with
  | zero => intro v1 v2 v3 v5 σ H locs ls hw; exact hw.elim
  | succ n3 ih =>
    intro v1 v2 v3 v5 σ H locs ls hw hM hl
    have hx := C.1
    have hb := C.2.1
    have hown := C.2.2.2.2.2.1
    have hts := C.2.2.2.2.2.2.1
    unfold wp_lose_3 at hw
    refine lv_iload hx hb dX10_lose_3 (lv_at hl 4 rfl) ?_
    refine lv_aload_n hx hb dX10_lose_5 rfl (lv_at hl 0 rfl) ?_
    refine rM_get C hM 17 (by decide) (fM_17 ad σ) q1407 rfl dX10_lose_6 ?_
    refine lv_icmp_ge (tgt := 57) hx hb dX10_lose_9 (by decide) (fun hc => ?_) (fun hc => ?_)
    · have hw := hw.1 hc
      exact rM_vret C hM hw dX10_lose_57
    · have hw := hw.2 hc
      refine lv_aload_n hx hb dX10_lose_12 rfl (lv_at hl 0 rfl) ?_
      refine rM_get C hM 30 (by decide) (fM_30 ad σ) q1420 rfl dX10_lose_13 ?_
      refine lv_bipush (v := 6) hx hb dX10_lose_16 (by decide) ?_
      refine lv_iload_n hx hb dX10_lose_18 rfl (lv_at hl 1 rfl) ?_
      refine lv_imul hx hb dX10_lose_19 ?_
      refine lv_iload hx hb dX10_lose_20 (lv_at hl 4 rfl) ?_
      refine lv_iadd hx hb dX10_lose_22 ?_
      refine lv_aload_n hx hb dX10_lose_23 rfl (lv_at hl 0 rfl) ?_
      refine rM_get C hM 30 (by decide) (fM_30 ad σ) q1420 rfl dX10_lose_24 ?_
      refine lv_bipush (v := 6) hx hb dX10_lose_27 (by decide) ?_
      refine lv_iload_n hx hb dX10_lose_29 rfl (lv_at hl 1 rfl) ?_
      refine lv_imul hx hb dX10_lose_30 ?_
      refine lv_iload hx hb dX10_lose_31 (lv_at hl 4 rfl) ?_
      refine lv_iadd hx hb dX10_lose_33 ?_
      refine rM_lald C hM 30 18 (wM_30 dA ad σ) hw.1 dX10_lose_34 ?_
      have hw := hw.2
      refine lv_lload_n hx hb dX10_lose_35 rfl (lv_at hl 3 rfl) ?_
      refine lv_aload_n hx hb dX10_lose_36 rfl (lv_at hl 0 rfl) ?_
      refine rM_get C hM 30 (by decide) (fM_30 ad σ) q1420 rfl dX10_lose_37 ?_
      refine lv_bipush (v := 6) hx hb dX10_lose_40 (by decide) ?_
      refine lv_iload_n hx hb dX10_lose_42 rfl (lv_at hl 2 rfl) ?_
      refine lv_imul hx hb dX10_lose_43 ?_
      refine lv_iload hx hb dX10_lose_44 (lv_at hl 4 rfl) ?_
      refine lv_iadd hx hb dX10_lose_46 ?_
      refine rM_lald C hM 30 18 (wM_30 dA ad σ) hw.1 dX10_lose_47 ?_
      have hw := hw.2
      refine lv_lmul hx hb dX10_lose_48 ?_
      refine lv_lsub hx hb dX10_lose_49 ?_
      refine rM_last C hM 30 18 (wM_30 dA ad σ) (wM_s30 dA ad σ _ _) hw.1 dX10_lose_50 (fun σ1 H locs eσ hM => ?_)
      have hw := hw.2 σ1 eσ
      clear eσ
      obtain ⟨x2, ex2⟩ : ∃ y : Int32, y = v5 + 1 := ⟨_, rfl⟩
      have hw := hw x2 ex2
      refine lv_iinc (v := x2) (lv' := [(5, .int x2), (0, .ref (ad 0)), (1, .int v1), (2, .int v2), (3, .long v3)]) hx hb dX10_lose_51 hl (k := 4) rfl (by rw [ex2]; rfl) (by decide) rfl (fun ls hl => ?_)
      refine lv_goto (tgt := 3) hx hb dX10_lose_54 (by decide) ?_
      exact ih v1 v2 v3 x2 σ1 _ _ ls hw hM (lv_sub hl [1, 2, 3, 4, 0] rfl)
set_option maxHeartbeats 4000000 in
/-- private void lose(int, int, long); -/
theorem mt_lose (l : Launch) (D : va_G) (dA : Nat → ClassId) (ad : Nat → Nat) (sz : Nat) (σ : St) (p1 : Int32) (p2 : Int32) (p3 : Int64) (Qr : St → Prop) (hw : wp_lose p1 p2 p3 σ Qr) : Met l yX10_lose (ws_ yX10_lose cX10_lose 6 none) rm_lose (PcM D dA ad σ sz [.ref (ad 0), .int p1, .int p2, .long p3]) (va_Qv Qr (BM D dA ad (AM dA ad σ sz)) (AM dA ad σ sz)) 0 0 (AM dA ad σ sz) := by
  refine Met.ofW (cc := cX10_lose) (maxL := 6) (ret := none) (by decide) rfl ?_
  intro p e s m args below meth c s₁ B hml hv
  obtain ⟨rfl, hsz, hP, hK, hD0⟩ := hv
  subst hsz
  have hts0 := atoms_spec (ws := ws_ yX10_lose cX10_lose 6 none) B.pre
  have C : CxM p s m meth c _ (AM dA ad σ s.heap.size) RX10 cX10_lose 6 none := ⟨B.exec, B.bytes, B.returns, B.notSynchronized, hml, findClass_of_methodNamed B.named, fun w h => hts0 w (List.mem_cons_of_mem _ h), fun q h => Or.inr h⟩
  have hM : wM D dA ad (AM dA ad σ s.heap.size) s σ s.heap [] := ⟨hK, hP, hD0.self, va_S.rf⟩
  have hx := C.1
  have hb := C.2.1
  have hown := C.2.2.2.2.2.1
  have hts := C.2.2.2.2.2.2.1
  have hl := lv_entry ([.ref (ad 0), .int p1, .int p2, .long p3]) (n := 6) (Nat.le_of_ble_eq_true rfl)
  rw [lg_entry_eq]
  generalize (lg_sl ([.ref (ad 0), .int p1, .int p2, .long p3]) ++ List.replicate (6 - (lg_sl ([.ref (ad 0), .int p1, .int p2, .long p3])).length) Slot.unset).toArray = ls at hl ⊢
  have hl : lv_has ls 6 [(0, .ref (ad 0)), (1, .int p1), (2, .int p2), (3, .long p3)] := hl
  unfold wp_lose at hw
  refine lv_iconst (v := 0) hx hb dX10_lose_0 (by decide) ?_
  refine lv_istore (lv' := [(5, .int 0), (0, .ref (ad 0)), (1, .int p1), (2, .int p2), (3, .long p3)]) hx hb dX10_lose_1 hl (by decide) rfl (fun ls hl => ?_)
  obtain ⟨n3, hw⟩ := hw
  exact wk_lose_3 C  n3 p1 p2 p3 0 σ _ _ ls hw hM (lv_sub hl [1, 2, 3, 4, 0] rfl)
abbrev rm_dot_32 : Room := { frames := 0, cells := 0, slots := 0, locals := 0 }
set_option maxHeartbeats 4000000 in
theorem wk_dot_32_6 {p : Program} {l : Launch} {e : Env} {s : State} {m : MethodId} {args : Array Value} {below : List Frame} {meth : Method} {c : Code} {D : va_G} {dA : Nat → ClassId} {ad : Nat → Nat} {σ0 : St} {sz : Nat} (C : CxM p s m meth c args (AM dA ad σ0 sz) RX10 cX10_dot 7 (some .long)) {Qr : Int64 → St → Prop} : ∀ (n : Nat) (v1 : Int32) (v3 : Int32) (v4 : Int64) (v6 : Int32) (σ : St) (H : Heap) (locs : List Loc) (ls : Array Slot), wp_dot_32_6 Qr n v1 v3 v4 v6 σ → wM D dA ad (AM dA ad σ0 sz) s σ H locs → lv_has ls 7 [(0, .ref (ad 0)), (1, .int v1), (2, .ref (ad 32)), (3, .int v3), (4, .long v4), (6, .int v6)] → W p l e rm_dot_32 s m args below meth c H locs 0 0 (MQ below (va_Ql Qr (BM D dA ad (AM dA ad σ0 sz)) (AM dA ad σ0 sz)) args s 0 0 (AM dA ad σ0 sz)) (F0 m 6 ls []) := by
  intro n
  induction n with
  | zero => intro v1 v3 v4 v6 σ H locs ls hw; exact hw.elim
  | succ n6 ih =>
    intro v1 v3 v4 v6 σ H locs ls hw hM hl
    have hx := C.1
    have hb := C.2.1
    have hown := C.2.2.2.2.2.1
    have hts := C.2.2.2.2.2.2.1
    unfold wp_dot_32_6 at hw
    refine lv_iload hx hb dX10_dot_6 (lv_at hl 5 rfl) ?_
    refine lv_aload_n hx hb dX10_dot_8 rfl (lv_at hl 0 rfl) ?_
    refine rM_get C hM 17 (by decide) (fM_17 ad σ) q1407 rfl dX10_dot_9 ?_
    refine lv_icmp_ge (tgt := 46) hx hb dX10_dot_12 (by decide) (fun hc => ?_) (fun hc => ?_)
    · have hw := hw.1 hc
      refine lv_lload hx hb dX10_dot_46 (lv_at hl 4 rfl) ?_
      exact rM_lret C hM hw dX10_dot_48
    · have hw := hw.2 hc
      refine lv_lload hx hb dX10_dot_15 (lv_at hl 4 rfl) ?_
      refine lv_aload_n hx hb dX10_dot_17 rfl (lv_at hl 0 rfl) ?_
      refine rM_get C hM 19 (by decide) (fM_19 ad σ) q1409 rfl dX10_dot_18 ?_
      refine lv_bipush (v := 7) hx hb dX10_dot_21 (by decide) ?_
      refine lv_iload_n hx hb dX10_dot_23 rfl (lv_at hl 1 rfl) ?_
      refine lv_imul hx hb dX10_dot_24 ?_
      refine lv_iload hx hb dX10_dot_25 (lv_at hl 5 rfl) ?_
      refine lv_iadd hx hb dX10_dot_27 ?_
      refine rM_iald C hM 19 9 (wM_19 dA ad σ) hw.1 dX10_dot_28 ?_
      have hw := hw.2
      refine lv_i2l hx hb dX10_dot_29 rfl ?_
      refine lv_aload_n hx hb dX10_dot_30 rfl (lv_at hl 2 rfl) ?_
      refine lv_iload_n hx hb dX10_dot_31 rfl (lv_at hl 3 rfl) ?_
      refine lv_iload hx hb dX10_dot_32 (lv_at hl 5 rfl) ?_
      refine lv_iadd hx hb dX10_dot_34 ?_
      refine rM_lald C hM 32 19 (wM_32 dA ad σ) hw.1 dX10_dot_35 ?_
      have hw := hw.2
      refine lv_lmul hx hb dX10_dot_36 ?_
      refine lv_ladd hx hb dX10_dot_37 ?_
      refine lv_topl (fun y1 ey1 => ?_)
      have hw := hw y1 ey1
      refine lv_lstore (lv' := [(4, .long y1), (0, .ref (ad 0)), (1, .int v1), (2, .ref (ad 32)), (3, .int v3), (6, .int v6)]) hx hb dX10_dot_38 hl (by decide) rfl (fun ls hl => ?_)
      obtain ⟨x2, ex2⟩ : ∃ y : Int32, y = v6 + 1 := ⟨_, rfl⟩
      have hw := hw x2 ex2
      refine lv_iinc (v := x2) (lv' := [(6, .int x2), (4, .long y1), (0, .ref (ad 0)), (1, .int v1), (2, .ref (ad 32)), (3, .int v3)]) hx hb dX10_dot_40 hl (k := 5) rfl (by rw [ex2]; rfl) (by decide) rfl (fun ls hl => ?_)
      refine lv_goto (tgt := 6) hx hb dX10_dot_43 (by decide) ?_
      exact ih v1 v3 y1 x2 σ _ _ ls hw hM (lv_sub hl [2, 3, 4, 5, 1, 0] rfl)
set_option maxHeartbeats 4000000 in
/-- private long dot(int, long[], int); -/
theorem mt_dot_32 (l : Launch) (D : va_G) (dA : Nat → ClassId) (ad : Nat → Nat) (sz : Nat) (σ : St) (p1 : Int32) (p3 : Int32) (Qr : Int64 → St → Prop) (hw : wp_dot_32 p1 p3 σ Qr) : Met l yX10_dot (ws_ yX10_dot cX10_dot 7 (some .long)) rm_dot_32 (PcM D dA ad σ sz [.ref (ad 0), .int p1, .ref (ad 32), .int p3]) (va_Ql Qr (BM D dA ad (AM dA ad σ sz)) (AM dA ad σ sz)) 0 0 (AM dA ad σ sz) := by
  refine Met.ofW (cc := cX10_dot) (maxL := 7) (ret := (some .long)) (by decide) rfl ?_
  intro p e s m args below meth c s₁ B hml hv
  obtain ⟨rfl, hsz, hP, hK, hD0⟩ := hv
  subst hsz
  have hts0 := atoms_spec (ws := ws_ yX10_dot cX10_dot 7 (some .long)) B.pre
  have C : CxM p s m meth c _ (AM dA ad σ s.heap.size) RX10 cX10_dot 7 (some .long) := ⟨B.exec, B.bytes, B.returns, B.notSynchronized, hml, findClass_of_methodNamed B.named, fun w h => hts0 w (List.mem_cons_of_mem _ h), fun q h => Or.inr h⟩
  have hM : wM D dA ad (AM dA ad σ s.heap.size) s σ s.heap [] := ⟨hK, hP, hD0.self, va_S.rf⟩
  have hx := C.1
  have hb := C.2.1
  have hown := C.2.2.2.2.2.1
  have hts := C.2.2.2.2.2.2.1
  have hl := lv_entry ([.ref (ad 0), .int p1, .ref (ad 32), .int p3]) (n := 7) (Nat.le_of_ble_eq_true rfl)
  rw [lg_entry_eq]
  generalize (lg_sl ([.ref (ad 0), .int p1, .ref (ad 32), .int p3]) ++ List.replicate (7 - (lg_sl ([.ref (ad 0), .int p1, .ref (ad 32), .int p3])).length) Slot.unset).toArray = ls at hl ⊢
  have hl : lv_has ls 7 [(0, .ref (ad 0)), (1, .int p1), (2, .ref (ad 32)), (3, .int p3)] := hl
  unfold wp_dot_32 at hw
  refine lv_lconst (v := 0) hx hb dX10_dot_0 (by decide) ?_
  refine lv_lstore (lv' := [(4, .long 0), (0, .ref (ad 0)), (1, .int p1), (2, .ref (ad 32)), (3, .int p3)]) hx hb dX10_dot_1 hl (by decide) rfl (fun ls hl => ?_)
  refine lv_iconst (v := 0) hx hb dX10_dot_3 (by decide) ?_
  refine lv_istore (lv' := [(6, .int 0), (4, .long 0), (0, .ref (ad 0)), (1, .int p1), (2, .ref (ad 32)), (3, .int p3)]) hx hb dX10_dot_4 hl (by decide) rfl (fun ls hl => ?_)
  obtain ⟨n6, hw⟩ := hw
  exact wk_dot_32_6 C  n6 p1 p3 0 0 σ _ _ ls hw hM (lv_sub hl [2, 3, 4, 5, 1, 0] rfl)
abbrev rm_narrow : Room := { frames := 1, cells := 0, slots := 0, locals := 26 }
set_option maxHeartbeats 4000000 in
theorem wk_narrow_336 {p : Program} {l : Launch} {e : Env} {s : State} {m : MethodId} {args : Array Value} {below : List Frame} {meth : Method} {c : Code} {D : va_G} {dA : Nat → ClassId} {ad : Nat → Nat} {σ0 : St} {sz : Nat} (C : CxM p s m meth c args (AM dA ad σ0 sz) RX10 cX10_narrow 9 none) {Qr : St → Prop} : ∀ (n : Nat) (v8 : Int32) (σ : St) (H : Heap) (locs : List Loc) (ls : Array Slot), wp_narrow_336 Qr n v8 σ → wM D dA ad (AM dA ad σ0 sz) s σ H locs → lv_has ls 9 [(0, .ref (ad 0)), (8, .int v8)] → W p l e rm_narrow s m args below meth c H locs 0 0 (MQ below (va_Qv Qr (BM D dA ad (AM dA ad σ0 sz)) (AM dA ad σ0 sz)) args s 0 0 (AM dA ad σ0 sz)) (F0 m 336 ls []) := by
  intro n
  induction n with
  | zero => intro v8 σ H locs ls hw; exact hw.elim
  | succ n336 ih =>
    intro v8 σ H locs ls hw hM hl
    have hx := C.1
    have hb := C.2.1
    have hown := C.2.2.2.2.2.1
    have hts := C.2.2.2.2.2.2.1
    unfold wp_narrow_336 at hw
    refine lv_iload hx hb dX10_narrow_336 (lv_at hl 1 rfl) ?_
    refine lv_bipush (v := 6) hx hb dX10_narrow_338 (by decide) ?_
    refine lv_aload_n hx hb dX10_narrow_340 rfl (lv_at hl 0 rfl) ?_
    refine rM_get C hM 31 (by decide) (fM_31 ad σ) q1421 rfl dX10_narrow_341 ?_
    refine lv_imul hx hb dX10_narrow_344 ?_
    refine lv_icmp_ge (tgt := 371) hx hb dX10_narrow_345 (by decide) (fun hc => ?_) (fun hc => ?_)
    · have hw := hw.1 hc
      exact rM_vret C hM hw dX10_narrow_371
    · have hw := hw.2 hc
      refine lv_aload_n hx hb dX10_narrow_348 rfl (lv_at hl 0 rfl) ?_
      refine rM_get C hM 30 (by decide) (fM_30 ad σ) q1420 rfl dX10_narrow_349 ?_
      refine lv_iload hx hb dX10_narrow_352 (lv_at hl 1 rfl) ?_
      refine lv_aload_n hx hb dX10_narrow_354 rfl (lv_at hl 0 rfl) ?_
      refine rM_get C hM 30 (by decide) (fM_30 ad σ) q1420 rfl dX10_narrow_355 ?_
      refine lv_iload hx hb dX10_narrow_358 (lv_at hl 1 rfl) ?_
      refine lv_bipush (v := 6) hx hb dX10_narrow_360 (by decide) ?_
      refine lv_iadd hx hb dX10_narrow_362 ?_
      refine rM_lald C hM 30 18 (wM_30 dA ad σ) hw.1 dX10_narrow_363 ?_
      have hw := hw.2
      refine rM_last C hM 30 18 (wM_30 dA ad σ) (wM_s30 dA ad σ _ _) hw.1 dX10_narrow_364 (fun σ1 H locs eσ hM => ?_)
      have hw := hw.2 σ1 eσ
      clear eσ
      obtain ⟨x2, ex2⟩ : ∃ y : Int32, y = v8 + 1 := ⟨_, rfl⟩
      have hw := hw x2 ex2
      refine lv_iinc (v := x2) (lv' := [(8, .int x2), (0, .ref (ad 0))]) hx hb dX10_narrow_365 hl (k := 1) rfl (by rw [ex2]; rfl) (by decide) rfl (fun ls hl => ?_)
      refine lv_goto (tgt := 336) hx hb dX10_narrow_368 (by decide) ?_
      exact ih x2 σ1 _ _ ls hw hM (lv_sub hl [1, 0] rfl)
set_option maxHeartbeats 4000000 in
theorem wk_narrow_323 {p : Program} {l : Launch} {e : Env} {s : State} {m : MethodId} {args : Array Value} {below : List Frame} {meth : Method} {c : Code} {D : va_G} {dA : Nat → ClassId} {ad : Nat → Nat} {σ0 : St} {sz : Nat} (C : CxM p s m meth c args (AM dA ad σ0 sz) RX10 cX10_narrow 9 none) {Qr : St → Prop} : ∀ (σ : St) (H : Heap) (locs : List Loc) (ls : Array Slot), wp_narrow_323 Qr σ → wM D dA ad (AM dA ad σ0 sz) s σ H locs → lv_has ls 9 [(0, .ref (ad 0))] → W p l e rm_narrow s m args below meth c H locs 0 0 (MQ below (va_Qv Qr (BM D dA ad (AM dA ad σ0 sz)) (AM dA ad σ0 sz)) args s 0 0 (AM dA ad σ0 sz)) (F0 m 323 ls []) := by
  intro σ H locs ls hw hM hl
  have hx := C.1
  have hb := C.2.1
  have hown := C.2.2.2.2.2.1
  have hts := C.2.2.2.2.2.2.1
  unfold wp_narrow_323 at hw
  refine lv_aload_n hx hb dX10_narrow_323 rfl (lv_at hl 0 rfl) ?_
  refine lv_dup hx hb dX10_narrow_324 rfl ?_
  refine rM_get C hM 31 (by decide) (fM_31 ad σ) q1421 rfl dX10_narrow_325 ?_
  refine lv_iconst (v := 1) hx hb dX10_narrow_328 (by decide) ?_
  refine lv_isub hx hb dX10_narrow_329 ?_
  refine rM_putI C hM 31 (by decide) (fM_s31 dA ad σ _) q1421 rfl rfl (tyX10_ok 31 (by decide)) rfl rfl dX10_narrow_330 (fun σ1 H locs eσ hM => ?_)
  have hw := hw σ1 eσ
  clear eσ
  refine lv_iconst (v := 0) hx hb dX10_narrow_333 (by decide) ?_
  refine lv_istore (lv' := [(8, .int 0), (0, .ref (ad 0))]) hx hb dX10_narrow_334 hl (by decide) rfl (fun ls hl => ?_)
  obtain ⟨n336, hw⟩ := hw
  exact wk_narrow_336 C  n336 0 σ1 _ _ ls hw hM (lv_sub hl [1, 0] rfl)
set_option maxHeartbeats 4000000 in
theorem wk_narrow_273 {p : Program} {l : Launch} {e : Env} {s : State} {m : MethodId} {args : Array Value} {below : List Frame} {meth : Method} {c : Code} {D : va_G} {dA : Nat → ClassId} {ad : Nat → Nat} {σ0 : St} {sz : Nat} (C : CxM p s m meth c args (AM dA ad σ0 sz) RX10 cX10_narrow 9 none) {Qr : St → Prop} : ∀ (n : Nat) (v4 : Int64) (v6 : Int64) (v8 : Int32) (σ : St) (H : Heap) (locs : List Loc) (ls : Array Slot), wp_narrow_273 Qr n v4 v6 v8 σ → wM D dA ad (AM dA ad σ0 sz) s σ H locs → lv_has ls 9 [(0, .ref (ad 0)), (4, .long v4), (6, .long v6), (8, .int v8)] → W p l e rm_narrow s m args below meth c H locs 0 0 (MQ below (va_Qv Qr (BM D dA ad (AM dA ad σ0 sz)) (AM dA ad σ0 sz)) args s 0 0 (AM dA ad σ0 sz)) (F0 m 273 ls []) := by
  intro n
  induction n with
  | zero => intro v4 v6 v8 σ H locs ls hw; exact hw.elim
  | succ n273 ih =>
    intro v4 v6 v8 σ H locs ls hw hM hl
    have hx := C.1
    have hb := C.2.1
    have hown := C.2.2.2.2.2.1
    have hts := C.2.2.2.2.2.2.1
    unfold wp_narrow_273 at hw
    refine lv_iload hx hb dX10_narrow_273 (lv_at hl 3 rfl) ?_
    refine lv_aload_n hx hb dX10_narrow_275 rfl (lv_at hl 0 rfl) ?_
    refine rM_get C hM 17 (by decide) (fM_17 ad σ) q1407 rfl dX10_narrow_276 ?_
    refine lv_icmp_ge (tgt := 323) hx hb dX10_narrow_279 (by decide) (fun hc => ?_) (fun hc => ?_)
    · have hw := hw.1 hc
      exact wk_narrow_323 C   σ _ _ ls hw hM (lv_sub hl [0] rfl)
    · have hw := hw.2 hc
      refine lv_aload_n hx hb dX10_narrow_282 rfl (lv_at hl 0 rfl) ?_
      refine rM_get C hM 33 (by decide) (fM_33 ad σ) q1423 rfl dX10_narrow_283 ?_
      refine lv_if_eq (tgt := 323) hx hb dX10_narrow_286 (by decide) (fun hc => ?_) (fun hc => ?_)
      · have hw := hw.1 hc
        exact wk_narrow_323 C   σ _ _ ls hw hM (lv_sub hl [0] rfl)
      · have hw := hw.2 hc
        refine lv_aload_n hx hb dX10_narrow_289 rfl (lv_at hl 0 rfl) ?_
        refine rM_get C hM 32 (by decide) (fM_32 ad σ) q1422 rfl dX10_narrow_290 ?_
        refine lv_iload hx hb dX10_narrow_293 (lv_at hl 3 rfl) ?_
        refine lv_aload_n hx hb dX10_narrow_295 rfl (lv_at hl 0 rfl) ?_
        refine rM_get C hM 32 (by decide) (fM_32 ad σ) q1422 rfl dX10_narrow_296 ?_
        refine lv_iload hx hb dX10_narrow_299 (lv_at hl 3 rfl) ?_
        refine rM_lald C hM 32 19 (wM_32 dA ad σ) hw.1 dX10_narrow_301 ?_
        have hw := hw.2
        refine lv_lload hx hb dX10_narrow_302 (lv_at hl 1 rfl) ?_
        refine lv_lload hx hb dX10_narrow_304 (lv_at hl 2 rfl) ?_
        refine lv_ldiv hx hb dX10_narrow_306 hw.1 ?_
        have hw := hw.2
        refine lv_aload_n hx hb dX10_narrow_307 rfl (lv_at hl 0 rfl) ?_
        refine rM_get C hM 30 (by decide) (fM_30 ad σ) q1420 rfl dX10_narrow_308 ?_
        refine lv_iload hx hb dX10_narrow_311 (lv_at hl 3 rfl) ?_
        refine rM_lald C hM 30 18 (wM_30 dA ad σ) hw.1 dX10_narrow_313 ?_
        have hw := hw.2
        refine lv_lmul hx hb dX10_narrow_314 ?_
        refine lv_ladd hx hb dX10_narrow_315 ?_
        refine rM_last C hM 32 19 (wM_32 dA ad σ) (wM_s32 dA ad σ _ _) hw.1 dX10_narrow_316 (fun σ1 H locs eσ hM => ?_)
        have hw := hw.2 σ1 eσ
        clear eσ
        obtain ⟨x2, ex2⟩ : ∃ y : Int32, y = v8 + 1 := ⟨_, rfl⟩
        have hw := hw x2 ex2
        refine lv_iinc (v := x2) (lv' := [(8, .int x2), (0, .ref (ad 0)), (4, .long v4), (6, .long v6)]) hx hb dX10_narrow_317 hl (k := 3) rfl (by rw [ex2]; rfl) (by decide) rfl (fun ls hl => ?_)
        refine lv_goto (tgt := 273) hx hb dX10_narrow_320 (by decide) ?_
        exact ih v4 v6 x2 σ1 _ _ ls hw hM (lv_sub hl [1, 2, 3, 0] rfl)
set_option maxHeartbeats 4000000 in
theorem wk_narrow_267 {p : Program} {l : Launch} {e : Env} {s : State} {m : MethodId} {args : Array Value} {below : List Frame} {meth : Method} {c : Code} {D : va_G} {dA : Nat → ClassId} {ad : Nat → Nat} {σ0 : St} {sz : Nat} (C : CxM p s m meth c args (AM dA ad σ0 sz) RX10 cX10_narrow 9 none) {Qr : St → Prop} : ∀ (v4 : Int64) (v6 : Int64) (u1 : Int32) (σ : St) (H : Heap) (locs : List Loc) (ls : Array Slot), wp_narrow_267 Qr v4 v6 u1 σ → wM D dA ad (AM dA ad σ0 sz) s σ H locs → lv_has ls 9 [(0, .ref (ad 0)), (4, .long v4), (6, .long v6)] → W p l e rm_narrow s m args below meth c H locs 0 0 (MQ below (va_Qv Qr (BM D dA ad (AM dA ad σ0 sz)) (AM dA ad σ0 sz)) args s 0 0 (AM dA ad σ0 sz)) (F0 m 267 ls [.int u1, .ref (ad 0)]) := by
  intro v4 v6 u1 σ H locs ls hw hM hl
  have hx := C.1
  have hb := C.2.1
  have hown := C.2.2.2.2.2.1
  have hts := C.2.2.2.2.2.2.1
  unfold wp_narrow_267 at hw
  refine rM_putI C hM 33 (by decide) (fM_s33 dA ad σ _) q1423 rfl rfl (tyX10_ok 33 (by decide)) (isB_n hw.1) (isB_f hw.1) dX10_narrow_267 (fun σ1 H locs eσ hM => ?_)
  have hw := hw.2
  have hw := hw σ1 eσ
  clear eσ
  refine lv_iconst (v := 0) hx hb dX10_narrow_270 (by decide) ?_
  refine lv_istore (lv' := [(8, .int 0), (0, .ref (ad 0)), (4, .long v4), (6, .long v6)]) hx hb dX10_narrow_271 hl (by decide) rfl (fun ls hl => ?_)
  obtain ⟨n273, hw⟩ := hw
  exact wk_narrow_273 C  n273 v4 v6 0 σ1 _ _ ls hw hM (lv_sub hl [1, 2, 3, 0] rfl)
set_option maxHeartbeats 4000000 in
theorem wk_narrow_266 {p : Program} {l : Launch} {e : Env} {s : State} {m : MethodId} {args : Array Value} {below : List Frame} {meth : Method} {c : Code} {D : va_G} {dA : Nat → ClassId} {ad : Nat → Nat} {σ0 : St} {sz : Nat} (C : CxM p s m meth c args (AM dA ad σ0 sz) RX10 cX10_narrow 9 none) {Qr : St → Prop} : ∀ (v4 : Int64) (v6 : Int64) (σ : St) (H : Heap) (locs : List Loc) (ls : Array Slot), wp_narrow_266 Qr v4 v6 σ → wM D dA ad (AM dA ad σ0 sz) s σ H locs → lv_has ls 9 [(0, .ref (ad 0)), (4, .long v4), (6, .long v6)] → W p l e rm_narrow s m args below meth c H locs 0 0 (MQ below (va_Qv Qr (BM D dA ad (AM dA ad σ0 sz)) (AM dA ad σ0 sz)) args s 0 0 (AM dA ad σ0 sz)) (F0 m 266 ls [.ref (ad 0)]) := by
  intro v4 v6 σ H locs ls hw hM hl
  have hx := C.1
  have hb := C.2.1
  have hown := C.2.2.2.2.2.1
  have hts := C.2.2.2.2.2.2.1
  unfold wp_narrow_266 at hw
  refine lv_iconst (v := 0) hx hb dX10_narrow_266 (by decide) ?_
  exact wk_narrow_267 C  v4 v6 0 σ _ _ ls hw hM (lv_sub hl [0, 1, 2] rfl)
set_option maxHeartbeats 4000000 in
theorem wk_narrow_228 {p : Program} {l : Launch} {e : Env} {s : State} {m : MethodId} {args : Array Value} {below : List Frame} {meth : Method} {c : Code} {D : va_G} {dA : Nat → ClassId} {ad : Nat → Nat} {σ0 : St} {sz : Nat} (C : CxM p s m meth c args (AM dA ad σ0 sz) RX10 cX10_narrow 9 none) {Qr : St → Prop} : ∀ (u1 : Int32) (σ : St) (H : Heap) (locs : List Loc) (ls : Array Slot), wp_narrow_228 Qr u1 σ → wM D dA ad (AM dA ad σ0 sz) s σ H locs → lv_has ls 9 [(0, .ref (ad 0))] → W p l e rm_narrow s m args below meth c H locs 0 0 (MQ below (va_Qv Qr (BM D dA ad (AM dA ad σ0 sz)) (AM dA ad σ0 sz)) args s 0 0 (AM dA ad σ0 sz)) (F0 m 228 ls [.int u1, .ref (ad 0)]) := by
  intro u1 σ H locs ls hw hM hl
  have hx := C.1
  have hb := C.2.1
  have hown := C.2.2.2.2.2.1
  have hts := C.2.2.2.2.2.2.1
  unfold wp_narrow_228 at hw
  refine rM_putI C hM 33 (by decide) (fM_s33 dA ad σ _) q1423 rfl rfl (tyX10_ok 33 (by decide)) (isB_n hw.1) (isB_f hw.1) dX10_narrow_228 (fun σ1 H locs eσ hM => ?_)
  have hw := hw.2
  have hw := hw σ1 eσ
  clear eσ
  exact rM_vret C hM hw dX10_narrow_231
set_option maxHeartbeats 4000000 in
theorem wk_narrow_227 {p : Program} {l : Launch} {e : Env} {s : State} {m : MethodId} {args : Array Value} {below : List Frame} {meth : Method} {c : Code} {D : va_G} {dA : Nat → ClassId} {ad : Nat → Nat} {σ0 : St} {sz : Nat} (C : CxM p s m meth c args (AM dA ad σ0 sz) RX10 cX10_narrow 9 none) {Qr : St → Prop} : ∀ (σ : St) (H : Heap) (locs : List Loc) (ls : Array Slot), wp_narrow_227 Qr σ → wM D dA ad (AM dA ad σ0 sz) s σ H locs → lv_has ls 9 [(0, .ref (ad 0))] → W p l e rm_narrow s m args below meth c H locs 0 0 (MQ below (va_Qv Qr (BM D dA ad (AM dA ad σ0 sz)) (AM dA ad σ0 sz)) args s 0 0 (AM dA ad σ0 sz)) (F0 m 227 ls [.ref (ad 0)]) := by
  intro σ H locs ls hw hM hl
  have hx := C.1
  have hb := C.2.1
  have hown := C.2.2.2.2.2.1
  have hts := C.2.2.2.2.2.2.1
  unfold wp_narrow_227 at hw
  refine lv_iconst (v := 0) hx hb dX10_narrow_227 (by decide) ?_
  exact wk_narrow_228 C  0 σ _ _ ls hw hM (lv_sub hl [0] rfl)
set_option maxHeartbeats 4000000 in
theorem wk_narrow_172 {p : Program} {l : Launch} {e : Env} {s : State} {m : MethodId} {args : Array Value} {below : List Frame} {meth : Method} {c : Code} {D : va_G} {dA : Nat → ClassId} {ad : Nat → Nat} {σ0 : St} {sz : Nat} (C : CxM p s m meth c args (AM dA ad σ0 sz) RX10 cX10_narrow 9 none) {Qr : St → Prop} {K4 : Int32 → Int32 → Int32 → St → Prop} (hK4 : ∀ (v1 : Int32) (v2 : Int32) (v3 : Int32) (σ : St) (H : Heap) (locs : List Loc) (ls : Array Slot), K4 v1 v2 v3 σ → wM D dA ad (AM dA ad σ0 sz) s σ H locs → lv_has ls 9 [(0, .ref (ad 0)), (1, .int v1), (2, .int v2), (3, .int v3)] → W p l e rm_narrow s m args below meth c H locs 0 0 (MQ below (va_Qv Qr (BM D dA ad (AM dA ad σ0 sz)) (AM dA ad σ0 sz)) args s 0 0 (AM dA ad σ0 sz)) (F0 m 4 ls [])) : ∀ (v1 : Int32) (v3 : Int32) (u0 : Int32) (σ : St) (H : Heap) (locs : List Loc) (ls : Array Slot), wp_narrow_172 Qr K4 v1 v3 u0 σ → wM D dA ad (AM dA ad σ0 sz) s σ H locs → lv_has ls 9 [(0, .ref (ad 0)), (1, .int v1), (3, .int v3)] → W p l e rm_narrow s m args below meth c H locs 0 0 (MQ below (va_Qv Qr (BM D dA ad (AM dA ad σ0 sz)) (AM dA ad σ0 sz)) args s 0 0 (AM dA ad σ0 sz)) (F0 m 172 ls [.int u0]) := by
  intro v1 v3 u0 σ H locs ls hw hM hl
  have hx := C.1
  have hb := C.2.1
  have hown := C.2.2.2.2.2.1
  have hts := C.2.2.2.2.2.2.1
  unfold wp_narrow_172 at hw
  refine lv_istore_n (lv' := [(2, .int u0), (0, .ref (ad 0)), (1, .int v1), (3, .int v3)]) hx hb dX10_narrow_172 rfl hl (by decide) rfl (fun ls hl => ?_)
  refine lv_goto (tgt := 4) hx hb dX10_narrow_173 (by decide) ?_
  exact hK4 v1 u0 v3 σ _ _ ls hw hM (lv_sub hl [1, 2, 0, 3] rfl)
set_option maxHeartbeats 4000000 in
theorem wk_narrow_162 {p : Program} {l : Launch} {e : Env} {s : State} {m : MethodId} {args : Array Value} {below : List Frame} {meth : Method} {c : Code} {D : va_G} {dA : Nat → ClassId} {ad : Nat → Nat} {σ0 : St} {sz : Nat} (C : CxM p s m meth c args (AM dA ad σ0 sz) RX10 cX10_narrow 9 none) {Qr : St → Prop} {K4 : Int32 → Int32 → Int32 → St → Prop} (hK4 : ∀ (v1 : Int32) (v2 : Int32) (v3 : Int32) (σ : St) (H : Heap) (locs : List Loc) (ls : Array Slot), K4 v1 v2 v3 σ → wM D dA ad (AM dA ad σ0 sz) s σ H locs → lv_has ls 9 [(0, .ref (ad 0)), (1, .int v1), (2, .int v2), (3, .int v3)] → W p l e rm_narrow s m args below meth c H locs 0 0 (MQ below (va_Qv Qr (BM D dA ad (AM dA ad σ0 sz)) (AM dA ad σ0 sz)) args s 0 0 (AM dA ad σ0 sz)) (F0 m 4 ls [])) : ∀ (v1 : Int32) (v3 : Int32) (σ : St) (H : Heap) (locs : List Loc) (ls : Array Slot), wp_narrow_162 Qr K4 v1 v3 σ → wM D dA ad (AM dA ad σ0 sz) s σ H locs → lv_has ls 9 [(0, .ref (ad 0)), (1, .int v1), (3, .int v3)] → W p l e rm_narrow s m args below meth c H locs 0 0 (MQ below (va_Qv Qr (BM D dA ad (AM dA ad σ0 sz)) (AM dA ad σ0 sz)) args s 0 0 (AM dA ad σ0 sz)) (F0 m 162 ls []) := by
  intro v1 v3 σ H locs ls hw hM hl
  have hx := C.1
  have hb := C.2.1
  have hown := C.2.2.2.2.2.1
  have hts := C.2.2.2.2.2.2.1
  unfold wp_narrow_162 at hw
  refine lv_iload_n hx hb dX10_narrow_162 rfl (lv_at hl 2 rfl) ?_
  refine lv_iconst (v := 1) hx hb dX10_narrow_163 (by decide) ?_
  refine lv_icmp_le (tgt := 171) hx hb dX10_narrow_164 (by decide) (fun hc => ?_) (fun hc => ?_)
  · have hw := hw.1 hc
    refine lv_iconst (v := 0) hx hb dX10_narrow_171 (by decide) ?_
    exact wk_narrow_172 C hK4 v1 v3 0 σ _ _ ls hw hM (lv_sub hl [0, 1, 2] rfl)
  · have hw := hw.2 hc
    refine lv_iconst (v := 1) hx hb dX10_narrow_167 (by decide) ?_
    refine lv_goto (tgt := 172) hx hb dX10_narrow_168 (by decide) ?_
    exact wk_narrow_172 C hK4 v1 v3 1 σ _ _ ls hw hM (lv_sub hl [0, 1, 2] rfl)
set_option maxHeartbeats 4000000 in
theorem wk_narrow_123 {p : Program} {l : Launch} {e : Env} {s : State} {m : MethodId} {args : Array Value} {below : List Frame} {meth : Method} {c : Code} {D : va_G} {dA : Nat → ClassId} {ad : Nat → Nat} {σ0 : St} {sz : Nat} (C : CxM p s m meth c args (AM dA ad σ0 sz) RX10 cX10_narrow 9 none) {Qr : St → Prop} {K4 : Int32 → Int32 → Int32 → St → Prop} (hK4 : ∀ (v1 : Int32) (v2 : Int32) (v3 : Int32) (σ : St) (H : Heap) (locs : List Loc) (ls : Array Slot), K4 v1 v2 v3 σ → wM D dA ad (AM dA ad σ0 sz) s σ H locs → lv_has ls 9 [(0, .ref (ad 0)), (1, .int v1), (2, .int v2), (3, .int v3)] → W p l e rm_narrow s m args below meth c H locs 0 0 (MQ below (va_Qv Qr (BM D dA ad (AM dA ad σ0 sz)) (AM dA ad σ0 sz)) args s 0 0 (AM dA ad σ0 sz)) (F0 m 4 ls [])) : ∀ (n : Nat) (v1 : Int32) (v3 : Int32) (v5 : Int64) (v7 : Int32) (σ : St) (H : Heap) (locs : List Loc) (ls : Array Slot), wp_narrow_123 Qr K4 n v1 v3 v5 v7 σ → wM D dA ad (AM dA ad σ0 sz) s σ H locs → lv_has ls 9 [(0, .ref (ad 0)), (1, .int v1), (3, .int v3), (5, .long v5), (7, .int v7)] → W p l e rm_narrow s m args below meth c H locs 0 0 (MQ below (va_Qv Qr (BM D dA ad (AM dA ad σ0 sz)) (AM dA ad σ0 sz)) args s 0 0 (AM dA ad σ0 sz)) (F0 m 123 ls []) := by
  intro n
  induction n with
  | zero => intro v1 v3 v5 v7 σ H locs ls hw; exact hw.elim
  | succ n123 ih =>
    intro v1 v3 v5 v7 σ H locs ls hw hM hl
    have hx := C.1
    have hb := C.2.1
    have hown := C.2.2.2.2.2.1
    have hts := C.2.2.2.2.2.2.1
    unfold wp_narrow_123 at hw
    refine lv_iload hx hb dX10_narrow_123 (lv_at hl 4 rfl) ?_
    refine lv_aload_n hx hb dX10_narrow_125 rfl (lv_at hl 0 rfl) ?_
    refine rM_get C hM 31 (by decide) (fM_31 ad σ) q1421 rfl dX10_narrow_126 ?_
    refine lv_icmp_ge (tgt := 162) hx hb dX10_narrow_129 (by decide) (fun hc => ?_) (fun hc => ?_)
    · have hw := hw.1 hc
      exact wk_narrow_162 C hK4 v1 v3 σ _ _ ls hw hM (lv_sub hl [0, 1, 2] rfl)
    · have hw := hw.2 hc
      refine lv_aload_n hx hb dX10_narrow_132 rfl (lv_at hl 0 rfl) ?_
      refine lv_iload hx hb dX10_narrow_133 (lv_at hl 4 rfl) ?_
      refine lv_iconst (v := 0) hx hb dX10_narrow_135 (by decide) ?_
      refine lv_aload_n hx hb dX10_narrow_136 rfl (lv_at hl 0 rfl) ?_
      refine lv_iload_n hx hb dX10_narrow_137 rfl (lv_at hl 1 rfl) ?_
      refine lv_aload_n hx hb dX10_narrow_138 rfl (lv_at hl 0 rfl) ?_
      refine rM_get C hM 30 (by decide) (fM_30 ad σ) q1420 rfl dX10_narrow_139 ?_
      refine lv_bipush (v := 6) hx hb dX10_narrow_142 (by decide) ?_
      refine lv_iload hx hb dX10_narrow_144 (lv_at hl 4 rfl) ?_
      refine lv_imul hx hb dX10_narrow_146 ?_
      refine rM_callVl (n := 3) (As := [.int v1, .ref (ad 30), .int (6 * v7)]) C hM hl.1 (mt_dot_30 l D dA ad _ σ v1 (6 * v7) _ hw) (lw_V q1575 q1577 qs56 q93 q1578) rfl rfl (by decide +kernel) ⟨Nat.le_of_ble_eq_true rfl, Nat.le_of_ble_eq_true rfl⟩ rfl (Nat.le_of_ble_eq_true rfl) ⟨Nat.zero_le _, Nat.zero_le _⟩ rfl dX10_narrow_147 (fun y2 σ1 H locs hw hM => ?_)
      refine lv_lload hx hb dX10_narrow_150 (lv_at hl 3 rfl) ?_
      refine lv_ldiv hx hb dX10_narrow_152 hw.1 ?_
      have hw := hw.2
      refine rM_callVv (n := 3) (As := [.int v7, .int 0, .long (y2 / v5)]) C hM hl.1 (mt_lose l D dA ad _ σ1 v7 0 (y2 / v5) _ hw) (lw_V q1586 q1588 qs58 q93 q1589) rfl rfl (by decide +kernel) ⟨Nat.le_of_ble_eq_true rfl, Nat.le_of_ble_eq_true rfl⟩ rfl (Nat.le_of_ble_eq_true rfl) ⟨Nat.zero_le _, Nat.zero_le _⟩ rfl dX10_narrow_153 (fun σ3 H locs hw hM => ?_)
      obtain ⟨x4, ex4⟩ : ∃ y : Int32, y = v7 + 1 := ⟨_, rfl⟩
      have hw := hw x4 ex4
      refine lv_iinc (v := x4) (lv' := [(7, .int x4), (0, .ref (ad 0)), (1, .int v1), (3, .int v3), (5, .long v5)]) hx hb dX10_narrow_156 hl (k := 4) rfl (by rw [ex4]; rfl) (by decide) rfl (fun ls hl => ?_)
      refine lv_goto (tgt := 123) hx hb dX10_narrow_159 (by decide) ?_
      exact ih v1 v3 v5 x4 σ3 _ _ ls hw hM (lv_sub hl [1, 2, 3, 4, 0] rfl)
set_option maxHeartbeats 4000000 in
theorem wk_narrow_91 {p : Program} {l : Launch} {e : Env} {s : State} {m : MethodId} {args : Array Value} {below : List Frame} {meth : Method} {c : Code} {D : va_G} {dA : Nat → ClassId} {ad : Nat → Nat} {σ0 : St} {sz : Nat} (C : CxM p s m meth c args (AM dA ad σ0 sz) RX10 cX10_narrow 9 none) {Qr : St → Prop} {K4 : Int32 → Int32 → Int32 → St → Prop} (hK4 : ∀ (v1 : Int32) (v2 : Int32) (v3 : Int32) (σ : St) (H : Heap) (locs : List Loc) (ls : Array Slot), K4 v1 v2 v3 σ → wM D dA ad (AM dA ad σ0 sz) s σ H locs → lv_has ls 9 [(0, .ref (ad 0)), (1, .int v1), (2, .int v2), (3, .int v3)] → W p l e rm_narrow s m args below meth c H locs 0 0 (MQ below (va_Qv Qr (BM D dA ad (AM dA ad σ0 sz)) (AM dA ad σ0 sz)) args s 0 0 (AM dA ad σ0 sz)) (F0 m 4 ls [])) {K16 : Int32 → Int32 → Int32 → Int32 → St → Prop} (hK16 : ∀ (v1 : Int32) (v3 : Int32) (v4 : Int32) (v5 : Int32) (σ : St) (H : Heap) (locs : List Loc) (ls : Array Slot), K16 v1 v3 v4 v5 σ → wM D dA ad (AM dA ad σ0 sz) s σ H locs → lv_has ls 9 [(0, .ref (ad 0)), (1, .int v1), (3, .int v3), (4, .int v4), (5, .int v5)] → W p l e rm_narrow s m args below meth c H locs 0 0 (MQ below (va_Qv Qr (BM D dA ad (AM dA ad σ0 sz)) (AM dA ad σ0 sz)) args s 0 0 (AM dA ad σ0 sz)) (F0 m 16 ls [])) : ∀ (v1 : Int32) (v3 : Int32) (v4 : Int32) (v5 : Int32) (σ : St) (H : Heap) (locs : List Loc) (ls : Array Slot), wp_narrow_91 Qr K4 K16 v1 v3 v4 v5 σ → wM D dA ad (AM dA ad σ0 sz) s σ H locs → lv_has ls 9 [(0, .ref (ad 0)), (1, .int v1), (3, .int v3), (4, .int v4), (5, .int v5)] → W p l e rm_narrow s m args below meth c H locs 0 0 (MQ below (va_Qv Qr (BM D dA ad (AM dA ad σ0 sz)) (AM dA ad σ0 sz)) args s 0 0 (AM dA ad σ0 sz)) (F0 m 91 ls []) := by
  intro v1 v3 v4 v5 σ H locs ls hw hM hl
  have hx := C.1
  have hb := C.2.1
  have hown := C.2.2.2.2.2.1
  have hts := C.2.2.2.2.2.2.1
  unfold wp_narrow_91 at hw
  obtain ⟨x1, ex1⟩ : ∃ y : Int32, y = v5 + 1 := ⟨_, rfl⟩
  have hw := hw x1 ex1
  refine lv_iinc (v := x1) (lv' := [(5, .int x1), (0, .ref (ad 0)), (1, .int v1), (3, .int v3), (4, .int v4)]) hx hb dX10_narrow_91 hl (k := 4) rfl (by rw [ex1]; rfl) (by decide) rfl (fun ls hl => ?_)
  refine lv_goto (tgt := 16) hx hb dX10_narrow_94 (by decide) ?_
  exact hK16 v1 v3 v4 x1 σ _ _ ls hw hM (lv_sub hl [1, 2, 3, 4, 0] rfl)
set_option maxHeartbeats 4000000 in
theorem wk_narrow_89 {p : Program} {l : Launch} {e : Env} {s : State} {m : MethodId} {args : Array Value} {below : List Frame} {meth : Method} {c : Code} {D : va_G} {dA : Nat → ClassId} {ad : Nat → Nat} {σ0 : St} {sz : Nat} (C : CxM p s m meth c args (AM dA ad σ0 sz) RX10 cX10_narrow 9 none) {Qr : St → Prop} {K4 : Int32 → Int32 → Int32 → St → Prop} (hK4 : ∀ (v1 : Int32) (v2 : Int32) (v3 : Int32) (σ : St) (H : Heap) (locs : List Loc) (ls : Array Slot), K4 v1 v2 v3 σ → wM D dA ad (AM dA ad σ0 sz) s σ H locs → lv_has ls 9 [(0, .ref (ad 0)), (1, .int v1), (2, .int v2), (3, .int v3)] → W p l e rm_narrow s m args below meth c H locs 0 0 (MQ below (va_Qv Qr (BM D dA ad (AM dA ad σ0 sz)) (AM dA ad σ0 sz)) args s 0 0 (AM dA ad σ0 sz)) (F0 m 4 ls [])) {K16 : Int32 → Int32 → Int32 → Int32 → St → Prop} (hK16 : ∀ (v1 : Int32) (v3 : Int32) (v4 : Int32) (v5 : Int32) (σ : St) (H : Heap) (locs : List Loc) (ls : Array Slot), K16 v1 v3 v4 v5 σ → wM D dA ad (AM dA ad σ0 sz) s σ H locs → lv_has ls 9 [(0, .ref (ad 0)), (1, .int v1), (3, .int v3), (4, .int v4), (5, .int v5)] → W p l e rm_narrow s m args below meth c H locs 0 0 (MQ below (va_Qv Qr (BM D dA ad (AM dA ad σ0 sz)) (AM dA ad σ0 sz)) args s 0 0 (AM dA ad σ0 sz)) (F0 m 16 ls [])) : ∀ (v1 : Int32) (v3 : Int32) (v5 : Int32) (u0 : Int32) (σ : St) (H : Heap) (locs : List Loc) (ls : Array Slot), wp_narrow_89 Qr K4 K16 v1 v3 v5 u0 σ → wM D dA ad (AM dA ad σ0 sz) s σ H locs → lv_has ls 9 [(0, .ref (ad 0)), (1, .int v1), (3, .int v3), (5, .int v5)] → W p l e rm_narrow s m args below meth c H locs 0 0 (MQ below (va_Qv Qr (BM D dA ad (AM dA ad σ0 sz)) (AM dA ad σ0 sz)) args s 0 0 (AM dA ad σ0 sz)) (F0 m 89 ls [.int u0]) := by
  intro v1 v3 v5 u0 σ H locs ls hw hM hl
  have hx := C.1
  have hb := C.2.1
  have hown := C.2.2.2.2.2.1
  have hts := C.2.2.2.2.2.2.1
  unfold wp_narrow_89 at hw
  refine lv_istore (lv' := [(4, .int u0), (0, .ref (ad 0)), (1, .int v1), (3, .int v3), (5, .int v5)]) hx hb dX10_narrow_89 hl (by decide) rfl (fun ls hl => ?_)
  exact wk_narrow_91 C hK4 hK16 v1 v3 u0 v5 σ _ _ ls hw hM (lv_sub hl [1, 2, 3, 0, 4] rfl)
set_option maxHeartbeats 4000000 in
theorem wk_narrow_82 {p : Program} {l : Launch} {e : Env} {s : State} {m : MethodId} {args : Array Value} {below : List Frame} {meth : Method} {c : Code} {D : va_G} {dA : Nat → ClassId} {ad : Nat → Nat} {σ0 : St} {sz : Nat} (C : CxM p s m meth c args (AM dA ad σ0 sz) RX10 cX10_narrow 9 none) {Qr : St → Prop} {K4 : Int32 → Int32 → Int32 → St → Prop} (hK4 : ∀ (v1 : Int32) (v2 : Int32) (v3 : Int32) (σ : St) (H : Heap) (locs : List Loc) (ls : Array Slot), K4 v1 v2 v3 σ → wM D dA ad (AM dA ad σ0 sz) s σ H locs → lv_has ls 9 [(0, .ref (ad 0)), (1, .int v1), (2, .int v2), (3, .int v3)] → W p l e rm_narrow s m args below meth c H locs 0 0 (MQ below (va_Qv Qr (BM D dA ad (AM dA ad σ0 sz)) (AM dA ad σ0 sz)) args s 0 0 (AM dA ad σ0 sz)) (F0 m 4 ls [])) {K16 : Int32 → Int32 → Int32 → Int32 → St → Prop} (hK16 : ∀ (v1 : Int32) (v3 : Int32) (v4 : Int32) (v5 : Int32) (σ : St) (H : Heap) (locs : List Loc) (ls : Array Slot), K16 v1 v3 v4 v5 σ → wM D dA ad (AM dA ad σ0 sz) s σ H locs → lv_has ls 9 [(0, .ref (ad 0)), (1, .int v1), (3, .int v3), (4, .int v4), (5, .int v5)] → W p l e rm_narrow s m args below meth c H locs 0 0 (MQ below (va_Qv Qr (BM D dA ad (AM dA ad σ0 sz)) (AM dA ad σ0 sz)) args s 0 0 (AM dA ad σ0 sz)) (F0 m 16 ls [])) : ∀ (v1 : Int32) (v3 : Int32) (v5 : Int32) (σ : St) (H : Heap) (locs : List Loc) (ls : Array Slot), wp_narrow_82 Qr K4 K16 v1 v3 v5 σ → wM D dA ad (AM dA ad σ0 sz) s σ H locs → lv_has ls 9 [(0, .ref (ad 0)), (1, .int v1), (3, .int v3), (5, .int v5)] → W p l e rm_narrow s m args below meth c H locs 0 0 (MQ below (va_Qv Qr (BM D dA ad (AM dA ad σ0 sz)) (AM dA ad σ0 sz)) args s 0 0 (AM dA ad σ0 sz)) (F0 m 82 ls []) := by
  intro v1 v3 v5 σ H locs ls hw hM hl
  have hx := C.1
  have hb := C.2.1
  have hown := C.2.2.2.2.2.1
  have hts := C.2.2.2.2.2.2.1
  unfold wp_narrow_82 at hw
  refine lv_iload hx hb dX10_narrow_82 (lv_at hl 3 rfl) ?_
  refine lv_goto (tgt := 89) hx hb dX10_narrow_84 (by decide) ?_
  exact wk_narrow_89 C hK4 hK16 v1 v3 v5 v5 σ _ _ ls hw hM (lv_sub hl [0, 1, 2, 3] rfl)
set_option maxHeartbeats 4000000 in
theorem wk_narrow_16 {p : Program} {l : Launch} {e : Env} {s : State} {m : MethodId} {args : Array Value} {below : List Frame} {meth : Method} {c : Code} {D : va_G} {dA : Nat → ClassId} {ad : Nat → Nat} {σ0 : St} {sz : Nat} (C : CxM p s m meth c args (AM dA ad σ0 sz) RX10 cX10_narrow 9 none) {Qr : St → Prop} {K4 : Int32 → Int32 → Int32 → St → Prop} (hK4 : ∀ (v1 : Int32) (v2 : Int32) (v3 : Int32) (σ : St) (H : Heap) (locs : List Loc) (ls : Array Slot), K4 v1 v2 v3 σ → wM D dA ad (AM dA ad σ0 sz) s σ H locs → lv_has ls 9 [(0, .ref (ad 0)), (1, .int v1), (2, .int v2), (3, .int v3)] → W p l e rm_narrow s m args below meth c H locs 0 0 (MQ below (va_Qv Qr (BM D dA ad (AM dA ad σ0 sz)) (AM dA ad σ0 sz)) args s 0 0 (AM dA ad σ0 sz)) (F0 m 4 ls [])) : ∀ (n : Nat) (v1 : Int32) (v3 : Int32) (v4 : Int32) (v5 : Int32) (σ : St) (H : Heap) (locs : List Loc) (ls : Array Slot), wp_narrow_16 Qr K4 n v1 v3 v4 v5 σ → wM D dA ad (AM dA ad σ0 sz) s σ H locs → lv_has ls 9 [(0, .ref (ad 0)), (1, .int v1), (3, .int v3), (4, .int v4), (5, .int v5)] → W p l e rm_narrow s m args below meth c H locs 0 0 (MQ below (va_Qv Qr (BM D dA ad (AM dA ad σ0 sz)) (AM dA ad σ0 sz)) args s 0 0 (AM dA ad σ0 sz)) (F0 m 16 ls []) := by
  intro n
  induction n with
  | zero => intro v1 v3 v4 v5 σ H locs ls hw; exact hw.elim
  | succ n16 ih =>
    intro v1 v3 v4 v5 σ H locs ls hw hM hl
    have hx := C.1
    have hb := C.2.1
    have hown := C.2.2.2.2.2.1
    have hts := C.2.2.2.2.2.2.1
    unfold wp_narrow_16 at hw
    refine lv_iload hx hb dX10_narrow_16 (lv_at hl 4 rfl) ?_
    refine lv_aload_n hx hb dX10_narrow_18 rfl (lv_at hl 0 rfl) ?_
    refine rM_get C hM 31 (by decide) (fM_31 ad σ) q1421 rfl dX10_narrow_19 ?_
    refine lv_icmp_ge (tgt := 97) hx hb dX10_narrow_22 (by decide) (fun hc => ?_) (fun hc => ?_)
    · have hw := hw.1 hc
      refine lv_iload_n hx hb dX10_narrow_97 rfl (lv_at hl 2 rfl) ?_
      refine lv_if_le (tgt := 162) hx hb dX10_narrow_98 (by decide) (fun hc => ?_) (fun hc => ?_)
      · have hw := hw.1 hc
        exact wk_narrow_162 C hK4 v1 v3 σ _ _ ls hw hM (lv_sub hl [0, 1, 2] rfl)
      · have hw := hw.2 hc
        refine lv_aload_n hx hb dX10_narrow_101 rfl (lv_at hl 0 rfl) ?_
        refine lv_iconst (v := 0) hx hb dX10_narrow_102 (by decide) ?_
        refine lv_iload hx hb dX10_narrow_103 (lv_at hl 3 rfl) ?_
        refine rM_callVv (n := 2) (As := [.int 0, .int v4]) C hM hl.1 (mt_exchange l D dA ad _ σ 0 v4 _ hw) (lw_V q1582 q1584 qs57 q93 q1585) rfl rfl (by decide +kernel) ⟨Nat.le_of_ble_eq_true rfl, Nat.le_of_ble_eq_true rfl⟩ rfl (Nat.le_of_ble_eq_true rfl) ⟨Nat.zero_le _, Nat.zero_le _⟩ rfl dX10_narrow_105 (fun σ1 H locs hw hM => ?_)
        refine lv_aload_n hx hb dX10_narrow_108 rfl (lv_at hl 0 rfl) ?_
        refine lv_iload_n hx hb dX10_narrow_109 rfl (lv_at hl 1 rfl) ?_
        refine lv_aload_n hx hb dX10_narrow_110 rfl (lv_at hl 0 rfl) ?_
        refine rM_get C hM 30 (by decide) (fM_30 ad σ1) q1420 rfl dX10_narrow_111 ?_
        refine lv_iconst (v := 0) hx hb dX10_narrow_114 (by decide) ?_
        refine rM_callVl (n := 3) (As := [.int v1, .ref (ad 30), .int 0]) C hM hl.1 (mt_dot_30 l D dA ad _ σ1 v1 0 _ hw) (lw_V q1575 q1577 qs56 q93 q1578) rfl rfl (by decide +kernel) ⟨Nat.le_of_ble_eq_true rfl, Nat.le_of_ble_eq_true rfl⟩ rfl (Nat.le_of_ble_eq_true rfl) ⟨Nat.zero_le _, Nat.zero_le _⟩ rfl dX10_narrow_115 (fun y3 σ2 H locs hw hM => ?_)
        refine lv_lstore (lv' := [(5, .long y3), (0, .ref (ad 0)), (1, .int v1), (3, .int v3), (4, .int v4)]) hx hb dX10_narrow_118 hl (by decide) rfl (fun ls hl => ?_)
        refine lv_iconst (v := 1) hx hb dX10_narrow_120 (by decide) ?_
        refine lv_istore (lv' := [(7, .int 1), (5, .long y3), (0, .ref (ad 0)), (1, .int v1), (3, .int v3), (4, .int v4)]) hx hb dX10_narrow_121 hl (by decide) rfl (fun ls hl => ?_)
        obtain ⟨n123, hw⟩ := hw
        exact wk_narrow_123 C hK4 n123 v1 v3 y3 1 σ2 _ _ ls hw hM (lv_sub hl [2, 3, 4, 1, 0] rfl)
    · have hw := hw.2 hc
      refine lv_aload_n hx hb dX10_narrow_25 rfl (lv_at hl 0 rfl) ?_
      refine lv_iload_n hx hb dX10_narrow_26 rfl (lv_at hl 1 rfl) ?_
      refine lv_aload_n hx hb dX10_narrow_27 rfl (lv_at hl 0 rfl) ?_
      refine rM_get C hM 30 (by decide) (fM_30 ad σ) q1420 rfl dX10_narrow_28 ?_
      refine lv_bipush (v := 6) hx hb dX10_narrow_31 (by decide) ?_
      refine lv_iload hx hb dX10_narrow_33 (lv_at hl 4 rfl) ?_
      refine lv_imul hx hb dX10_narrow_35 ?_
      refine rM_callVl (n := 3) (As := [.int v1, .ref (ad 30), .int (6 * v5)]) C hM hl.1 (mt_dot_30 l D dA ad _ σ v1 (6 * v5) _ hw) (lw_V q1575 q1577 qs56 q93 q1578) rfl rfl (by decide +kernel) ⟨Nat.le_of_ble_eq_true rfl, Nat.le_of_ble_eq_true rfl⟩ rfl (Nat.le_of_ble_eq_true rfl) ⟨Nat.zero_le _, Nat.zero_le _⟩ rfl dX10_narrow_36 (fun y5 σ4 H locs hw hM => ?_)
      refine rM_callSl (n := 1) (As := [.long y5]) C hM hl.1 (mt_size l D dA ad _ σ4 y5 _ hw) (lw_S q1579 q1580 q93 q1581) rfl rfl (by decide +kernel) ⟨Nat.le_of_ble_eq_true rfl, Nat.le_of_ble_eq_true rfl⟩ rfl (Nat.le_of_ble_eq_true rfl) ⟨Nat.zero_le _, Nat.zero_le _⟩ rfl dX10_narrow_39 (fun y7 σ6 H locs hw hM => ?_)
      refine lv_lstore (lv' := [(6, .long y7), (0, .ref (ad 0)), (1, .int v1), (3, .int v3), (4, .int v4), (5, .int v5)]) hx hb dX10_narrow_42 hl (by decide) rfl (fun ls hl => ?_)
      refine lv_lload hx hb dX10_narrow_44 (lv_at hl 0 rfl) ?_
      refine lv_lconst (v := 0) hx hb dX10_narrow_46 (by decide) ?_
      refine W.lcmp hx hb dX10_narrow_47 ?_
      refine lv_if_eq (tgt := 91) hx hb dX10_narrow_48 (by decide) (fun hc => ?_) (fun hc => ?_)
      · have hw := hw.1 hc
        exact wk_narrow_91 C hK4 ih v1 v3 v4 v5 σ6 _ _ ls hw hM (lv_sub hl [1, 2, 3, 4, 5] rfl)
      · have hw := hw.2 hc
        obtain ⟨x8, ex8⟩ : ∃ y : Int32, y = v3 + 1 := ⟨_, rfl⟩
        have hw := hw x8 ex8
        refine lv_iinc (v := x8) (lv' := [(3, .int x8), (6, .long y7), (0, .ref (ad 0)), (1, .int v1), (4, .int v4), (5, .int v5)]) hx hb dX10_narrow_51 hl (k := 3) rfl (by rw [ex8]; rfl) (by decide) rfl (fun ls hl => ?_)
        refine lv_iload hx hb dX10_narrow_54 (lv_at hl 4 rfl) ?_
        refine lv_if_lt (tgt := 82) hx hb dX10_narrow_56 (by decide) (fun hc => ?_) (fun hc => ?_)
        · have hw := hw.1 hc
          exact wk_narrow_82 C hK4 ih v1 x8 v5 σ6 _ _ ls hw hM (lv_sub hl [2, 3, 0, 5] rfl)
        · have hw := hw.2 hc
          refine lv_lload hx hb dX10_narrow_59 (lv_at hl 1 rfl) ?_
          refine lv_aload_n hx hb dX10_narrow_61 rfl (lv_at hl 2 rfl) ?_
          refine lv_iload_n hx hb dX10_narrow_62 rfl (lv_at hl 3 rfl) ?_
          refine lv_aload_n hx hb dX10_narrow_63 rfl (lv_at hl 2 rfl) ?_
          refine rM_get C hM 30 (by decide) (fM_30 ad σ6) q1420 rfl dX10_narrow_64 ?_
          refine lv_bipush (v := 6) hx hb dX10_narrow_67 (by decide) ?_
          refine lv_iload hx hb dX10_narrow_69 (lv_at hl 4 rfl) ?_
          refine lv_imul hx hb dX10_narrow_71 ?_
          refine rM_callVl (n := 3) (As := [.int v1, .ref (ad 30), .int (6 * v4)]) C hM hl.1 (mt_dot_30 l D dA ad _ σ6 v1 (6 * v4) _ hw) (lw_V q1575 q1577 qs56 q93 q1578) rfl rfl (by decide +kernel) ⟨Nat.le_of_ble_eq_true rfl, Nat.le_of_ble_eq_true rfl⟩ rfl (Nat.le_of_ble_eq_true rfl) ⟨Nat.zero_le _, Nat.zero_le _⟩ rfl dX10_narrow_72 (fun y10 σ9 H locs hw hM => ?_)
          refine rM_callSl (n := 1) (As := [.long y10]) C hM hl.1 (mt_size l D dA ad _ σ9 y10 _ hw) (lw_S q1579 q1580 q93 q1581) rfl rfl (by decide +kernel) ⟨Nat.le_of_ble_eq_true rfl, Nat.le_of_ble_eq_true rfl⟩ rfl (Nat.le_of_ble_eq_true rfl) ⟨Nat.zero_le _, Nat.zero_le _⟩ rfl dX10_narrow_75 (fun y12 σ11 H locs hw hM => ?_)
          refine W.lcmp hx hb dX10_narrow_78 ?_
          refine lv_if_ge (tgt := 87) hx hb dX10_narrow_79 (by decide) (fun hc => ?_) (fun hc => ?_)
          · have hw := hw.1 hc
            refine lv_iload hx hb dX10_narrow_87 (lv_at hl 4 rfl) ?_
            exact wk_narrow_89 C hK4 ih v1 x8 v5 v4 σ11 _ _ ls hw hM (lv_sub hl [2, 3, 0, 5] rfl)
          · have hw := hw.2 hc
            exact wk_narrow_82 C hK4 ih v1 x8 v5 σ11 _ _ ls hw hM (lv_sub hl [2, 3, 0, 5] rfl)
set_option maxHeartbeats 4000000 in
theorem wk_narrow_4 {p : Program} {l : Launch} {e : Env} {s : State} {m : MethodId} {args : Array Value} {below : List Frame} {meth : Method} {c : Code} {D : va_G} {dA : Nat → ClassId} {ad : Nat → Nat} {σ0 : St} {sz : Nat} (C : CxM p s m meth c args (AM dA ad σ0 sz) RX10 cX10_narrow 9 none) {Qr : St → Prop} : ∀ (n : Nat) (v1 : Int32) (v2 : Int32) (v3 : Int32) (σ : St) (H : Heap) (locs : List Loc) (ls : Array Slot), wp_narrow_4 Qr n v1 v2 v3 σ → wM D dA ad (AM dA ad σ0 sz) s σ H locs → lv_has ls 9 [(0, .ref (ad 0)), (1, .int v1), (2, .int v2), (3, .int v3)] → W p l e rm_narrow s m args below meth c H locs 0 0 (MQ below (va_Qv Qr (BM D dA ad (AM dA ad σ0 sz)) (AM dA ad σ0 sz)) args s 0 0 (AM dA ad σ0 sz)) (F0 m 4 ls []) := by
  intro n
  induction n with
  | zero => intro v1 v2 v3 σ H locs ls hw; exact hw.elim
  | succ n4 ih =>
    intro v1 v2 v3 σ H locs ls hw hM hl
    have hx := C.1
    have hb := C.2.1
    have hown := C.2.2.2.2.2.1
    have hts := C.2.2.2.2.2.2.1
    unfold wp_narrow_4 at hw
    refine lv_iload_n hx hb dX10_narrow_4 rfl (lv_at hl 2 rfl) ?_
    refine lv_if_eq (tgt := 176) hx hb dX10_narrow_5 (by decide) (fun hc => ?_) (fun hc => ?_)
    · have hw := hw.1 hc
      refine lv_aload_n hx hb dX10_narrow_176 rfl (lv_at hl 0 rfl) ?_
      refine rM_get C hM 19 (by decide) (fM_19 ad σ) q1409 rfl dX10_narrow_177 ?_
      refine lv_bipush (v := 7) hx hb dX10_narrow_180 (by decide) ?_
      refine lv_iload_n hx hb dX10_narrow_182 rfl (lv_at hl 1 rfl) ?_
      refine lv_imul hx hb dX10_narrow_183 ?_
      refine lv_aload_n hx hb dX10_narrow_184 rfl (lv_at hl 0 rfl) ?_
      refine rM_get C hM 17 (by decide) (fM_17 ad σ) q1407 rfl dX10_narrow_185 ?_
      refine lv_iadd hx hb dX10_narrow_188 ?_
      refine rM_iald C hM 19 9 (wM_19 dA ad σ) hw.1 dX10_narrow_189 ?_
      have hw := hw.2
      refine lv_i2l hx hb dX10_narrow_190 rfl ?_
      refine lv_aload_n hx hb dX10_narrow_191 rfl (lv_at hl 0 rfl) ?_
      refine lv_iload_n hx hb dX10_narrow_192 rfl (lv_at hl 1 rfl) ?_
      refine lv_aload_n hx hb dX10_narrow_193 rfl (lv_at hl 0 rfl) ?_
      refine rM_get C hM 32 (by decide) (fM_32 ad σ) q1422 rfl dX10_narrow_194 ?_
      refine lv_iconst (v := 0) hx hb dX10_narrow_197 (by decide) ?_
      refine rM_callVl (n := 3) (As := [.int v1, .ref (ad 32), .int 0]) C hM hl.1 (mt_dot_32 l D dA ad _ σ v1 0 _ hw) (lw_V q1575 q1577 qs56 q93 q1578) rfl rfl (by decide +kernel) ⟨Nat.le_of_ble_eq_true rfl, Nat.le_of_ble_eq_true rfl⟩ rfl (Nat.le_of_ble_eq_true rfl) ⟨Nat.zero_le _, Nat.zero_le _⟩ rfl dX10_narrow_198 (fun y2 σ1 H locs hw hM => ?_)
      refine lv_lsub hx hb dX10_narrow_201 ?_
      refine lv_topl (fun y3 ey3 => ?_)
      have hw := hw y3 ey3
      refine lv_lstore (lv' := [(4, .long y3), (0, .ref (ad 0)), (1, .int v1), (2, .int v2), (3, .int v3)]) hx hb dX10_narrow_202 hl (by decide) rfl (fun ls hl => ?_)
      refine lv_iload_n hx hb dX10_narrow_204 rfl (lv_at hl 4 rfl) ?_
      refine lv_if_ne (tgt := 232) hx hb dX10_narrow_205 (by decide) (fun hc => ?_) (fun hc => ?_)
      · have hw := hw.1 hc
        refine lv_aload_n hx hb dX10_narrow_232 rfl (lv_at hl 1 rfl) ?_
        refine lv_iload_n hx hb dX10_narrow_233 rfl (lv_at hl 2 rfl) ?_
        refine lv_aload_n hx hb dX10_narrow_234 rfl (lv_at hl 1 rfl) ?_
        refine rM_get C hM 30 (by decide) (fM_30 ad σ1) q1420 rfl dX10_narrow_235 ?_
        refine lv_iconst (v := 0) hx hb dX10_narrow_238 (by decide) ?_
        refine rM_callVl (n := 3) (As := [.int v1, .ref (ad 30), .int 0]) C hM hl.1 (mt_dot_30 l D dA ad _ σ1 v1 0 _ hw) (lw_V q1575 q1577 qs56 q93 q1578) rfl rfl (by decide +kernel) ⟨Nat.le_of_ble_eq_true rfl, Nat.le_of_ble_eq_true rfl⟩ rfl (Nat.le_of_ble_eq_true rfl) ⟨Nat.zero_le _, Nat.zero_le _⟩ rfl dX10_narrow_239 (fun y5 σ4 H locs hw hM => ?_)
        refine lv_lstore (lv' := [(6, .long y5), (4, .long y3), (0, .ref (ad 0)), (1, .int v1), (2, .int v2), (3, .int v3)]) hx hb dX10_narrow_242 hl (by decide) rfl (fun ls hl => ?_)
        refine lv_aload_n hx hb dX10_narrow_244 rfl (lv_at hl 2 rfl) ?_
        refine lv_aload_n hx hb dX10_narrow_245 rfl (lv_at hl 2 rfl) ?_
        refine rM_get C hM 33 (by decide) (fM_33 ad σ4) q1423 rfl dX10_narrow_246 ?_
        refine lv_if_eq (tgt := 266) hx hb dX10_narrow_249 (by decide) (fun hc => ?_) (fun hc => ?_)
        · have hw := hw.1 hc
          exact wk_narrow_266 C  y3 y5 σ4 _ _ ls hw hM (lv_sub hl [2, 1, 0] rfl)
        · have hw := hw.2 hc
          refine lv_lload hx hb dX10_narrow_252 (lv_at hl 1 rfl) ?_
          refine lv_lload hx hb dX10_narrow_254 (lv_at hl 0 rfl) ?_
          refine lv_lrem hx hb dX10_narrow_256 hw.1 ?_
          have hw := hw.2
          refine lv_lconst (v := 0) hx hb dX10_narrow_257 (by decide) ?_
          refine W.lcmp hx hb dX10_narrow_258 ?_
          refine lv_if_ne (tgt := 266) hx hb dX10_narrow_259 (by decide) (fun hc => ?_) (fun hc => ?_)
          · have hw := hw.1 hc
            exact wk_narrow_266 C  y3 y5 σ4 _ _ ls hw hM (lv_sub hl [2, 1, 0] rfl)
          · have hw := hw.2 hc
            refine lv_iconst (v := 1) hx hb dX10_narrow_262 (by decide) ?_
            refine lv_goto (tgt := 267) hx hb dX10_narrow_263 (by decide) ?_
            exact wk_narrow_267 C  y3 y5 1 σ4 _ _ ls hw hM (lv_sub hl [2, 1, 0] rfl)
      · have hw := hw.2 hc
        refine lv_aload_n hx hb dX10_narrow_208 rfl (lv_at hl 1 rfl) ?_
        refine lv_aload_n hx hb dX10_narrow_209 rfl (lv_at hl 1 rfl) ?_
        refine rM_get C hM 33 (by decide) (fM_33 ad σ1) q1423 rfl dX10_narrow_210 ?_
        refine lv_if_eq (tgt := 227) hx hb dX10_narrow_213 (by decide) (fun hc => ?_) (fun hc => ?_)
        · have hw := hw.1 hc
          exact wk_narrow_227 C   σ1 _ _ ls hw hM (lv_sub hl [1] rfl)
        · have hw := hw.2 hc
          refine lv_lload hx hb dX10_narrow_216 (lv_at hl 0 rfl) ?_
          refine lv_lconst (v := 0) hx hb dX10_narrow_218 (by decide) ?_
          refine W.lcmp hx hb dX10_narrow_219 ?_
          refine lv_if_ne (tgt := 227) hx hb dX10_narrow_220 (by decide) (fun hc => ?_) (fun hc => ?_)
          · have hw := hw.1 hc
            exact wk_narrow_227 C   σ1 _ _ ls hw hM (lv_sub hl [1] rfl)
          · have hw := hw.2 hc
            refine lv_iconst (v := 1) hx hb dX10_narrow_223 (by decide) ?_
            refine lv_goto (tgt := 228) hx hb dX10_narrow_224 (by decide) ?_
            exact wk_narrow_228 C  1 σ1 _ _ ls hw hM (lv_sub hl [1] rfl)
    · have hw := hw.2 hc
      refine lv_iconst (v := (-1)) hx hb dX10_narrow_8 (by decide) ?_
      refine lv_istore (lv' := [(4, .int (-1)), (0, .ref (ad 0)), (1, .int v1), (2, .int v2), (3, .int v3)]) hx hb dX10_narrow_9 hl (by decide) rfl (fun ls hl => ?_)
      refine lv_iconst (v := 0) hx hb dX10_narrow_11 (by decide) ?_
      refine lv_istore_n (lv' := [(3, .int 0), (4, .int (-1)), (0, .ref (ad 0)), (1, .int v1), (2, .int v2)]) hx hb dX10_narrow_12 rfl hl (by decide) rfl (fun ls hl => ?_)
      refine lv_iconst (v := 0) hx hb dX10_narrow_13 (by decide) ?_
      refine lv_istore (lv' := [(5, .int 0), (3, .int 0), (4, .int (-1)), (0, .ref (ad 0)), (1, .int v1), (2, .int v2)]) hx hb dX10_narrow_14 hl (by decide) rfl (fun ls hl => ?_)
      obtain ⟨n16, hw⟩ := hw
      exact wk_narrow_16 C ih n16 v1 0 (-1) 0 σ _ _ ls hw hM (lv_sub hl [3, 4, 1, 2, 0] rfl)
set_option maxHeartbeats 4000000 in
/-- private void narrow(int); -/
theorem mt_narrow (l : Launch) (D : va_G) (dA : Nat → ClassId) (ad : Nat → Nat) (sz : Nat) (σ : St) (p1 : Int32) (Qr : St → Prop) (hw : wp_narrow p1 σ Qr) : Met l yX10_narrow (ws_ yX10_narrow cX10_narrow 9 none) rm_narrow (PcM D dA ad σ sz [.ref (ad 0), .int p1]) (va_Qv Qr (BM D dA ad (AM dA ad σ sz)) (AM dA ad σ sz)) 0 0 (AM dA ad σ sz) := by
  refine Met.ofW (cc := cX10_narrow) (maxL := 9) (ret := none) (by decide) rfl ?_
  intro p e s m args below meth c s₁ B hml hv
  obtain ⟨rfl, hsz, hP, hK, hD0⟩ := hv
  subst hsz
  have hts0 := atoms_spec (ws := ws_ yX10_narrow cX10_narrow 9 none) B.pre
  have C : CxM p s m meth c _ (AM dA ad σ s.heap.size) RX10 cX10_narrow 9 none := ⟨B.exec, B.bytes, B.returns, B.notSynchronized, hml, findClass_of_methodNamed B.named, fun w h => hts0 w (List.mem_cons_of_mem _ h), fun q h => Or.inr h⟩
  have hM : wM D dA ad (AM dA ad σ s.heap.size) s σ s.heap [] := ⟨hK, hP, hD0.self, va_S.rf⟩
  have hx := C.1
  have hb := C.2.1
  have hown := C.2.2.2.2.2.1
  have hts := C.2.2.2.2.2.2.1
  have hl := lv_entry ([.ref (ad 0), .int p1]) (n := 9) (Nat.le_of_ble_eq_true rfl)
  rw [lg_entry_eq]
  generalize (lg_sl ([.ref (ad 0), .int p1]) ++ List.replicate (9 - (lg_sl ([.ref (ad 0), .int p1])).length) Slot.unset).toArray = ls at hl ⊢
  have hl : lv_has ls 9 [(0, .ref (ad 0)), (1, .int p1)] := hl
  unfold wp_narrow at hw
  refine lv_iconst (v := 1) hx hb dX10_narrow_0 (by decide) ?_
  refine lv_istore_n (lv' := [(2, .int 1), (0, .ref (ad 0)), (1, .int p1)]) hx hb dX10_narrow_1 rfl hl (by decide) rfl (fun ls hl => ?_)
  refine lv_iconst (v := 0) hx hb dX10_narrow_2 (by decide) ?_
  refine lv_istore_n (lv' := [(3, .int 0), (2, .int 1), (0, .ref (ad 0)), (1, .int p1)]) hx hb dX10_narrow_3 rfl hl (by decide) rfl (fun ls hl => ?_)
  obtain ⟨n4, hw⟩ := hw
  exact wk_narrow_4 C  n4 p1 1 0 σ _ _ ls hw hM (lv_sub hl [2, 3, 1, 0] rfl)
abbrev rm_turn : Room := { frames := 0, cells := 0, slots := 0, locals := 0 }
set_option maxHeartbeats 4000000 in
theorem wk_turn_2 {p : Program} {l : Launch} {e : Env} {s : State} {m : MethodId} {args : Array Value} {below : List Frame} {meth : Method} {c : Code} {D : va_G} {dA : Nat → ClassId} {ad : Nat → Nat} {σ0 : St} {sz : Nat} (C : CxM p s m meth c args (AM dA ad σ0 sz) RX10 cX10_turn 3 none) {Qr : St → Prop} : ∀ (n : Nat) (v1 : Int32) (v2 : Int32) (σ : St) (H : Heap) (locs : List Loc) (ls : Array Slot), wp_turn_2 Qr n v1 v2 σ → wM D dA ad (AM dA ad σ0 sz) s σ H locs → lv_has ls 3 [(0, .ref (ad 0)), (1, .int v1), (2, .int v2)] → W p l e rm_turn s m args below meth c H locs 0 0 (MQ below (va_Qv Qr (BM D dA ad (AM dA ad σ0 sz)) (AM dA ad σ0 sz)) args s 0 0 (AM dA ad σ0 sz)) (F0 m 2 ls []) := by
  intro n
  induction n with
  | zero => intro v1 v2 σ H locs ls hw; exact hw.elim
  | succ n2 ih =>
    intro v1 v2 σ H locs ls hw hM hl
    have hx := C.1
    have hb := C.2.1
    have hown := C.2.2.2.2.2.1
    have hts := C.2.2.2.2.2.2.1
    unfold wp_turn_2 at hw
    refine lv_iload_n hx hb dX10_turn_2 rfl (lv_at hl 2 rfl) ?_
    refine lv_aload_n hx hb dX10_turn_3 rfl (lv_at hl 0 rfl) ?_
    refine rM_get C hM 17 (by decide) (fM_17 ad σ) q1407 rfl dX10_turn_4 ?_
    refine lv_icmp_ge (tgt := 39) hx hb dX10_turn_7 (by decide) (fun hc => ?_) (fun hc => ?_)
    · have hw := hw.1 hc
      exact rM_vret C hM hw dX10_turn_39
    · have hw := hw.2 hc
      refine lv_aload_n hx hb dX10_turn_10 rfl (lv_at hl 0 rfl) ?_
      refine rM_get C hM 30 (by decide) (fM_30 ad σ) q1420 rfl dX10_turn_11 ?_
      refine lv_bipush (v := 6) hx hb dX10_turn_14 (by decide) ?_
      refine lv_iload_n hx hb dX10_turn_16 rfl (lv_at hl 1 rfl) ?_
      refine lv_imul hx hb dX10_turn_17 ?_
      refine lv_iload_n hx hb dX10_turn_18 rfl (lv_at hl 2 rfl) ?_
      refine lv_iadd hx hb dX10_turn_19 ?_
      refine lv_aload_n hx hb dX10_turn_20 rfl (lv_at hl 0 rfl) ?_
      refine rM_get C hM 30 (by decide) (fM_30 ad σ) q1420 rfl dX10_turn_21 ?_
      refine lv_bipush (v := 6) hx hb dX10_turn_24 (by decide) ?_
      refine lv_iload_n hx hb dX10_turn_26 rfl (lv_at hl 1 rfl) ?_
      refine lv_imul hx hb dX10_turn_27 ?_
      refine lv_iload_n hx hb dX10_turn_28 rfl (lv_at hl 2 rfl) ?_
      refine lv_iadd hx hb dX10_turn_29 ?_
      refine rM_lald C hM 30 18 (wM_30 dA ad σ) hw.1 dX10_turn_30 ?_
      have hw := hw.2
      refine lv_lneg hx hb dX10_turn_31 ?_
      refine rM_last C hM 30 18 (wM_30 dA ad σ) (wM_s30 dA ad σ _ _) hw.1 dX10_turn_32 (fun σ1 H locs eσ hM => ?_)
      have hw := hw.2 σ1 eσ
      clear eσ
      obtain ⟨x2, ex2⟩ : ∃ y : Int32, y = v2 + 1 := ⟨_, rfl⟩
      have hw := hw x2 ex2
      refine lv_iinc (v := x2) (lv' := [(2, .int x2), (0, .ref (ad 0)), (1, .int v1)]) hx hb dX10_turn_33 hl (k := 2) rfl (by rw [ex2]; rfl) (by decide) rfl (fun ls hl => ?_)
      refine lv_goto (tgt := 2) hx hb dX10_turn_36 (by decide) ?_
      exact ih v1 x2 σ1 _ _ ls hw hM (lv_sub hl [1, 2, 0] rfl)
set_option maxHeartbeats 4000000 in
/-- private void turn(int); -/
theorem mt_turn (l : Launch) (D : va_G) (dA : Nat → ClassId) (ad : Nat → Nat) (sz : Nat) (σ : St) (p1 : Int32) (Qr : St → Prop) (hw : wp_turn p1 σ Qr) : Met l yX10_turn (ws_ yX10_turn cX10_turn 3 none) rm_turn (PcM D dA ad σ sz [.ref (ad 0), .int p1]) (va_Qv Qr (BM D dA ad (AM dA ad σ sz)) (AM dA ad σ sz)) 0 0 (AM dA ad σ sz) := by
  refine Met.ofW (cc := cX10_turn) (maxL := 3) (ret := none) (by decide) rfl ?_
  intro p e s m args below meth c s₁ B hml hv
  obtain ⟨rfl, hsz, hP, hK, hD0⟩ := hv
  subst hsz
  have hts0 := atoms_spec (ws := ws_ yX10_turn cX10_turn 3 none) B.pre
  have C : CxM p s m meth c _ (AM dA ad σ s.heap.size) RX10 cX10_turn 3 none := ⟨B.exec, B.bytes, B.returns, B.notSynchronized, hml, findClass_of_methodNamed B.named, fun w h => hts0 w (List.mem_cons_of_mem _ h), fun q h => Or.inr h⟩
  have hM : wM D dA ad (AM dA ad σ s.heap.size) s σ s.heap [] := ⟨hK, hP, hD0.self, va_S.rf⟩
  have hx := C.1
  have hb := C.2.1
  have hown := C.2.2.2.2.2.1
  have hts := C.2.2.2.2.2.2.1
  have hl := lv_entry ([.ref (ad 0), .int p1]) (n := 3) (Nat.le_of_ble_eq_true rfl)
  rw [lg_entry_eq]
  generalize (lg_sl ([.ref (ad 0), .int p1]) ++ List.replicate (3 - (lg_sl ([.ref (ad 0), .int p1])).length) Slot.unset).toArray = ls at hl ⊢
  have hl : lv_has ls 3 [(0, .ref (ad 0)), (1, .int p1)] := hl
  unfold wp_turn at hw
  refine lv_iconst (v := 0) hx hb dX10_turn_0 (by decide) ?_
  refine lv_istore_n (lv' := [(2, .int 0), (0, .ref (ad 0)), (1, .int p1)]) hx hb dX10_turn_1 rfl hl (by decide) rfl (fun ls hl => ?_)
  obtain ⟨n2, hw⟩ := hw
  exact wk_turn_2 C  n2 p1 0 σ _ _ ls hw hM (lv_sub hl [1, 2, 0] rfl)
abbrev rm_gather : Room := { frames := 1, cells := 0, slots := 0, locals := 25 }
set_option maxHeartbeats 4000000 in
theorem wk_gather_202 {p : Program} {l : Launch} {e : Env} {s : State} {m : MethodId} {args : Array Value} {below : List Frame} {meth : Method} {c : Code} {D : va_G} {dA : Nat → ClassId} {ad : Nat → Nat} {σ0 : St} {sz : Nat} (C : CxM p s m meth c args (AM dA ad σ0 sz) RX10 cX10_gather 11 (some .boolean)) {Qr : Int32 → St → Prop} {K2 : Int32 → Int32 → Int32 → St → Prop} (hK2 : ∀ (v1 : Int32) (v2 : Int32) (v3 : Int32) (σ : St) (H : Heap) (locs : List Loc) (ls : Array Slot), K2 v1 v2 v3 σ → wM D dA ad (AM dA ad σ0 sz) s σ H locs → lv_has ls 11 [(0, .ref (ad 0)), (1, .int v1), (2, .int v2), (3, .int v3)] → W p l e rm_gather s m args below meth c H locs 0 0 (MQ below (va_Qi Qr (BM D dA ad (AM dA ad σ0 sz)) (AM dA ad σ0 sz)) args s 0 0 (AM dA ad σ0 sz)) (F0 m 2 ls [])) : ∀ (v1 : Int32) (v2 : Int32) (u0 : Int32) (σ : St) (H : Heap) (locs : List Loc) (ls : Array Slot), wp_gather_202 Qr K2 v1 v2 u0 σ → wM D dA ad (AM dA ad σ0 sz) s σ H locs → lv_has ls 11 [(0, .ref (ad 0)), (1, .int v1), (2, .int v2)] → W p l e rm_gather s m args below meth c H locs 0 0 (MQ below (va_Qi Qr (BM D dA ad (AM dA ad σ0 sz)) (AM dA ad σ0 sz)) args s 0 0 (AM dA ad σ0 sz)) (F0 m 202 ls [.int u0]) := by
  intro v1 v2 u0 σ H locs ls hw hM hl
  have hx := C.1
  have hb := C.2.1
  have hown := C.2.2.2.2.2.1
  have hts := C.2.2.2.2.2.2.1
  unfold wp_gather_202 at hw
  refine lv_istore_n (lv' := [(3, .int u0), (0, .ref (ad 0)), (1, .int v1), (2, .int v2)]) hx hb dX10_gather_202 rfl hl (by decide) rfl (fun ls hl => ?_)
  refine lv_goto (tgt := 2) hx hb dX10_gather_203 (by decide) ?_
  exact hK2 v1 v2 u0 σ _ _ ls hw hM (lv_sub hl [1, 2, 3, 0] rfl)
set_option maxHeartbeats 4000000 in
theorem wk_gather_145 {p : Program} {l : Launch} {e : Env} {s : State} {m : MethodId} {args : Array Value} {below : List Frame} {meth : Method} {c : Code} {D : va_G} {dA : Nat → ClassId} {ad : Nat → Nat} {σ0 : St} {sz : Nat} (C : CxM p s m meth c args (AM dA ad σ0 sz) RX10 cX10_gather 11 (some .boolean)) {Qr : Int32 → St → Prop} {K2 : Int32 → Int32 → Int32 → St → Prop} (hK2 : ∀ (v1 : Int32) (v2 : Int32) (v3 : Int32) (σ : St) (H : Heap) (locs : List Loc) (ls : Array Slot), K2 v1 v2 v3 σ → wM D dA ad (AM dA ad σ0 sz) s σ H locs → lv_has ls 11 [(0, .ref (ad 0)), (1, .int v1), (2, .int v2), (3, .int v3)] → W p l e rm_gather s m args below meth c H locs 0 0 (MQ below (va_Qi Qr (BM D dA ad (AM dA ad σ0 sz)) (AM dA ad σ0 sz)) args s 0 0 (AM dA ad σ0 sz)) (F0 m 2 ls [])) : ∀ (n : Nat) (v1 : Int32) (v2 : Int32) (v5 : Int32) (v6 : Int32) (σ : St) (H : Heap) (locs : List Loc) (ls : Array Slot), wp_gather_145 Qr K2 n v1 v2 v5 v6 σ → wM D dA ad (AM dA ad σ0 sz) s σ H locs → lv_has ls 11 [(0, .ref (ad 0)), (1, .int v1), (2, .int v2), (5, .int v5), (6, .int v6)] → W p l e rm_gather s m args below meth c H locs 0 0 (MQ below (va_Qi Qr (BM D dA ad (AM dA ad σ0 sz)) (AM dA ad σ0 sz)) args s 0 0 (AM dA ad σ0 sz)) (F0 m 145 ls []) := by
  intro n
  induction n with
  | zero => intro v1 v2 v5 v6 σ H locs ls hw; exact hw.elim
  | succ n145 ih =>
    intro v1 v2 v5 v6 σ H locs ls hw hM hl
    have hx := C.1
    have hb := C.2.1
    have hown := C.2.2.2.2.2.1
    have hts := C.2.2.2.2.2.2.1
    unfold wp_gather_145 at hw
    refine lv_iload hx hb dX10_gather_145 (lv_at hl 4 rfl) ?_
    refine lv_aload_n hx hb dX10_gather_147 rfl (lv_at hl 0 rfl) ?_
    refine rM_get C hM 31 (by decide) (fM_31 ad σ) q1421 rfl dX10_gather_148 ?_
    refine lv_icmp_ge (tgt := 191) hx hb dX10_gather_151 (by decide) (fun hc => ?_) (fun hc => ?_)
    · have hw := hw.1 hc
      refine lv_iload hx hb dX10_gather_191 (lv_at hl 3 rfl) ?_
      refine lv_iconst (v := 1) hx hb dX10_gather_193 (by decide) ?_
      refine lv_icmp_le (tgt := 201) hx hb dX10_gather_194 (by decide) (fun hc => ?_) (fun hc => ?_)
      · have hw := hw.1 hc
        refine lv_iconst (v := 0) hx hb dX10_gather_201 (by decide) ?_
        exact wk_gather_202 C hK2 v1 v2 0 σ _ _ ls hw hM (lv_sub hl [0, 1, 2] rfl)
      · have hw := hw.2 hc
        refine lv_iconst (v := 1) hx hb dX10_gather_197 (by decide) ?_
        refine lv_goto (tgt := 202) hx hb dX10_gather_198 (by decide) ?_
        exact wk_gather_202 C hK2 v1 v2 1 σ _ _ ls hw hM (lv_sub hl [0, 1, 2] rfl)
    · have hw := hw.2 hc
      refine lv_aload_n hx hb dX10_gather_154 rfl (lv_at hl 0 rfl) ?_
      refine lv_iload hx hb dX10_gather_155 (lv_at hl 4 rfl) ?_
      refine lv_iload_n hx hb dX10_gather_157 rfl (lv_at hl 1 rfl) ?_
      refine lv_aload_n hx hb dX10_gather_158 rfl (lv_at hl 0 rfl) ?_
      refine rM_get C hM 30 (by decide) (fM_30 ad σ) q1420 rfl dX10_gather_159 ?_
      refine lv_bipush (v := 6) hx hb dX10_gather_162 (by decide) ?_
      refine lv_iload hx hb dX10_gather_164 (lv_at hl 4 rfl) ?_
      refine lv_imul hx hb dX10_gather_166 ?_
      refine lv_iload_n hx hb dX10_gather_167 rfl (lv_at hl 2 rfl) ?_
      refine lv_iadd hx hb dX10_gather_168 ?_
      refine rM_lald C hM 30 18 (wM_30 dA ad σ) hw.1 dX10_gather_169 ?_
      have hw := hw.2
      refine lv_aload_n hx hb dX10_gather_170 rfl (lv_at hl 0 rfl) ?_
      refine rM_get C hM 30 (by decide) (fM_30 ad σ) q1420 rfl dX10_gather_171 ?_
      refine lv_bipush (v := 6) hx hb dX10_gather_174 (by decide) ?_
      refine lv_iload_n hx hb dX10_gather_176 rfl (lv_at hl 1 rfl) ?_
      refine lv_imul hx hb dX10_gather_177 ?_
      refine lv_iload_n hx hb dX10_gather_178 rfl (lv_at hl 2 rfl) ?_
      refine lv_iadd hx hb dX10_gather_179 ?_
      refine rM_lald C hM 30 18 (wM_30 dA ad σ) hw.1 dX10_gather_180 ?_
      have hw := hw.2
      refine lv_ldiv hx hb dX10_gather_181 hw.1 ?_
      have hw := hw.2
      refine rM_callVv (n := 3) (As := [.int v6, .int v1, .long ((gL σ 30 ((6 * v6) + v2)) / (gL σ 30 ((6 * v1) + v2)))]) C hM hl.1 (mt_lose l D dA ad _ σ v6 v1 ((gL σ 30 ((6 * v6) + v2)) / (gL σ 30 ((6 * v1) + v2))) _ hw) (lw_V q1586 q1588 qs58 q93 q1589) rfl rfl (by decide +kernel) ⟨Nat.le_of_ble_eq_true rfl, Nat.le_of_ble_eq_true rfl⟩ rfl (Nat.le_of_ble_eq_true rfl) ⟨Nat.zero_le _, Nat.zero_le _⟩ rfl dX10_gather_182 (fun σ1 H locs hw hM => ?_)
      obtain ⟨x2, ex2⟩ : ∃ y : Int32, y = v6 + 1 := ⟨_, rfl⟩
      have hw := hw x2 ex2
      refine lv_iinc (v := x2) (lv' := [(6, .int x2), (0, .ref (ad 0)), (1, .int v1), (2, .int v2), (5, .int v5)]) hx hb dX10_gather_185 hl (k := 4) rfl (by rw [ex2]; rfl) (by decide) rfl (fun ls hl => ?_)
      refine lv_goto (tgt := 145) hx hb dX10_gather_188 (by decide) ?_
      exact ih v1 v2 v5 x2 σ1 _ _ ls hw hM (lv_sub hl [1, 2, 3, 4, 0] rfl)
set_option maxHeartbeats 4000000 in
theorem wk_gather_140 {p : Program} {l : Launch} {e : Env} {s : State} {m : MethodId} {args : Array Value} {below : List Frame} {meth : Method} {c : Code} {D : va_G} {dA : Nat → ClassId} {ad : Nat → Nat} {σ0 : St} {sz : Nat} (C : CxM p s m meth c args (AM dA ad σ0 sz) RX10 cX10_gather 11 (some .boolean)) {Qr : Int32 → St → Prop} {K2 : Int32 → Int32 → Int32 → St → Prop} (hK2 : ∀ (v1 : Int32) (v2 : Int32) (v3 : Int32) (σ : St) (H : Heap) (locs : List Loc) (ls : Array Slot), K2 v1 v2 v3 σ → wM D dA ad (AM dA ad σ0 sz) s σ H locs → lv_has ls 11 [(0, .ref (ad 0)), (1, .int v1), (2, .int v2), (3, .int v3)] → W p l e rm_gather s m args below meth c H locs 0 0 (MQ below (va_Qi Qr (BM D dA ad (AM dA ad σ0 sz)) (AM dA ad σ0 sz)) args s 0 0 (AM dA ad σ0 sz)) (F0 m 2 ls [])) : ∀ (v1 : Int32) (v2 : Int32) (v5 : Int32) (σ : St) (H : Heap) (locs : List Loc) (ls : Array Slot), wp_gather_140 Qr K2 v1 v2 v5 σ → wM D dA ad (AM dA ad σ0 sz) s σ H locs → lv_has ls 11 [(0, .ref (ad 0)), (1, .int v1), (2, .int v2), (5, .int v5)] → W p l e rm_gather s m args below meth c H locs 0 0 (MQ below (va_Qi Qr (BM D dA ad (AM dA ad σ0 sz)) (AM dA ad σ0 sz)) args s 0 0 (AM dA ad σ0 sz)) (F0 m 140 ls []) := by
  intro v1 v2 v5 σ H locs ls hw hM hl
  have hx := C.1
  have hb := C.2.1
  have hown := C.2.2.2.2.2.1
  have hts := C.2.2.2.2.2.2.1
  unfold wp_gather_140 at hw
  refine lv_iload_n hx hb dX10_gather_140 rfl (lv_at hl 1 rfl) ?_
  refine lv_iconst (v := 1) hx hb dX10_gather_141 (by decide) ?_
  refine lv_iadd hx hb dX10_gather_142 ?_
  refine lv_topi (fun x1 ex1 => ?_)
  have hw := hw x1 ex1
  refine lv_istore (lv' := [(6, .int x1), (0, .ref (ad 0)), (1, .int v1), (2, .int v2), (5, .int v5)]) hx hb dX10_gather_143 hl (by decide) rfl (fun ls hl => ?_)
  obtain ⟨n145, hw⟩ := hw
  exact wk_gather_145 C hK2 n145 v1 v2 v5 x1 σ _ _ ls hw hM (lv_sub hl [1, 2, 3, 4, 0] rfl)
set_option maxHeartbeats 4000000 in
theorem wk_gather_99 {p : Program} {l : Launch} {e : Env} {s : State} {m : MethodId} {args : Array Value} {below : List Frame} {meth : Method} {c : Code} {D : va_G} {dA : Nat → ClassId} {ad : Nat → Nat} {σ0 : St} {sz : Nat} (C : CxM p s m meth c args (AM dA ad σ0 sz) RX10 cX10_gather 11 (some .boolean)) {Qr : Int32 → St → Prop} {K2 : Int32 → Int32 → Int32 → St → Prop} (hK2 : ∀ (v1 : Int32) (v2 : Int32) (v3 : Int32) (σ : St) (H : Heap) (locs : List Loc) (ls : Array Slot), K2 v1 v2 v3 σ → wM D dA ad (AM dA ad σ0 sz) s σ H locs → lv_has ls 11 [(0, .ref (ad 0)), (1, .int v1), (2, .int v2), (3, .int v3)] → W p l e rm_gather s m args below meth c H locs 0 0 (MQ below (va_Qi Qr (BM D dA ad (AM dA ad σ0 sz)) (AM dA ad σ0 sz)) args s 0 0 (AM dA ad σ0 sz)) (F0 m 2 ls [])) {K15 : Int32 → Int32 → Int32 → Int32 → Int32 → St → Prop} (hK15 : ∀ (v1 : Int32) (v2 : Int32) (v4 : Int32) (v5 : Int32) (v6 : Int32) (σ : St) (H : Heap) (locs : List Loc) (ls : Array Slot), K15 v1 v2 v4 v5 v6 σ → wM D dA ad (AM dA ad σ0 sz) s σ H locs → lv_has ls 11 [(0, .ref (ad 0)), (1, .int v1), (2, .int v2), (4, .int v4), (5, .int v5), (6, .int v6)] → W p l e rm_gather s m args below meth c H locs 0 0 (MQ below (va_Qi Qr (BM D dA ad (AM dA ad σ0 sz)) (AM dA ad σ0 sz)) args s 0 0 (AM dA ad σ0 sz)) (F0 m 15 ls [])) : ∀ (v1 : Int32) (v2 : Int32) (v4 : Int32) (v5 : Int32) (v6 : Int32) (σ : St) (H : Heap) (locs : List Loc) (ls : Array Slot), wp_gather_99 Qr K2 K15 v1 v2 v4 v5 v6 σ → wM D dA ad (AM dA ad σ0 sz) s σ H locs → lv_has ls 11 [(0, .ref (ad 0)), (1, .int v1), (2, .int v2), (4, .int v4), (5, .int v5), (6, .int v6)] → W p l e rm_gather s m args below meth c H locs 0 0 (MQ below (va_Qi Qr (BM D dA ad (AM dA ad σ0 sz)) (AM dA ad σ0 sz)) args s 0 0 (AM dA ad σ0 sz)) (F0 m 99 ls []) := by
  intro v1 v2 v4 v5 v6 σ H locs ls hw hM hl
  have hx := C.1
  have hb := C.2.1
  have hown := C.2.2.2.2.2.1
  have hts := C.2.2.2.2.2.2.1
  unfold wp_gather_99 at hw
  obtain ⟨x1, ex1⟩ : ∃ y : Int32, y = v6 + 1 := ⟨_, rfl⟩
  have hw := hw x1 ex1
  refine lv_iinc (v := x1) (lv' := [(6, .int x1), (0, .ref (ad 0)), (1, .int v1), (2, .int v2), (4, .int v4), (5, .int v5)]) hx hb dX10_gather_99 hl (k := 5) rfl (by rw [ex1]; rfl) (by decide) rfl (fun ls hl => ?_)
  refine lv_goto (tgt := 15) hx hb dX10_gather_102 (by decide) ?_
  exact hK15 v1 v2 v4 v5 x1 σ _ _ ls hw hM (lv_sub hl [1, 2, 3, 4, 5, 0] rfl)
set_option maxHeartbeats 4000000 in
theorem wk_gather_97 {p : Program} {l : Launch} {e : Env} {s : State} {m : MethodId} {args : Array Value} {below : List Frame} {meth : Method} {c : Code} {D : va_G} {dA : Nat → ClassId} {ad : Nat → Nat} {σ0 : St} {sz : Nat} (C : CxM p s m meth c args (AM dA ad σ0 sz) RX10 cX10_gather 11 (some .boolean)) {Qr : Int32 → St → Prop} {K2 : Int32 → Int32 → Int32 → St → Prop} (hK2 : ∀ (v1 : Int32) (v2 : Int32) (v3 : Int32) (σ : St) (H : Heap) (locs : List Loc) (ls : Array Slot), K2 v1 v2 v3 σ → wM D dA ad (AM dA ad σ0 sz) s σ H locs → lv_has ls 11 [(0, .ref (ad 0)), (1, .int v1), (2, .int v2), (3, .int v3)] → W p l e rm_gather s m args below meth c H locs 0 0 (MQ below (va_Qi Qr (BM D dA ad (AM dA ad σ0 sz)) (AM dA ad σ0 sz)) args s 0 0 (AM dA ad σ0 sz)) (F0 m 2 ls [])) {K15 : Int32 → Int32 → Int32 → Int32 → Int32 → St → Prop} (hK15 : ∀ (v1 : Int32) (v2 : Int32) (v4 : Int32) (v5 : Int32) (v6 : Int32) (σ : St) (H : Heap) (locs : List Loc) (ls : Array Slot), K15 v1 v2 v4 v5 v6 σ → wM D dA ad (AM dA ad σ0 sz) s σ H locs → lv_has ls 11 [(0, .ref (ad 0)), (1, .int v1), (2, .int v2), (4, .int v4), (5, .int v5), (6, .int v6)] → W p l e rm_gather s m args below meth c H locs 0 0 (MQ below (va_Qi Qr (BM D dA ad (AM dA ad σ0 sz)) (AM dA ad σ0 sz)) args s 0 0 (AM dA ad σ0 sz)) (F0 m 15 ls [])) : ∀ (v1 : Int32) (v2 : Int32) (v5 : Int32) (v6 : Int32) (u0 : Int32) (σ : St) (H : Heap) (locs : List Loc) (ls : Array Slot), wp_gather_97 Qr K2 K15 v1 v2 v5 v6 u0 σ → wM D dA ad (AM dA ad σ0 sz) s σ H locs → lv_has ls 11 [(0, .ref (ad 0)), (1, .int v1), (2, .int v2), (5, .int v5), (6, .int v6)] → W p l e rm_gather s m args below meth c H locs 0 0 (MQ below (va_Qi Qr (BM D dA ad (AM dA ad σ0 sz)) (AM dA ad σ0 sz)) args s 0 0 (AM dA ad σ0 sz)) (F0 m 97 ls [.int u0]) := by
  intro v1 v2 v5 v6 u0 σ H locs ls hw hM hl
  have hx := C.1
  have hb := C.2.1
  have hown := C.2.2.2.2.2.1
  have hts := C.2.2.2.2.2.2.1
  unfold wp_gather_97 at hw
  refine lv_istore (lv' := [(4, .int u0), (0, .ref (ad 0)), (1, .int v1), (2, .int v2), (5, .int v5), (6, .int v6)]) hx hb dX10_gather_97 hl (by decide) rfl (fun ls hl => ?_)
  exact wk_gather_99 C hK2 hK15 v1 v2 u0 v5 v6 σ _ _ ls hw hM (lv_sub hl [1, 2, 3, 0, 4, 5] rfl)
set_option maxHeartbeats 4000000 in
theorem wk_gather_90 {p : Program} {l : Launch} {e : Env} {s : State} {m : MethodId} {args : Array Value} {below : List Frame} {meth : Method} {c : Code} {D : va_G} {dA : Nat → ClassId} {ad : Nat → Nat} {σ0 : St} {sz : Nat} (C : CxM p s m meth c args (AM dA ad σ0 sz) RX10 cX10_gather 11 (some .boolean)) {Qr : Int32 → St → Prop} {K2 : Int32 → Int32 → Int32 → St → Prop} (hK2 : ∀ (v1 : Int32) (v2 : Int32) (v3 : Int32) (σ : St) (H : Heap) (locs : List Loc) (ls : Array Slot), K2 v1 v2 v3 σ → wM D dA ad (AM dA ad σ0 sz) s σ H locs → lv_has ls 11 [(0, .ref (ad 0)), (1, .int v1), (2, .int v2), (3, .int v3)] → W p l e rm_gather s m args below meth c H locs 0 0 (MQ below (va_Qi Qr (BM D dA ad (AM dA ad σ0 sz)) (AM dA ad σ0 sz)) args s 0 0 (AM dA ad σ0 sz)) (F0 m 2 ls [])) {K15 : Int32 → Int32 → Int32 → Int32 → Int32 → St → Prop} (hK15 : ∀ (v1 : Int32) (v2 : Int32) (v4 : Int32) (v5 : Int32) (v6 : Int32) (σ : St) (H : Heap) (locs : List Loc) (ls : Array Slot), K15 v1 v2 v4 v5 v6 σ → wM D dA ad (AM dA ad σ0 sz) s σ H locs → lv_has ls 11 [(0, .ref (ad 0)), (1, .int v1), (2, .int v2), (4, .int v4), (5, .int v5), (6, .int v6)] → W p l e rm_gather s m args below meth c H locs 0 0 (MQ below (va_Qi Qr (BM D dA ad (AM dA ad σ0 sz)) (AM dA ad σ0 sz)) args s 0 0 (AM dA ad σ0 sz)) (F0 m 15 ls [])) : ∀ (v1 : Int32) (v2 : Int32) (v5 : Int32) (v6 : Int32) (σ : St) (H : Heap) (locs : List Loc) (ls : Array Slot), wp_gather_90 Qr K2 K15 v1 v2 v5 v6 σ → wM D dA ad (AM dA ad σ0 sz) s σ H locs → lv_has ls 11 [(0, .ref (ad 0)), (1, .int v1), (2, .int v2), (5, .int v5), (6, .int v6)] → W p l e rm_gather s m args below meth c H locs 0 0 (MQ below (va_Qi Qr (BM D dA ad (AM dA ad σ0 sz)) (AM dA ad σ0 sz)) args s 0 0 (AM dA ad σ0 sz)) (F0 m 90 ls []) := by
  intro v1 v2 v5 v6 σ H locs ls hw hM hl
  have hx := C.1
  have hb := C.2.1
  have hown := C.2.2.2.2.2.1
  have hts := C.2.2.2.2.2.2.1
  unfold wp_gather_90 at hw
  refine lv_iload hx hb dX10_gather_90 (lv_at hl 4 rfl) ?_
  refine lv_goto (tgt := 97) hx hb dX10_gather_92 (by decide) ?_
  exact wk_gather_97 C hK2 hK15 v1 v2 v5 v6 v6 σ _ _ ls hw hM (lv_sub hl [0, 1, 2, 3, 4] rfl)
set_option maxHeartbeats 4000000 in
theorem wk_gather_59 {p : Program} {l : Launch} {e : Env} {s : State} {m : MethodId} {args : Array Value} {below : List Frame} {meth : Method} {c : Code} {D : va_G} {dA : Nat → ClassId} {ad : Nat → Nat} {σ0 : St} {sz : Nat} (C : CxM p s m meth c args (AM dA ad σ0 sz) RX10 cX10_gather 11 (some .boolean)) {Qr : Int32 → St → Prop} {K2 : Int32 → Int32 → Int32 → St → Prop} (hK2 : ∀ (v1 : Int32) (v2 : Int32) (v3 : Int32) (σ : St) (H : Heap) (locs : List Loc) (ls : Array Slot), K2 v1 v2 v3 σ → wM D dA ad (AM dA ad σ0 sz) s σ H locs → lv_has ls 11 [(0, .ref (ad 0)), (1, .int v1), (2, .int v2), (3, .int v3)] → W p l e rm_gather s m args below meth c H locs 0 0 (MQ below (va_Qi Qr (BM D dA ad (AM dA ad σ0 sz)) (AM dA ad σ0 sz)) args s 0 0 (AM dA ad σ0 sz)) (F0 m 2 ls [])) {K15 : Int32 → Int32 → Int32 → Int32 → Int32 → St → Prop} (hK15 : ∀ (v1 : Int32) (v2 : Int32) (v4 : Int32) (v5 : Int32) (v6 : Int32) (σ : St) (H : Heap) (locs : List Loc) (ls : Array Slot), K15 v1 v2 v4 v5 v6 σ → wM D dA ad (AM dA ad σ0 sz) s σ H locs → lv_has ls 11 [(0, .ref (ad 0)), (1, .int v1), (2, .int v2), (4, .int v4), (5, .int v5), (6, .int v6)] → W p l e rm_gather s m args below meth c H locs 0 0 (MQ below (va_Qi Qr (BM D dA ad (AM dA ad σ0 sz)) (AM dA ad σ0 sz)) args s 0 0 (AM dA ad σ0 sz)) (F0 m 15 ls [])) : ∀ (v1 : Int32) (v2 : Int32) (v4 : Int32) (v5 : Int32) (v6 : Int32) (v7 : Int64) (u0 : Int64) (σ : St) (H : Heap) (locs : List Loc) (ls : Array Slot), wp_gather_59 Qr K2 K15 v1 v2 v4 v5 v6 v7 u0 σ → wM D dA ad (AM dA ad σ0 sz) s σ H locs → lv_has ls 11 [(0, .ref (ad 0)), (1, .int v1), (2, .int v2), (4, .int v4), (5, .int v5), (6, .int v6), (7, .long v7)] → W p l e rm_gather s m args below meth c H locs 0 0 (MQ below (va_Qi Qr (BM D dA ad (AM dA ad σ0 sz)) (AM dA ad σ0 sz)) args s 0 0 (AM dA ad σ0 sz)) (F0 m 59 ls [.long u0]) := by
  intro v1 v2 v4 v5 v6 v7 u0 σ H locs ls hw hM hl
  have hx := C.1
  have hb := C.2.1
  have hown := C.2.2.2.2.2.1
  have hts := C.2.2.2.2.2.2.1
  unfold wp_gather_59 at hw
  refine lv_lstore (lv' := [(9, .long u0), (0, .ref (ad 0)), (1, .int v1), (2, .int v2), (4, .int v4), (5, .int v5), (6, .int v6), (7, .long v7)]) hx hb dX10_gather_59 hl (by decide) rfl (fun ls hl => ?_)
  refine lv_lload hx hb dX10_gather_61 (lv_at hl 7 rfl) ?_
  refine lv_lconst (v := 0) hx hb dX10_gather_63 (by decide) ?_
  refine W.lcmp hx hb dX10_gather_64 ?_
  refine lv_if_eq (tgt := 99) hx hb dX10_gather_65 (by decide) (fun hc => ?_) (fun hc => ?_)
  · have hw := hw.1 hc
    exact wk_gather_99 C hK2 hK15 v1 v2 v4 v5 v6 σ _ _ ls hw hM (lv_sub hl [1, 2, 3, 4, 5, 6] rfl)
  · have hw := hw.2 hc
    obtain ⟨x1, ex1⟩ : ∃ y : Int32, y = v5 + 1 := ⟨_, rfl⟩
    have hw := hw x1 ex1
    refine lv_iinc (v := x1) (lv' := [(5, .int x1), (9, .long u0), (0, .ref (ad 0)), (1, .int v1), (2, .int v2), (4, .int v4), (6, .int v6), (7, .long v7)]) hx hb dX10_gather_68 hl (k := 5) rfl (by rw [ex1]; rfl) (by decide) rfl (fun ls hl => ?_)
    refine lv_iload hx hb dX10_gather_71 (lv_at hl 5 rfl) ?_
    refine lv_if_lt (tgt := 90) hx hb dX10_gather_73 (by decide) (fun hc => ?_) (fun hc => ?_)
    · have hw := hw.1 hc
      exact wk_gather_90 C hK2 hK15 v1 v2 x1 v6 σ _ _ ls hw hM (lv_sub hl [2, 3, 4, 0, 6] rfl)
    · have hw := hw.2 hc
      refine lv_lload hx hb dX10_gather_76 (lv_at hl 7 rfl) ?_
      refine rM_callSl (n := 1) (As := [.long v7]) C hM hl.1 (mt_size l D dA ad _ σ v7 _ hw) (lw_S q1579 q1580 q93 q1581) rfl rfl (by decide +kernel) ⟨Nat.le_of_ble_eq_true rfl, Nat.le_of_ble_eq_true rfl⟩ rfl (Nat.le_of_ble_eq_true rfl) ⟨Nat.zero_le _, Nat.zero_le _⟩ rfl dX10_gather_78 (fun y3 σ2 H locs hw hM => ?_)
      refine lv_lload hx hb dX10_gather_81 (lv_at hl 1 rfl) ?_
      refine rM_callSl (n := 1) (As := [.long u0]) C hM hl.1 (mt_size l D dA ad _ σ2 u0 _ hw) (lw_S q1579 q1580 q93 q1581) rfl rfl (by decide +kernel) ⟨Nat.le_of_ble_eq_true rfl, Nat.le_of_ble_eq_true rfl⟩ rfl (Nat.le_of_ble_eq_true rfl) ⟨Nat.zero_le _, Nat.zero_le _⟩ rfl dX10_gather_83 (fun y5 σ4 H locs hw hM => ?_)
      refine W.lcmp hx hb dX10_gather_86 ?_
      refine lv_if_ge (tgt := 95) hx hb dX10_gather_87 (by decide) (fun hc => ?_) (fun hc => ?_)
      · have hw := hw.1 hc
        refine lv_iload hx hb dX10_gather_95 (lv_at hl 5 rfl) ?_
        exact wk_gather_97 C hK2 hK15 v1 v2 x1 v6 v4 σ4 _ _ ls hw hM (lv_sub hl [2, 3, 4, 0, 6] rfl)
      · have hw := hw.2 hc
        exact wk_gather_90 C hK2 hK15 v1 v2 x1 v6 σ4 _ _ ls hw hM (lv_sub hl [2, 3, 4, 0, 6] rfl)
set_option maxHeartbeats 4000000 in
theorem wk_gather_15 {p : Program} {l : Launch} {e : Env} {s : State} {m : MethodId} {args : Array Value} {below : List Frame} {meth : Method} {c : Code} {D : va_G} {dA : Nat → ClassId} {ad : Nat → Nat} {σ0 : St} {sz : Nat} (C : CxM p s m meth c args (AM dA ad σ0 sz) RX10 cX10_gather 11 (some .boolean)) {Qr : Int32 → St → Prop} {K2 : Int32 → Int32 → Int32 → St → Prop} (hK2 : ∀ (v1 : Int32) (v2 : Int32) (v3 : Int32) (σ : St) (H : Heap) (locs : List Loc) (ls : Array Slot), K2 v1 v2 v3 σ → wM D dA ad (AM dA ad σ0 sz) s σ H locs → lv_has ls 11 [(0, .ref (ad 0)), (1, .int v1), (2, .int v2), (3, .int v3)] → W p l e rm_gather s m args below meth c H locs 0 0 (MQ below (va_Qi Qr (BM D dA ad (AM dA ad σ0 sz)) (AM dA ad σ0 sz)) args s 0 0 (AM dA ad σ0 sz)) (F0 m 2 ls [])) : ∀ (n : Nat) (v1 : Int32) (v2 : Int32) (v4 : Int32) (v5 : Int32) (v6 : Int32) (σ : St) (H : Heap) (locs : List Loc) (ls : Array Slot), wp_gather_15 Qr K2 n v1 v2 v4 v5 v6 σ → wM D dA ad (AM dA ad σ0 sz) s σ H locs → lv_has ls 11 [(0, .ref (ad 0)), (1, .int v1), (2, .int v2), (4, .int v4), (5, .int v5), (6, .int v6)] → W p l e rm_gather s m args below meth c H locs 0 0 (MQ below (va_Qi Qr (BM D dA ad (AM dA ad σ0 sz)) (AM dA ad σ0 sz)) args s 0 0 (AM dA ad σ0 sz)) (F0 m 15 ls []) := by
  intro n
  induction n with
  | zero => intro v1 v2 v4 v5 v6 σ H locs ls hw; exact hw.elim
  | succ n15 ih =>
    intro v1 v2 v4 v5 v6 σ H locs ls hw hM hl
    have hx := C.1
    have hb := C.2.1
    have hown := C.2.2.2.2.2.1
    have hts := C.2.2.2.2.2.2.1
    unfold wp_gather_15 at hw
    refine lv_iload hx hb dX10_gather_15 (lv_at hl 5 rfl) ?_
    refine lv_aload_n hx hb dX10_gather_17 rfl (lv_at hl 0 rfl) ?_
    refine rM_get C hM 31 (by decide) (fM_31 ad σ) q1421 rfl dX10_gather_18 ?_
    refine lv_icmp_ge (tgt := 105) hx hb dX10_gather_21 (by decide) (fun hc => ?_) (fun hc => ?_)
    · have hw := hw.1 hc
      refine lv_iload hx hb dX10_gather_105 (lv_at hl 4 rfl) ?_
      refine lv_if_ne (tgt := 112) hx hb dX10_gather_107 (by decide) (fun hc => ?_) (fun hc => ?_)
      · have hw := hw.1 hc
        refine lv_aload_n hx hb dX10_gather_112 rfl (lv_at hl 0 rfl) ?_
        refine lv_iload_n hx hb dX10_gather_113 rfl (lv_at hl 1 rfl) ?_
        refine lv_iload hx hb dX10_gather_114 (lv_at hl 3 rfl) ?_
        refine rM_callVv (n := 2) (As := [.int v1, .int v4]) C hM hl.1 (mt_exchange l D dA ad _ σ v1 v4 _ hw) (lw_V q1582 q1584 qs57 q93 q1585) rfl rfl (by decide +kernel) ⟨Nat.le_of_ble_eq_true rfl, Nat.le_of_ble_eq_true rfl⟩ rfl (Nat.le_of_ble_eq_true rfl) ⟨Nat.zero_le _, Nat.zero_le _⟩ rfl dX10_gather_116 (fun σ1 H locs hw hM => ?_)
        refine lv_aload_n hx hb dX10_gather_119 rfl (lv_at hl 0 rfl) ?_
        refine rM_get C hM 30 (by decide) (fM_30 ad σ1) q1420 rfl dX10_gather_120 ?_
        refine lv_bipush (v := 6) hx hb dX10_gather_123 (by decide) ?_
        refine lv_iload_n hx hb dX10_gather_125 rfl (lv_at hl 1 rfl) ?_
        refine lv_imul hx hb dX10_gather_126 ?_
        refine lv_iload_n hx hb dX10_gather_127 rfl (lv_at hl 2 rfl) ?_
        refine lv_iadd hx hb dX10_gather_128 ?_
        refine rM_lald C hM 30 18 (wM_30 dA ad σ1) hw.1 dX10_gather_129 ?_
        have hw := hw.2
        refine lv_lconst (v := 0) hx hb dX10_gather_130 (by decide) ?_
        refine W.lcmp hx hb dX10_gather_131 ?_
        refine lv_if_ge (tgt := 140) hx hb dX10_gather_132 (by decide) (fun hc => ?_) (fun hc => ?_)
        · have hw := hw.1 hc
          exact wk_gather_140 C hK2 v1 v2 v5 σ1 _ _ ls hw hM (lv_sub hl [0, 1, 2, 4] rfl)
        · have hw := hw.2 hc
          refine lv_aload_n hx hb dX10_gather_135 rfl (lv_at hl 0 rfl) ?_
          refine lv_iload_n hx hb dX10_gather_136 rfl (lv_at hl 1 rfl) ?_
          refine rM_callVv (n := 1) (As := [.int v1]) C hM hl.1 (mt_turn l D dA ad _ σ1 v1 _ hw) (lw_V q1598 q1600 qs61 q93 q1601) rfl rfl (by decide +kernel) ⟨Nat.le_of_ble_eq_true rfl, Nat.le_of_ble_eq_true rfl⟩ rfl (Nat.le_of_ble_eq_true rfl) ⟨Nat.zero_le _, Nat.zero_le _⟩ rfl dX10_gather_137 (fun σ2 H locs hw hM => ?_)
          exact wk_gather_140 C hK2 v1 v2 v5 σ2 _ _ ls hw hM (lv_sub hl [0, 1, 2, 4] rfl)
      · have hw := hw.2 hc
        refine lv_iconst (v := 0) hx hb dX10_gather_110 (by decide) ?_
        exact rM_zret C hM hw dX10_gather_111
    · have hw := hw.2 hc
      refine lv_aload_n hx hb dX10_gather_24 rfl (lv_at hl 0 rfl) ?_
      refine rM_get C hM 30 (by decide) (fM_30 ad σ) q1420 rfl dX10_gather_25 ?_
      refine lv_bipush (v := 6) hx hb dX10_gather_28 (by decide) ?_
      refine lv_iload hx hb dX10_gather_30 (lv_at hl 5 rfl) ?_
      refine lv_imul hx hb dX10_gather_32 ?_
      refine lv_iload_n hx hb dX10_gather_33 rfl (lv_at hl 2 rfl) ?_
      refine lv_iadd hx hb dX10_gather_34 ?_
      refine rM_lald C hM 30 18 (wM_30 dA ad σ) hw.1 dX10_gather_35 ?_
      have hw := hw.2
      refine lv_topl (fun y3 ey3 => ?_)
      have hw := hw y3 ey3
      refine lv_lstore (lv' := [(7, .long y3), (0, .ref (ad 0)), (1, .int v1), (2, .int v2), (4, .int v4), (5, .int v5), (6, .int v6)]) hx hb dX10_gather_36 hl (by decide) rfl (fun ls hl => ?_)
      refine lv_iload hx hb dX10_gather_38 (lv_at hl 4 rfl) ?_
      refine lv_if_ge (tgt := 47) hx hb dX10_gather_40 (by decide) (fun hc => ?_) (fun hc => ?_)
      · have hw := hw.1 hc
        refine lv_aload_n hx hb dX10_gather_47 rfl (lv_at hl 1 rfl) ?_
        refine rM_get C hM 30 (by decide) (fM_30 ad σ) q1420 rfl dX10_gather_48 ?_
        refine lv_bipush (v := 6) hx hb dX10_gather_51 (by decide) ?_
        refine lv_iload hx hb dX10_gather_53 (lv_at hl 4 rfl) ?_
        refine lv_imul hx hb dX10_gather_55 ?_
        refine lv_iload_n hx hb dX10_gather_56 rfl (lv_at hl 3 rfl) ?_
        refine lv_iadd hx hb dX10_gather_57 ?_
        refine rM_lald C hM 30 18 (wM_30 dA ad σ) hw.1 dX10_gather_58 ?_
        have hw := hw.2
        exact wk_gather_59 C hK2 ih v1 v2 v4 v5 v6 y3 ((gL σ 30 ((6 * v4) + v2))) σ _ _ ls hw hM (lv_sub hl [1, 2, 3, 4, 5, 6, 0] rfl)
      · have hw := hw.2 hc
        refine lv_lconst (v := 0) hx hb dX10_gather_43 (by decide) ?_
        refine lv_goto (tgt := 59) hx hb dX10_gather_44 (by decide) ?_
        exact wk_gather_59 C hK2 ih v1 v2 v4 v5 v6 y3 0 σ _ _ ls hw hM (lv_sub hl [1, 2, 3, 4, 5, 6, 0] rfl)
set_option maxHeartbeats 4000000 in
theorem wk_gather_2 {p : Program} {l : Launch} {e : Env} {s : State} {m : MethodId} {args : Array Value} {below : List Frame} {meth : Method} {c : Code} {D : va_G} {dA : Nat → ClassId} {ad : Nat → Nat} {σ0 : St} {sz : Nat} (C : CxM p s m meth c args (AM dA ad σ0 sz) RX10 cX10_gather 11 (some .boolean)) {Qr : Int32 → St → Prop} : ∀ (n : Nat) (v1 : Int32) (v2 : Int32) (v3 : Int32) (σ : St) (H : Heap) (locs : List Loc) (ls : Array Slot), wp_gather_2 Qr n v1 v2 v3 σ → wM D dA ad (AM dA ad σ0 sz) s σ H locs → lv_has ls 11 [(0, .ref (ad 0)), (1, .int v1), (2, .int v2), (3, .int v3)] → W p l e rm_gather s m args below meth c H locs 0 0 (MQ below (va_Qi Qr (BM D dA ad (AM dA ad σ0 sz)) (AM dA ad σ0 sz)) args s 0 0 (AM dA ad σ0 sz)) (F0 m 2 ls []) := by
  intro n
  induction n with
  | zero => intro v1 v2 v3 σ H locs ls hw; exact hw.elim
  | succ n2 ih =>
    intro v1 v2 v3 σ H locs ls hw hM hl
    have hx := C.1
    have hb := C.2.1
    have hown := C.2.2.2.2.2.1
    have hts := C.2.2.2.2.2.2.1
    unfold wp_gather_2 at hw
    refine lv_iload_n hx hb dX10_gather_2 rfl (lv_at hl 3 rfl) ?_
    refine lv_if_eq (tgt := 206) hx hb dX10_gather_3 (by decide) (fun hc => ?_) (fun hc => ?_)
    · have hw := hw.1 hc
      refine lv_iconst (v := 1) hx hb dX10_gather_206 (by decide) ?_
      exact rM_zret C hM hw dX10_gather_207
    · have hw := hw.2 hc
      refine lv_iconst (v := (-1)) hx hb dX10_gather_6 (by decide) ?_
      refine lv_istore (lv' := [(4, .int (-1)), (0, .ref (ad 0)), (1, .int v1), (2, .int v2), (3, .int v3)]) hx hb dX10_gather_7 hl (by decide) rfl (fun ls hl => ?_)
      refine lv_iconst (v := 0) hx hb dX10_gather_9 (by decide) ?_
      refine lv_istore (lv' := [(5, .int 0), (4, .int (-1)), (0, .ref (ad 0)), (1, .int v1), (2, .int v2), (3, .int v3)]) hx hb dX10_gather_10 hl (by decide) rfl (fun ls hl => ?_)
      refine lv_iload_n hx hb dX10_gather_12 rfl (lv_at hl 3 rfl) ?_
      refine lv_istore (lv' := [(6, .int v1), (5, .int 0), (4, .int (-1)), (0, .ref (ad 0)), (1, .int v1), (2, .int v2), (3, .int v3)]) hx hb dX10_gather_13 hl (by decide) rfl (fun ls hl => ?_)
      obtain ⟨n15, hw⟩ := hw
      exact wk_gather_15 C ih n15 v1 v2 (-1) 0 v1 σ _ _ ls hw hM (lv_sub hl [3, 4, 5, 2, 1, 0] rfl)
set_option maxHeartbeats 4000000 in
/-- private boolean gather(int, int); -/
theorem mt_gather (l : Launch) (D : va_G) (dA : Nat → ClassId) (ad : Nat → Nat) (sz : Nat) (σ : St) (p1 : Int32) (p2 : Int32) (Qr : Int32 → St → Prop) (hw : wp_gather p1 p2 σ Qr) : Met l yX10_gather (ws_ yX10_gather cX10_gather 11 (some .boolean)) rm_gather (PcM D dA ad σ sz [.ref (ad 0), .int p1, .int p2]) (va_Qi Qr (BM D dA ad (AM dA ad σ sz)) (AM dA ad σ sz)) 0 0 (AM dA ad σ sz) := by
  refine Met.ofW (cc := cX10_gather) (maxL := 11) (ret := (some .boolean)) (by decide) rfl ?_
  intro p e s m args below meth c s₁ B hml hv
  obtain ⟨rfl, hsz, hP, hK, hD0⟩ := hv
  subst hsz
  have hts0 := atoms_spec (ws := ws_ yX10_gather cX10_gather 11 (some .boolean)) B.pre
  have C : CxM p s m meth c _ (AM dA ad σ s.heap.size) RX10 cX10_gather 11 (some .boolean) := ⟨B.exec, B.bytes, B.returns, B.notSynchronized, hml, findClass_of_methodNamed B.named, fun w h => hts0 w (List.mem_cons_of_mem _ h), fun q h => Or.inr h⟩
  have hM : wM D dA ad (AM dA ad σ s.heap.size) s σ s.heap [] := ⟨hK, hP, hD0.self, va_S.rf⟩
  have hx := C.1
  have hb := C.2.1
  have hown := C.2.2.2.2.2.1
  have hts := C.2.2.2.2.2.2.1
  have hl := lv_entry ([.ref (ad 0), .int p1, .int p2]) (n := 11) (Nat.le_of_ble_eq_true rfl)
  rw [lg_entry_eq]
  generalize (lg_sl ([.ref (ad 0), .int p1, .int p2]) ++ List.replicate (11 - (lg_sl ([.ref (ad 0), .int p1, .int p2])).length) Slot.unset).toArray = ls at hl ⊢
  have hl : lv_has ls 11 [(0, .ref (ad 0)), (1, .int p1), (2, .int p2)] := hl
  unfold wp_gather at hw
  refine lv_iconst (v := 1) hx hb dX10_gather_0 (by decide) ?_
  refine lv_istore_n (lv' := [(3, .int 1), (0, .ref (ad 0)), (1, .int p1), (2, .int p2)]) hx hb dX10_gather_1 rfl hl (by decide) rfl (fun ls hl => ?_)
  obtain ⟨n2, hw⟩ := hw
  exact wk_gather_2 C  n2 p1 p2 1 σ _ _ ls hw hM (lv_sub hl [1, 2, 3, 0] rfl)
abbrev rm_order : Room := { frames := 2, cells := 0, slots := 0, locals := 55 }
set_option maxHeartbeats 4000000 in
theorem wk_order_110 {p : Program} {l : Launch} {e : Env} {s : State} {m : MethodId} {args : Array Value} {below : List Frame} {meth : Method} {c : Code} {D : va_G} {dA : Nat → ClassId} {ad : Nat → Nat} {σ0 : St} {sz : Nat} (C : CxM p s m meth c args (AM dA ad σ0 sz) RX10 cX10_order 8 none) {Qr : St → Prop} : ∀ (σ : St) (H : Heap) (locs : List Loc) (ls : Array Slot), wp_order_110 Qr σ → wM D dA ad (AM dA ad σ0 sz) s σ H locs → lv_has ls 8 [(0, .ref (ad 0))] → W p l e rm_order s m args below meth c H locs 0 0 (MQ below (va_Qv Qr (BM D dA ad (AM dA ad σ0 sz)) (AM dA ad σ0 sz)) args s 0 0 (AM dA ad σ0 sz)) (F0 m 110 ls []) := by
  intro σ H locs ls hw hM hl
  have hx := C.1
  have hb := C.2.1
  have hown := C.2.2.2.2.2.1
  have hts := C.2.2.2.2.2.2.1
  unfold wp_order_110 at hw
  exact rM_vret C hM hw dX10_order_110
set_option maxHeartbeats 4000000 in
theorem wk_order_104 {p : Program} {l : Launch} {e : Env} {s : State} {m : MethodId} {args : Array Value} {below : List Frame} {meth : Method} {c : Code} {D : va_G} {dA : Nat → ClassId} {ad : Nat → Nat} {σ0 : St} {sz : Nat} (C : CxM p s m meth c args (AM dA ad σ0 sz) RX10 cX10_order 8 none) {Qr : St → Prop} {K4 : Int32 → Int32 → St → Prop} (hK4 : ∀ (v1 : Int32) (v2 : Int32) (σ : St) (H : Heap) (locs : List Loc) (ls : Array Slot), K4 v1 v2 σ → wM D dA ad (AM dA ad σ0 sz) s σ H locs → lv_has ls 8 [(0, .ref (ad 0)), (1, .int v1), (2, .int v2)] → W p l e rm_order s m args below meth c H locs 0 0 (MQ below (va_Qv Qr (BM D dA ad (AM dA ad σ0 sz)) (AM dA ad σ0 sz)) args s 0 0 (AM dA ad σ0 sz)) (F0 m 4 ls [])) : ∀ (v1 : Int32) (v2 : Int32) (σ : St) (H : Heap) (locs : List Loc) (ls : Array Slot), wp_order_104 Qr K4 v1 v2 σ → wM D dA ad (AM dA ad σ0 sz) s σ H locs → lv_has ls 8 [(0, .ref (ad 0)), (1, .int v1), (2, .int v2)] → W p l e rm_order s m args below meth c H locs 0 0 (MQ below (va_Qv Qr (BM D dA ad (AM dA ad σ0 sz)) (AM dA ad σ0 sz)) args s 0 0 (AM dA ad σ0 sz)) (F0 m 104 ls []) := by
  intro v1 v2 σ H locs ls hw hM hl
  have hx := C.1
  have hb := C.2.1
  have hown := C.2.2.2.2.2.1
  have hts := C.2.2.2.2.2.2.1
  unfold wp_order_104 at hw
  obtain ⟨x1, ex1⟩ : ∃ y : Int32, y = v2 + 1 := ⟨_, rfl⟩
  have hw := hw x1 ex1
  refine lv_iinc (v := x1) (lv' := [(2, .int x1), (0, .ref (ad 0)), (1, .int v1)]) hx hb dX10_order_104 hl (k := 2) rfl (by rw [ex1]; rfl) (by decide) rfl (fun ls hl => ?_)
  refine lv_goto (tgt := 4) hx hb dX10_order_107 (by decide) ?_
  exact hK4 v1 x1 σ _ _ ls hw hM (lv_sub hl [1, 2, 0] rfl)
set_option maxHeartbeats 4000000 in
theorem wk_order_92 {p : Program} {l : Launch} {e : Env} {s : State} {m : MethodId} {args : Array Value} {below : List Frame} {meth : Method} {c : Code} {D : va_G} {dA : Nat → ClassId} {ad : Nat → Nat} {σ0 : St} {sz : Nat} (C : CxM p s m meth c args (AM dA ad σ0 sz) RX10 cX10_order 8 none) {Qr : St → Prop} {K4 : Int32 → Int32 → St → Prop} (hK4 : ∀ (v1 : Int32) (v2 : Int32) (σ : St) (H : Heap) (locs : List Loc) (ls : Array Slot), K4 v1 v2 σ → wM D dA ad (AM dA ad σ0 sz) s σ H locs → lv_has ls 8 [(0, .ref (ad 0)), (1, .int v1), (2, .int v2)] → W p l e rm_order s m args below meth c H locs 0 0 (MQ below (va_Qv Qr (BM D dA ad (AM dA ad σ0 sz)) (AM dA ad σ0 sz)) args s 0 0 (AM dA ad σ0 sz)) (F0 m 4 ls [])) {K31 : Int32 → Int32 → Int32 → St → Prop} (hK31 : ∀ (v1 : Int32) (v2 : Int32) (v3 : Int32) (σ : St) (H : Heap) (locs : List Loc) (ls : Array Slot), K31 v1 v2 v3 σ → wM D dA ad (AM dA ad σ0 sz) s σ H locs → lv_has ls 8 [(0, .ref (ad 0)), (1, .int v1), (2, .int v2), (3, .int v3)] → W p l e rm_order s m args below meth c H locs 0 0 (MQ below (va_Qv Qr (BM D dA ad (AM dA ad σ0 sz)) (AM dA ad σ0 sz)) args s 0 0 (AM dA ad σ0 sz)) (F0 m 31 ls [])) : ∀ (v1 : Int32) (v2 : Int32) (v3 : Int32) (u1 : Int32) (u2 : Int32) (u3 : Int64) (σ : St) (H : Heap) (locs : List Loc) (ls : Array Slot), wp_order_92 Qr K4 K31 v1 v2 v3 u1 u2 u3 σ → wM D dA ad (AM dA ad σ0 sz) s σ H locs → lv_has ls 8 [(0, .ref (ad 0)), (1, .int v1), (2, .int v2), (3, .int v3)] → W p l e rm_order s m args below meth c H locs 0 0 (MQ below (va_Qv Qr (BM D dA ad (AM dA ad σ0 sz)) (AM dA ad σ0 sz)) args s 0 0 (AM dA ad σ0 sz)) (F0 m 92 ls [.long u3, .int u2, .int u1, .ref (ad 0)]) := by
  intro v1 v2 v3 u1 u2 u3 σ H locs ls hw hM hl
  have hx := C.1
  have hb := C.2.1
  have hown := C.2.2.2.2.2.1
  have hts := C.2.2.2.2.2.2.1
  unfold wp_order_92 at hw
  refine rM_callVv (n := 3) (As := [.int u1, .int u2, .long u3]) C hM hl.1 (mt_lose l D dA ad _ σ u1 u2 u3 _ hw) (lw_V q1586 q1588 qs58 q93 q1589) rfl rfl (by decide +kernel) ⟨Nat.le_of_ble_eq_true rfl, Nat.le_of_ble_eq_true rfl⟩ rfl (Nat.le_of_ble_eq_true rfl) ⟨Nat.zero_le _, Nat.zero_le _⟩ rfl dX10_order_92 (fun σ1 H locs hw hM => ?_)
  obtain ⟨x2, ex2⟩ : ∃ y : Int32, y = v3 + 1 := ⟨_, rfl⟩
  have hw := hw x2 ex2
  refine lv_iinc (v := x2) (lv' := [(3, .int x2), (0, .ref (ad 0)), (1, .int v1), (2, .int v2)]) hx hb dX10_order_95 hl (k := 3) rfl (by rw [ex2]; rfl) (by decide) rfl (fun ls hl => ?_)
  refine lv_goto (tgt := 31) hx hb dX10_order_98 (by decide) ?_
  exact hK31 v1 v2 x2 σ1 _ _ ls hw hM (lv_sub hl [1, 2, 3, 0] rfl)
set_option maxHeartbeats 4000000 in
theorem wk_order_31 {p : Program} {l : Launch} {e : Env} {s : State} {m : MethodId} {args : Array Value} {below : List Frame} {meth : Method} {c : Code} {D : va_G} {dA : Nat → ClassId} {ad : Nat → Nat} {σ0 : St} {sz : Nat} (C : CxM p s m meth c args (AM dA ad σ0 sz) RX10 cX10_order 8 none) {Qr : St → Prop} {K4 : Int32 → Int32 → St → Prop} (hK4 : ∀ (v1 : Int32) (v2 : Int32) (σ : St) (H : Heap) (locs : List Loc) (ls : Array Slot), K4 v1 v2 σ → wM D dA ad (AM dA ad σ0 sz) s σ H locs → lv_has ls 8 [(0, .ref (ad 0)), (1, .int v1), (2, .int v2)] → W p l e rm_order s m args below meth c H locs 0 0 (MQ below (va_Qv Qr (BM D dA ad (AM dA ad σ0 sz)) (AM dA ad σ0 sz)) args s 0 0 (AM dA ad σ0 sz)) (F0 m 4 ls [])) : ∀ (n : Nat) (v1 : Int32) (v2 : Int32) (v3 : Int32) (σ : St) (H : Heap) (locs : List Loc) (ls : Array Slot), wp_order_31 Qr K4 n v1 v2 v3 σ → wM D dA ad (AM dA ad σ0 sz) s σ H locs → lv_has ls 8 [(0, .ref (ad 0)), (1, .int v1), (2, .int v2), (3, .int v3)] → W p l e rm_order s m args below meth c H locs 0 0 (MQ below (va_Qv Qr (BM D dA ad (AM dA ad σ0 sz)) (AM dA ad σ0 sz)) args s 0 0 (AM dA ad σ0 sz)) (F0 m 31 ls []) := by
  intro n
  induction n with
  | zero => intro v1 v2 v3 σ H locs ls hw; exact hw.elim
  | succ n31 ih =>
    intro v1 v2 v3 σ H locs ls hw hM hl
    have hx := C.1
    have hb := C.2.1
    have hown := C.2.2.2.2.2.1
    have hts := C.2.2.2.2.2.2.1
    unfold wp_order_31 at hw
    refine lv_iload_n hx hb dX10_order_31 rfl (lv_at hl 3 rfl) ?_
    refine lv_iload_n hx hb dX10_order_32 rfl (lv_at hl 1 rfl) ?_
    refine lv_icmp_ge (tgt := 101) hx hb dX10_order_33 (by decide) (fun hc => ?_) (fun hc => ?_)
    · have hw := hw.1 hc
      obtain ⟨x1, ex1⟩ : ∃ y : Int32, y = v1 + 1 := ⟨_, rfl⟩
      have hw := hw x1 ex1
      refine lv_iinc (v := x1) (lv' := [(1, .int x1), (0, .ref (ad 0)), (2, .int v2), (3, .int v3)]) hx hb dX10_order_101 hl (k := 1) rfl (by rw [ex1]; rfl) (by decide) rfl (fun ls hl => ?_)
      exact wk_order_104 C hK4 x1 v2 σ _ _ ls hw hM (lv_sub hl [1, 0, 2] rfl)
    · have hw := hw.2 hc
      refine lv_aload_n hx hb dX10_order_36 rfl (lv_at hl 0 rfl) ?_
      refine rM_get C hM 30 (by decide) (fM_30 ad σ) q1420 rfl dX10_order_37 ?_
      refine lv_bipush (v := 6) hx hb dX10_order_40 (by decide) ?_
      refine lv_iload_n hx hb dX10_order_42 rfl (lv_at hl 3 rfl) ?_
      refine lv_imul hx hb dX10_order_43 ?_
      refine lv_iload_n hx hb dX10_order_44 rfl (lv_at hl 2 rfl) ?_
      refine lv_iadd hx hb dX10_order_45 ?_
      refine rM_lald C hM 30 18 (wM_30 dA ad σ) hw.1 dX10_order_46 ?_
      have hw := hw.2
      refine lv_topl (fun y2 ey2 => ?_)
      have hw := hw y2 ey2
      refine lv_lstore (lv' := [(4, .long y2), (0, .ref (ad 0)), (1, .int v1), (2, .int v2), (3, .int v3)]) hx hb dX10_order_47 hl (by decide) rfl (fun ls hl => ?_)
      refine lv_aload_n hx hb dX10_order_49 rfl (lv_at hl 1 rfl) ?_
      refine rM_get C hM 30 (by decide) (fM_30 ad σ) q1420 rfl dX10_order_50 ?_
      refine lv_bipush (v := 6) hx hb dX10_order_53 (by decide) ?_
      refine lv_iload_n hx hb dX10_order_55 rfl (lv_at hl 2 rfl) ?_
      refine lv_imul hx hb dX10_order_56 ?_
      refine lv_iload_n hx hb dX10_order_57 rfl (lv_at hl 3 rfl) ?_
      refine lv_iadd hx hb dX10_order_58 ?_
      refine rM_lald C hM 30 18 (wM_30 dA ad σ) hw.1 dX10_order_59 ?_
      have hw := hw.2
      refine lv_topl (fun y3 ey3 => ?_)
      have hw := hw y3 ey3
      refine lv_lstore (lv' := [(6, .long y3), (4, .long y2), (0, .ref (ad 0)), (1, .int v1), (2, .int v2), (3, .int v3)]) hx hb dX10_order_60 hl (by decide) rfl (fun ls hl => ?_)
      refine lv_aload_n hx hb dX10_order_62 rfl (lv_at hl 2 rfl) ?_
      refine lv_iload_n hx hb dX10_order_63 rfl (lv_at hl 5 rfl) ?_
      refine lv_iload_n hx hb dX10_order_64 rfl (lv_at hl 3 rfl) ?_
      refine lv_lload hx hb dX10_order_65 (lv_at hl 1 rfl) ?_
      refine lv_lconst (v := 0) hx hb dX10_order_67 (by decide) ?_
      refine W.lcmp hx hb dX10_order_68 ?_
      refine lv_if_lt (tgt := 80) hx hb dX10_order_69 (by decide) (fun hc => ?_) (fun hc => ?_)
      · have hw := hw.1 hc
        refine lv_lload hx hb dX10_order_80 (lv_at hl 1 rfl) ?_
        refine lv_lneg hx hb dX10_order_82 ?_
        refine lv_lload hx hb dX10_order_83 (lv_at hl 0 rfl) ?_
        refine lv_ladd hx hb dX10_order_85 ?_
        refine lv_lconst (v := 1) hx hb dX10_order_86 (by decide) ?_
        refine lv_lsub hx hb dX10_order_87 ?_
        refine lv_lload hx hb dX10_order_88 (lv_at hl 0 rfl) ?_
        refine lv_ldiv hx hb dX10_order_90 hw.1 ?_
        have hw := hw.2
        refine lv_lneg hx hb dX10_order_91 ?_
        exact wk_order_92 C hK4 ih v1 v2 v3 v3 v1 ((-((((-y2) + y3) - 1) / y3))) σ _ _ ls hw hM (lv_sub hl [2, 3, 4, 5] rfl)
      · have hw := hw.2 hc
        refine lv_lload hx hb dX10_order_72 (lv_at hl 1 rfl) ?_
        refine lv_lload hx hb dX10_order_74 (lv_at hl 0 rfl) ?_
        refine lv_ldiv hx hb dX10_order_76 hw.1 ?_
        have hw := hw.2
        refine lv_goto (tgt := 92) hx hb dX10_order_77 (by decide) ?_
        exact wk_order_92 C hK4 ih v1 v2 v3 v3 v1 ((y2 / y3)) σ _ _ ls hw hM (lv_sub hl [2, 3, 4, 5] rfl)
set_option maxHeartbeats 4000000 in
theorem wk_order_4 {p : Program} {l : Launch} {e : Env} {s : State} {m : MethodId} {args : Array Value} {below : List Frame} {meth : Method} {c : Code} {D : va_G} {dA : Nat → ClassId} {ad : Nat → Nat} {σ0 : St} {sz : Nat} (C : CxM p s m meth c args (AM dA ad σ0 sz) RX10 cX10_order 8 none) {Qr : St → Prop} : ∀ (n : Nat) (v1 : Int32) (v2 : Int32) (σ : St) (H : Heap) (locs : List Loc) (ls : Array Slot), wp_order_4 Qr n v1 v2 σ → wM D dA ad (AM dA ad σ0 sz) s σ H locs → lv_has ls 8 [(0, .ref (ad 0)), (1, .int v1), (2, .int v2)] → W p l e rm_order s m args below meth c H locs 0 0 (MQ below (va_Qv Qr (BM D dA ad (AM dA ad σ0 sz)) (AM dA ad σ0 sz)) args s 0 0 (AM dA ad σ0 sz)) (F0 m 4 ls []) := by
  intro n
  induction n with
  | zero => intro v1 v2 σ H locs ls hw; exact hw.elim
  | succ n4 ih =>
    intro v1 v2 σ H locs ls hw hM hl
    have hx := C.1
    have hb := C.2.1
    have hown := C.2.2.2.2.2.1
    have hts := C.2.2.2.2.2.2.1
    unfold wp_order_4 at hw
    refine lv_iload_n hx hb dX10_order_4 rfl (lv_at hl 2 rfl) ?_
    refine lv_aload_n hx hb dX10_order_5 rfl (lv_at hl 0 rfl) ?_
    refine rM_get C hM 17 (by decide) (fM_17 ad σ) q1407 rfl dX10_order_6 ?_
    refine lv_icmp_ge (tgt := 110) hx hb dX10_order_9 (by decide) (fun hc => ?_) (fun hc => ?_)
    · have hw := hw.1 hc
      exact wk_order_110 C   σ _ _ ls hw hM (lv_sub hl [0] rfl)
    · have hw := hw.2 hc
      refine lv_iload_n hx hb dX10_order_12 rfl (lv_at hl 1 rfl) ?_
      refine lv_aload_n hx hb dX10_order_13 rfl (lv_at hl 0 rfl) ?_
      refine rM_get C hM 31 (by decide) (fM_31 ad σ) q1421 rfl dX10_order_14 ?_
      refine lv_icmp_ge (tgt := 110) hx hb dX10_order_17 (by decide) (fun hc => ?_) (fun hc => ?_)
      · have hw := hw.1 hc
        exact wk_order_110 C   σ _ _ ls hw hM (lv_sub hl [0] rfl)
      · have hw := hw.2 hc
        refine lv_aload_n hx hb dX10_order_20 rfl (lv_at hl 0 rfl) ?_
        refine lv_iload_n hx hb dX10_order_21 rfl (lv_at hl 1 rfl) ?_
        refine lv_iload_n hx hb dX10_order_22 rfl (lv_at hl 2 rfl) ?_
        refine rM_callVi (n := 2) (As := [.int v1, .int v2]) C hM hl.1 (mt_gather l D dA ad _ σ v1 v2 _ hw) (lw_V q1594 q1596 qs60 q93 q1597) rfl rfl (by decide +kernel) ⟨Nat.le_of_ble_eq_true rfl, Nat.le_of_ble_eq_true rfl⟩ rfl (Nat.le_of_ble_eq_true rfl) ⟨Nat.zero_le _, Nat.zero_le _⟩ rfl dX10_order_23 (fun x2 σ1 H locs hw hM => ?_)
        refine lv_if_eq (tgt := 104) hx hb dX10_order_26 (by decide) (fun hc => ?_) (fun hc => ?_)
        · have hw := hw.1 hc
          exact wk_order_104 C ih v1 v2 σ1 _ _ ls hw hM (lv_sub hl [0, 1, 2] rfl)
        · have hw := hw.2 hc
          refine lv_iconst (v := 0) hx hb dX10_order_29 (by decide) ?_
          refine lv_istore_n (lv' := [(3, .int 0), (0, .ref (ad 0)), (1, .int v1), (2, .int v2)]) hx hb dX10_order_30 rfl hl (by decide) rfl (fun ls hl => ?_)
          obtain ⟨n31, hw⟩ := hw
          exact wk_order_31 C ih n31 v1 v2 0 σ1 _ _ ls hw hM (lv_sub hl [1, 2, 3, 0] rfl)
set_option maxHeartbeats 4000000 in
/-- private void order(); -/
theorem mt_order (l : Launch) (D : va_G) (dA : Nat → ClassId) (ad : Nat → Nat) (sz : Nat) (σ : St) (Qr : St → Prop) (hw : wp_order  σ Qr) : Met l yX10_order (ws_ yX10_order cX10_order 8 none) rm_order (PcM D dA ad σ sz [.ref (ad 0)]) (va_Qv Qr (BM D dA ad (AM dA ad σ sz)) (AM dA ad σ sz)) 0 0 (AM dA ad σ sz) := by
  refine Met.ofW (cc := cX10_order) (maxL := 8) (ret := none) (by decide) rfl ?_
  intro p e s m args below meth c s₁ B hml hv
  obtain ⟨rfl, hsz, hP, hK, hD0⟩ := hv
  subst hsz
  have hts0 := atoms_spec (ws := ws_ yX10_order cX10_order 8 none) B.pre
  have C : CxM p s m meth c _ (AM dA ad σ s.heap.size) RX10 cX10_order 8 none := ⟨B.exec, B.bytes, B.returns, B.notSynchronized, hml, findClass_of_methodNamed B.named, fun w h => hts0 w (List.mem_cons_of_mem _ h), fun q h => Or.inr h⟩
  have hM : wM D dA ad (AM dA ad σ s.heap.size) s σ s.heap [] := ⟨hK, hP, hD0.self, va_S.rf⟩
  have hx := C.1
  have hb := C.2.1
  have hown := C.2.2.2.2.2.1
  have hts := C.2.2.2.2.2.2.1
  have hl := lv_entry ([.ref (ad 0)]) (n := 8) (Nat.le_of_ble_eq_true rfl)
  rw [lg_entry_eq]
  generalize (lg_sl ([.ref (ad 0)]) ++ List.replicate (8 - (lg_sl ([.ref (ad 0)])).length) Slot.unset).toArray = ls at hl ⊢
  have hl : lv_has ls 8 [(0, .ref (ad 0))] := hl
  unfold wp_order at hw
  refine lv_iconst (v := 0) hx hb dX10_order_0 (by decide) ?_
  refine lv_istore_n (lv' := [(1, .int 0), (0, .ref (ad 0))]) hx hb dX10_order_1 rfl hl (by decide) rfl (fun ls hl => ?_)
  refine lv_iconst (v := 0) hx hb dX10_order_2 (by decide) ?_
  refine lv_istore_n (lv' := [(2, .int 0), (1, .int 0), (0, .ref (ad 0))]) hx hb dX10_order_3 rfl hl (by decide) rfl (fun ls hl => ?_)
  obtain ⟨n4, hw⟩ := hw
  exact wk_order_4 C  n4 0 0 σ _ _ ls hw hM (lv_sub hl [2, 1, 0] rfl)
abbrev rm_shorten : Room := { frames := 0, cells := 0, slots := 0, locals := 0 }
set_option maxHeartbeats 4000000 in
theorem wk_shorten_56 {p : Program} {l : Launch} {e : Env} {s : State} {m : MethodId} {args : Array Value} {below : List Frame} {meth : Method} {c : Code} {D : va_G} {dA : Nat → ClassId} {ad : Nat → Nat} {σ0 : St} {sz : Nat} (C : CxM p s m meth c args (AM dA ad σ0 sz) RX10 cX10_shorten 6 none) {Qr : St → Prop} {K2 : Int32 → St → Prop} (hK2 : ∀ (v1 : Int32) (σ : St) (H : Heap) (locs : List Loc) (ls : Array Slot), K2 v1 σ → wM D dA ad (AM dA ad σ0 sz) s σ H locs → lv_has ls 6 [(0, .ref (ad 0)), (1, .int v1)] → W p l e rm_shorten s m args below meth c H locs 0 0 (MQ below (va_Qv Qr (BM D dA ad (AM dA ad σ0 sz)) (AM dA ad σ0 sz)) args s 0 0 (AM dA ad σ0 sz)) (F0 m 2 ls [])) : ∀ (n : Nat) (v1 : Int32) (v3 : Int64) (v5 : Int32) (σ : St) (H : Heap) (locs : List Loc) (ls : Array Slot), wp_shorten_56 Qr K2 n v1 v3 v5 σ → wM D dA ad (AM dA ad σ0 sz) s σ H locs → lv_has ls 6 [(0, .ref (ad 0)), (1, .int v1), (3, .long v3), (5, .int v5)] → W p l e rm_shorten s m args below meth c H locs 0 0 (MQ below (va_Qv Qr (BM D dA ad (AM dA ad σ0 sz)) (AM dA ad σ0 sz)) args s 0 0 (AM dA ad σ0 sz)) (F0 m 56 ls []) := by
  intro n
  induction n with
  | zero => intro v1 v3 v5 σ H locs ls hw; exact hw.elim
  | succ n56 ih =>
    intro v1 v3 v5 σ H locs ls hw hM hl
    have hx := C.1
    have hb := C.2.1
    have hown := C.2.2.2.2.2.1
    have hts := C.2.2.2.2.2.2.1
    unfold wp_shorten_56 at hw
    refine lv_iload hx hb dX10_shorten_56 (lv_at hl 3 rfl) ?_
    refine lv_aload_n hx hb dX10_shorten_58 rfl (lv_at hl 0 rfl) ?_
    refine rM_get C hM 17 (by decide) (fM_17 ad σ) q1407 rfl dX10_shorten_59 ?_
    refine lv_icmp_ge (tgt := 100) hx hb dX10_shorten_62 (by decide) (fun hc => ?_) (fun hc => ?_)
    · have hw := hw.1 hc
      obtain ⟨x1, ex1⟩ : ∃ y : Int32, y = v1 + 1 := ⟨_, rfl⟩
      have hw := hw x1 ex1
      refine lv_iinc (v := x1) (lv' := [(1, .int x1), (0, .ref (ad 0)), (3, .long v3), (5, .int v5)]) hx hb dX10_shorten_100 hl (k := 1) rfl (by rw [ex1]; rfl) (by decide) rfl (fun ls hl => ?_)
      refine lv_goto (tgt := 2) hx hb dX10_shorten_103 (by decide) ?_
      exact hK2 x1 σ _ _ ls hw hM (lv_sub hl [1, 0] rfl)
    · have hw := hw.2 hc
      refine lv_aload_n hx hb dX10_shorten_65 rfl (lv_at hl 0 rfl) ?_
      refine rM_get C hM 32 (by decide) (fM_32 ad σ) q1422 rfl dX10_shorten_66 ?_
      refine lv_iload hx hb dX10_shorten_69 (lv_at hl 3 rfl) ?_
      refine lv_aload_n hx hb dX10_shorten_71 rfl (lv_at hl 0 rfl) ?_
      refine rM_get C hM 32 (by decide) (fM_32 ad σ) q1422 rfl dX10_shorten_72 ?_
      refine lv_iload hx hb dX10_shorten_75 (lv_at hl 3 rfl) ?_
      refine rM_lald C hM 32 19 (wM_32 dA ad σ) hw.1 dX10_shorten_77 ?_
      have hw := hw.2
      refine lv_lload_n hx hb dX10_shorten_78 rfl (lv_at hl 2 rfl) ?_
      refine lv_aload_n hx hb dX10_shorten_79 rfl (lv_at hl 0 rfl) ?_
      refine rM_get C hM 30 (by decide) (fM_30 ad σ) q1420 rfl dX10_shorten_80 ?_
      refine lv_bipush (v := 6) hx hb dX10_shorten_83 (by decide) ?_
      refine lv_iload_n hx hb dX10_shorten_85 rfl (lv_at hl 1 rfl) ?_
      refine lv_imul hx hb dX10_shorten_86 ?_
      refine lv_iload hx hb dX10_shorten_87 (lv_at hl 3 rfl) ?_
      refine lv_iadd hx hb dX10_shorten_89 ?_
      refine rM_lald C hM 30 18 (wM_30 dA ad σ) hw.1 dX10_shorten_90 ?_
      have hw := hw.2
      refine lv_lmul hx hb dX10_shorten_91 ?_
      refine lv_lsub hx hb dX10_shorten_92 ?_
      refine rM_last C hM 32 19 (wM_32 dA ad σ) (wM_s32 dA ad σ _ _) hw.1 dX10_shorten_93 (fun σ2 H locs eσ hM => ?_)
      have hw := hw.2 σ2 eσ
      clear eσ
      obtain ⟨x3, ex3⟩ : ∃ y : Int32, y = v5 + 1 := ⟨_, rfl⟩
      have hw := hw x3 ex3
      refine lv_iinc (v := x3) (lv' := [(5, .int x3), (0, .ref (ad 0)), (1, .int v1), (3, .long v3)]) hx hb dX10_shorten_94 hl (k := 3) rfl (by rw [ex3]; rfl) (by decide) rfl (fun ls hl => ?_)
      refine lv_goto (tgt := 56) hx hb dX10_shorten_97 (by decide) ?_
      exact ih v1 v3 x3 σ2 _ _ ls hw hM (lv_sub hl [1, 2, 3, 0] rfl)
set_option maxHeartbeats 4000000 in
theorem wk_shorten_12 {p : Program} {l : Launch} {e : Env} {s : State} {m : MethodId} {args : Array Value} {below : List Frame} {meth : Method} {c : Code} {D : va_G} {dA : Nat → ClassId} {ad : Nat → Nat} {σ0 : St} {sz : Nat} (C : CxM p s m meth c args (AM dA ad σ0 sz) RX10 cX10_shorten 6 none) {Qr : St → Prop} {K2 : Int32 → St → Prop} (hK2 : ∀ (v1 : Int32) (σ : St) (H : Heap) (locs : List Loc) (ls : Array Slot), K2 v1 σ → wM D dA ad (AM dA ad σ0 sz) s σ H locs → lv_has ls 6 [(0, .ref (ad 0)), (1, .int v1)] → W p l e rm_shorten s m args below meth c H locs 0 0 (MQ below (va_Qv Qr (BM D dA ad (AM dA ad σ0 sz)) (AM dA ad σ0 sz)) args s 0 0 (AM dA ad σ0 sz)) (F0 m 2 ls [])) : ∀ (n : Nat) (v1 : Int32) (v2 : Int32) (σ : St) (H : Heap) (locs : List Loc) (ls : Array Slot), wp_shorten_12 Qr K2 n v1 v2 σ → wM D dA ad (AM dA ad σ0 sz) s σ H locs → lv_has ls 6 [(0, .ref (ad 0)), (1, .int v1), (2, .int v2)] → W p l e rm_shorten s m args below meth c H locs 0 0 (MQ below (va_Qv Qr (BM D dA ad (AM dA ad σ0 sz)) (AM dA ad σ0 sz)) args s 0 0 (AM dA ad σ0 sz)) (F0 m 12 ls []) := by
  intro n
  induction n with
  | zero => intro v1 v2 σ H locs ls hw; exact hw.elim
  | succ n12 ih =>
    intro v1 v2 σ H locs ls hw hM hl
    have hx := C.1
    have hb := C.2.1
    have hown := C.2.2.2.2.2.1
    have hts := C.2.2.2.2.2.2.1
    unfold wp_shorten_12 at hw
    refine lv_aload_n hx hb dX10_shorten_12 rfl (lv_at hl 0 rfl) ?_
    refine rM_get C hM 30 (by decide) (fM_30 ad σ) q1420 rfl dX10_shorten_13 ?_
    refine lv_bipush (v := 6) hx hb dX10_shorten_16 (by decide) ?_
    refine lv_iload_n hx hb dX10_shorten_18 rfl (lv_at hl 1 rfl) ?_
    refine lv_imul hx hb dX10_shorten_19 ?_
    refine lv_iload_n hx hb dX10_shorten_20 rfl (lv_at hl 2 rfl) ?_
    refine lv_iadd hx hb dX10_shorten_21 ?_
    refine rM_lald C hM 30 18 (wM_30 dA ad σ) hw.1 dX10_shorten_22 ?_
    have hw := hw.2
    refine lv_lconst (v := 0) hx hb dX10_shorten_23 (by decide) ?_
    refine W.lcmp hx hb dX10_shorten_24 ?_
    refine lv_if_ne (tgt := 34) hx hb dX10_shorten_25 (by decide) (fun hc => ?_) (fun hc => ?_)
    · have hw := hw.1 hc
      refine lv_aload_n hx hb dX10_shorten_34 rfl (lv_at hl 0 rfl) ?_
      refine rM_get C hM 32 (by decide) (fM_32 ad σ) q1422 rfl dX10_shorten_35 ?_
      refine lv_iload_n hx hb dX10_shorten_38 rfl (lv_at hl 2 rfl) ?_
      refine rM_lald C hM 32 19 (wM_32 dA ad σ) hw.1 dX10_shorten_39 ?_
      have hw := hw.2
      refine lv_aload_n hx hb dX10_shorten_40 rfl (lv_at hl 0 rfl) ?_
      refine rM_get C hM 30 (by decide) (fM_30 ad σ) q1420 rfl dX10_shorten_41 ?_
      refine lv_bipush (v := 6) hx hb dX10_shorten_44 (by decide) ?_
      refine lv_iload_n hx hb dX10_shorten_46 rfl (lv_at hl 1 rfl) ?_
      refine lv_imul hx hb dX10_shorten_47 ?_
      refine lv_iload_n hx hb dX10_shorten_48 rfl (lv_at hl 2 rfl) ?_
      refine lv_iadd hx hb dX10_shorten_49 ?_
      refine rM_lald C hM 30 18 (wM_30 dA ad σ) hw.1 dX10_shorten_50 ?_
      have hw := hw.2
      refine lv_ldiv hx hb dX10_shorten_51 hw.1 ?_
      have hw := hw.2
      refine lv_topl (fun y1 ey1 => ?_)
      have hw := hw y1 ey1
      refine lv_lstore_n (lv' := [(3, .long y1), (0, .ref (ad 0)), (1, .int v1), (2, .int v2)]) hx hb dX10_shorten_52 rfl hl (by decide) rfl (fun ls hl => ?_)
      refine lv_iconst (v := 0) hx hb dX10_shorten_53 (by decide) ?_
      refine lv_istore (lv' := [(5, .int 0), (3, .long y1), (0, .ref (ad 0)), (1, .int v1), (2, .int v2)]) hx hb dX10_shorten_54 hl (by decide) rfl (fun ls hl => ?_)
      obtain ⟨n56, hw⟩ := hw
      exact wk_shorten_56 C hK2 n56 v1 y1 0 σ _ _ ls hw hM (lv_sub hl [2, 3, 1, 0] rfl)
    · have hw := hw.2 hc
      obtain ⟨x2, ex2⟩ : ∃ y : Int32, y = v2 + 1 := ⟨_, rfl⟩
      have hw := hw x2 ex2
      refine lv_iinc (v := x2) (lv' := [(2, .int x2), (0, .ref (ad 0)), (1, .int v1)]) hx hb dX10_shorten_28 hl (k := 2) rfl (by rw [ex2]; rfl) (by decide) rfl (fun ls hl => ?_)
      refine lv_goto (tgt := 12) hx hb dX10_shorten_31 (by decide) ?_
      exact ih v1 x2 σ _ _ ls hw hM (lv_sub hl [1, 2, 0] rfl)
set_option maxHeartbeats 4000000 in
theorem wk_shorten_2 {p : Program} {l : Launch} {e : Env} {s : State} {m : MethodId} {args : Array Value} {below : List Frame} {meth : Method} {c : Code} {D : va_G} {dA : Nat → ClassId} {ad : Nat → Nat} {σ0 : St} {sz : Nat} (C : CxM p s m meth c args (AM dA ad σ0 sz) RX10 cX10_shorten 6 none) {Qr : St → Prop} : ∀ (n : Nat) (v1 : Int32) (σ : St) (H : Heap) (locs : List Loc) (ls : Array Slot), wp_shorten_2 Qr n v1 σ → wM D dA ad (AM dA ad σ0 sz) s σ H locs → lv_has ls 6 [(0, .ref (ad 0)), (1, .int v1)] → W p l e rm_shorten s m args below meth c H locs 0 0 (MQ below (va_Qv Qr (BM D dA ad (AM dA ad σ0 sz)) (AM dA ad σ0 sz)) args s 0 0 (AM dA ad σ0 sz)) (F0 m 2 ls []) := by
  intro n
  induction n with
  | zero => intro v1 σ H locs ls hw; exact hw.elim
  | succ n2 ih =>
    intro v1 σ H locs ls hw hM hl
    have hx := C.1
    have hb := C.2.1
    have hown := C.2.2.2.2.2.1
    have hts := C.2.2.2.2.2.2.1
    unfold wp_shorten_2 at hw
    refine lv_iload_n hx hb dX10_shorten_2 rfl (lv_at hl 1 rfl) ?_
    refine lv_aload_n hx hb dX10_shorten_3 rfl (lv_at hl 0 rfl) ?_
    refine rM_get C hM 31 (by decide) (fM_31 ad σ) q1421 rfl dX10_shorten_4 ?_
    refine lv_icmp_ge (tgt := 106) hx hb dX10_shorten_7 (by decide) (fun hc => ?_) (fun hc => ?_)
    · have hw := hw.1 hc
      exact rM_vret C hM hw dX10_shorten_106
    · have hw := hw.2 hc
      refine lv_iconst (v := 0) hx hb dX10_shorten_10 (by decide) ?_
      refine lv_istore_n (lv' := [(2, .int 0), (0, .ref (ad 0)), (1, .int v1)]) hx hb dX10_shorten_11 rfl hl (by decide) rfl (fun ls hl => ?_)
      obtain ⟨n12, hw⟩ := hw
      exact wk_shorten_12 C ih n12 v1 0 σ _ _ ls hw hM (lv_sub hl [1, 2, 0] rfl)
set_option maxHeartbeats 4000000 in
/-- private void shorten(); -/
theorem mt_shorten (l : Launch) (D : va_G) (dA : Nat → ClassId) (ad : Nat → Nat) (sz : Nat) (σ : St) (Qr : St → Prop) (hw : wp_shorten  σ Qr) : Met l yX10_shorten (ws_ yX10_shorten cX10_shorten 6 none) rm_shorten (PcM D dA ad σ sz [.ref (ad 0)]) (va_Qv Qr (BM D dA ad (AM dA ad σ sz)) (AM dA ad σ sz)) 0 0 (AM dA ad σ sz) := by
  refine Met.ofW (cc := cX10_shorten) (maxL := 6) (ret := none) (by decide) rfl ?_
  intro p e s m args below meth c s₁ B hml hv
  obtain ⟨rfl, hsz, hP, hK, hD0⟩ := hv
  subst hsz
  have hts0 := atoms_spec (ws := ws_ yX10_shorten cX10_shorten 6 none) B.pre
  have C : CxM p s m meth c _ (AM dA ad σ s.heap.size) RX10 cX10_shorten 6 none := ⟨B.exec, B.bytes, B.returns, B.notSynchronized, hml, findClass_of_methodNamed B.named, fun w h => hts0 w (List.mem_cons_of_mem _ h), fun q h => Or.inr h⟩
  have hM : wM D dA ad (AM dA ad σ s.heap.size) s σ s.heap [] := ⟨hK, hP, hD0.self, va_S.rf⟩
  have hx := C.1
  have hb := C.2.1
  have hown := C.2.2.2.2.2.1
  have hts := C.2.2.2.2.2.2.1
  have hl := lv_entry ([.ref (ad 0)]) (n := 6) (Nat.le_of_ble_eq_true rfl)
  rw [lg_entry_eq]
  generalize (lg_sl ([.ref (ad 0)]) ++ List.replicate (6 - (lg_sl ([.ref (ad 0)])).length) Slot.unset).toArray = ls at hl ⊢
  have hl : lv_has ls 6 [(0, .ref (ad 0))] := hl
  unfold wp_shorten at hw
  refine lv_iconst (v := 0) hx hb dX10_shorten_0 (by decide) ?_
  refine lv_istore_n (lv' := [(1, .int 0), (0, .ref (ad 0))]) hx hb dX10_shorten_1 rfl hl (by decide) rfl (fun ls hl => ?_)
  obtain ⟨n2, hw⟩ := hw
  exact wk_shorten_2 C  n2 0 σ _ _ ls hw hM (lv_sub hl [1, 0] rfl)
abbrev rm_solveWhole : Room := { frames := 3, cells := 0, slots := 0, locals := 82 }
set_option maxHeartbeats 4000000 in
theorem wk_solveWhole_72 {p : Program} {l : Launch} {e : Env} {s : State} {m : MethodId} {args : Array Value} {below : List Frame} {meth : Method} {c : Code} {D : va_G} {dA : Nat → ClassId} {ad : Nat → Nat} {σ0 : St} {sz : Nat} (C : CxM p s m meth c args (AM dA ad σ0 sz) RX10 cX10_solveWhole 2 none) {Qr : St → Prop} : ∀ (n : Nat) (v1 : Int32) (σ : St) (H : Heap) (locs : List Loc) (ls : Array Slot), wp_solveWhole_72 Qr n v1 σ → wM D dA ad (AM dA ad σ0 sz) s σ H locs → lv_has ls 2 [(0, .ref (ad 0)), (1, .int v1)] → W p l e rm_solveWhole s m args below meth c H locs 0 0 (MQ below (va_Qv Qr (BM D dA ad (AM dA ad σ0 sz)) (AM dA ad σ0 sz)) args s 0 0 (AM dA ad σ0 sz)) (F0 m 72 ls []) := by
  intro n
  induction n with
  | zero => intro v1 σ H locs ls hw; exact hw.elim
  | succ n72 ih =>
    intro v1 σ H locs ls hw hM hl
    have hx := C.1
    have hb := C.2.1
    have hown := C.2.2.2.2.2.1
    have hts := C.2.2.2.2.2.2.1
    unfold wp_solveWhole_72 at hw
    refine lv_iload_n hx hb dX10_solveWhole_72 rfl (lv_at hl 1 rfl) ?_
    refine lv_aload_n hx hb dX10_solveWhole_73 rfl (lv_at hl 0 rfl) ?_
    refine rM_get C hM 15 (by decide) (fM_15 ad σ) q1405 rfl dX10_solveWhole_74 ?_
    refine lv_icmp_ge (tgt := 99) hx hb dX10_solveWhole_77 (by decide) (fun hc => ?_) (fun hc => ?_)
    · have hw := hw.1 hc
      exact rM_vret C hM hw dX10_solveWhole_99
    · have hw := hw.2 hc
      refine lv_aload_n hx hb dX10_solveWhole_80 rfl (lv_at hl 0 rfl) ?_
      refine lv_iload_n hx hb dX10_solveWhole_81 rfl (lv_at hl 1 rfl) ?_
      refine rM_callVv (n := 1) (As := [.int v1]) C hM hl.1 (mt_narrow l D dA ad _ σ v1 _ hw) (lw_V q1571 q1573 qs55 q93 q1574) rfl rfl (by decide +kernel) ⟨Nat.le_of_ble_eq_true rfl, Nat.le_of_ble_eq_true rfl⟩ rfl (Nat.le_of_ble_eq_true rfl) ⟨Nat.zero_le _, Nat.zero_le _⟩ rfl dX10_solveWhole_82 (fun σ1 H locs hw hM => ?_)
      refine lv_aload_n hx hb dX10_solveWhole_85 rfl (lv_at hl 0 rfl) ?_
      refine rM_callVv (n := 0) (As := []) C hM hl.1 (mt_order l D dA ad _ σ1  _ hw) (lw_V q1590 q1592 qs59 q93 q1593) rfl rfl (by decide +kernel) ⟨Nat.le_of_ble_eq_true rfl, Nat.le_of_ble_eq_true rfl⟩ rfl (Nat.le_of_ble_eq_true rfl) ⟨Nat.zero_le _, Nat.zero_le _⟩ rfl dX10_solveWhole_86 (fun σ2 H locs hw hM => ?_)
      refine lv_aload_n hx hb dX10_solveWhole_89 rfl (lv_at hl 0 rfl) ?_
      refine rM_callVv (n := 0) (As := []) C hM hl.1 (mt_shorten l D dA ad _ σ2  _ hw) (lw_V q1602 q1604 qs62 q93 q1605) rfl rfl (by decide +kernel) ⟨Nat.le_of_ble_eq_true rfl, Nat.le_of_ble_eq_true rfl⟩ rfl (Nat.le_of_ble_eq_true rfl) ⟨Nat.zero_le _, Nat.zero_le _⟩ rfl dX10_solveWhole_90 (fun σ3 H locs hw hM => ?_)
      obtain ⟨x4, ex4⟩ : ∃ y : Int32, y = v1 + 1 := ⟨_, rfl⟩
      have hw := hw x4 ex4
      refine lv_iinc (v := x4) (lv' := [(1, .int x4), (0, .ref (ad 0))]) hx hb dX10_solveWhole_93 hl (k := 1) rfl (by rw [ex4]; rfl) (by decide) rfl (fun ls hl => ?_)
      refine lv_goto (tgt := 72) hx hb dX10_solveWhole_96 (by decide) ?_
      exact ih x4 σ3 _ _ ls hw hM (lv_sub hl [1, 0] rfl)
set_option maxHeartbeats 4000000 in
theorem wk_solveWhole_51 {p : Program} {l : Launch} {e : Env} {s : State} {m : MethodId} {args : Array Value} {below : List Frame} {meth : Method} {c : Code} {D : va_G} {dA : Nat → ClassId} {ad : Nat → Nat} {σ0 : St} {sz : Nat} (C : CxM p s m meth c args (AM dA ad σ0 sz) RX10 cX10_solveWhole 2 none) {Qr : St → Prop} : ∀ (n : Nat) (v1 : Int32) (σ : St) (H : Heap) (locs : List Loc) (ls : Array Slot), wp_solveWhole_51 Qr n v1 σ → wM D dA ad (AM dA ad σ0 sz) s σ H locs → lv_has ls 2 [(0, .ref (ad 0)), (1, .int v1)] → W p l e rm_solveWhole s m args below meth c H locs 0 0 (MQ below (va_Qv Qr (BM D dA ad (AM dA ad σ0 sz)) (AM dA ad σ0 sz)) args s 0 0 (AM dA ad σ0 sz)) (F0 m 51 ls []) := by
  intro n
  induction n with
  | zero => intro v1 σ H locs ls hw; exact hw.elim
  | succ n51 ih =>
    intro v1 σ H locs ls hw hM hl
    have hx := C.1
    have hb := C.2.1
    have hown := C.2.2.2.2.2.1
    have hts := C.2.2.2.2.2.2.1
    unfold wp_solveWhole_51 at hw
    refine lv_iload_n hx hb dX10_solveWhole_51 rfl (lv_at hl 1 rfl) ?_
    refine lv_bipush (v := 6) hx hb dX10_solveWhole_52 (by decide) ?_
    refine lv_icmp_ge (tgt := 70) hx hb dX10_solveWhole_54 (by decide) (fun hc => ?_) (fun hc => ?_)
    · have hw := hw.1 hc
      refine lv_iconst (v := 0) hx hb dX10_solveWhole_70 (by decide) ?_
      refine lv_istore_n (lv' := [(1, .int 0), (0, .ref (ad 0))]) hx hb dX10_solveWhole_71 rfl hl (by decide) rfl (fun ls hl => ?_)
      obtain ⟨n72, hw⟩ := hw
      exact wk_solveWhole_72 C  n72 0 σ _ _ ls hw hM (lv_sub hl [1, 0] rfl)
    · have hw := hw.2 hc
      refine lv_aload_n hx hb dX10_solveWhole_57 rfl (lv_at hl 0 rfl) ?_
      refine rM_get C hM 32 (by decide) (fM_32 ad σ) q1422 rfl dX10_solveWhole_58 ?_
      refine lv_iload_n hx hb dX10_solveWhole_61 rfl (lv_at hl 1 rfl) ?_
      refine lv_lconst (v := 0) hx hb dX10_solveWhole_62 (by decide) ?_
      refine rM_last C hM 32 19 (wM_32 dA ad σ) (wM_s32 dA ad σ _ _) hw.1 dX10_solveWhole_63 (fun σ1 H locs eσ hM => ?_)
      have hw := hw.2 σ1 eσ
      clear eσ
      obtain ⟨x2, ex2⟩ : ∃ y : Int32, y = v1 + 1 := ⟨_, rfl⟩
      have hw := hw x2 ex2
      refine lv_iinc (v := x2) (lv' := [(1, .int x2), (0, .ref (ad 0))]) hx hb dX10_solveWhole_64 hl (k := 1) rfl (by rw [ex2]; rfl) (by decide) rfl (fun ls hl => ?_)
      refine lv_goto (tgt := 51) hx hb dX10_solveWhole_67 (by decide) ?_
      exact ih x2 σ1 _ _ ls hw hM (lv_sub hl [1, 0] rfl)
set_option maxHeartbeats 4000000 in
theorem wk_solveWhole_42 {p : Program} {l : Launch} {e : Env} {s : State} {m : MethodId} {args : Array Value} {below : List Frame} {meth : Method} {c : Code} {D : va_G} {dA : Nat → ClassId} {ad : Nat → Nat} {σ0 : St} {sz : Nat} (C : CxM p s m meth c args (AM dA ad σ0 sz) RX10 cX10_solveWhole 2 none) {Qr : St → Prop} {K15 : Int32 → St → Prop} (hK15 : ∀ (v1 : Int32) (σ : St) (H : Heap) (locs : List Loc) (ls : Array Slot), K15 v1 σ → wM D dA ad (AM dA ad σ0 sz) s σ H locs → lv_has ls 2 [(0, .ref (ad 0)), (1, .int v1)] → W p l e rm_solveWhole s m args below meth c H locs 0 0 (MQ below (va_Qv Qr (BM D dA ad (AM dA ad σ0 sz)) (AM dA ad σ0 sz)) args s 0 0 (AM dA ad σ0 sz)) (F0 m 15 ls [])) : ∀ (v1 : Int32) (u1 : Int32) (u2 : Int64) (σ : St) (H : Heap) (locs : List Loc) (ls : Array Slot), wp_solveWhole_42 Qr K15 v1 u1 u2 σ → wM D dA ad (AM dA ad σ0 sz) s σ H locs → lv_has ls 2 [(0, .ref (ad 0)), (1, .int v1)] → W p l e rm_solveWhole s m args below meth c H locs 0 0 (MQ below (va_Qv Qr (BM D dA ad (AM dA ad σ0 sz)) (AM dA ad σ0 sz)) args s 0 0 (AM dA ad σ0 sz)) (F0 m 42 ls [.long u2, .int u1, .ref (ad 30)]) := by
  intro v1 u1 u2 σ H locs ls hw hM hl
  have hx := C.1
  have hb := C.2.1
  have hown := C.2.2.2.2.2.1
  have hts := C.2.2.2.2.2.2.1
  unfold wp_solveWhole_42 at hw
  refine rM_last C hM 30 18 (wM_30 dA ad σ) (wM_s30 dA ad σ _ _) hw.1 dX10_solveWhole_42 (fun σ1 H locs eσ hM => ?_)
  have hw := hw.2 σ1 eσ
  clear eσ
  obtain ⟨x2, ex2⟩ : ∃ y : Int32, y = v1 + 1 := ⟨_, rfl⟩
  have hw := hw x2 ex2
  refine lv_iinc (v := x2) (lv' := [(1, .int x2), (0, .ref (ad 0))]) hx hb dX10_solveWhole_43 hl (k := 1) rfl (by rw [ex2]; rfl) (by decide) rfl (fun ls hl => ?_)
  refine lv_goto (tgt := 15) hx hb dX10_solveWhole_46 (by decide) ?_
  exact hK15 x2 σ1 _ _ ls hw hM (lv_sub hl [1, 0] rfl)
set_option maxHeartbeats 4000000 in
theorem wk_solveWhole_15 {p : Program} {l : Launch} {e : Env} {s : State} {m : MethodId} {args : Array Value} {below : List Frame} {meth : Method} {c : Code} {D : va_G} {dA : Nat → ClassId} {ad : Nat → Nat} {σ0 : St} {sz : Nat} (C : CxM p s m meth c args (AM dA ad σ0 sz) RX10 cX10_solveWhole 2 none) {Qr : St → Prop} : ∀ (n : Nat) (v1 : Int32) (σ : St) (H : Heap) (locs : List Loc) (ls : Array Slot), wp_solveWhole_15 Qr n v1 σ → wM D dA ad (AM dA ad σ0 sz) s σ H locs → lv_has ls 2 [(0, .ref (ad 0)), (1, .int v1)] → W p l e rm_solveWhole s m args below meth c H locs 0 0 (MQ below (va_Qv Qr (BM D dA ad (AM dA ad σ0 sz)) (AM dA ad σ0 sz)) args s 0 0 (AM dA ad σ0 sz)) (F0 m 15 ls []) := by
  intro n
  induction n with
  | zero => intro v1 σ H locs ls hw; exact hw.elim
  | succ n15 ih =>
    intro v1 σ H locs ls hw hM hl
    have hx := C.1
    have hb := C.2.1
    have hown := C.2.2.2.2.2.1
    have hts := C.2.2.2.2.2.2.1
    unfold wp_solveWhole_15 at hw
    refine lv_iload_n hx hb dX10_solveWhole_15 rfl (lv_at hl 1 rfl) ?_
    refine lv_bipush (v := 36) hx hb dX10_solveWhole_16 (by decide) ?_
    refine lv_icmp_ge (tgt := 49) hx hb dX10_solveWhole_18 (by decide) (fun hc => ?_) (fun hc => ?_)
    · have hw := hw.1 hc
      refine lv_iconst (v := 0) hx hb dX10_solveWhole_49 (by decide) ?_
      refine lv_istore_n (lv' := [(1, .int 0), (0, .ref (ad 0))]) hx hb dX10_solveWhole_50 rfl hl (by decide) rfl (fun ls hl => ?_)
      obtain ⟨n51, hw⟩ := hw
      exact wk_solveWhole_51 C  n51 0 σ _ _ ls hw hM (lv_sub hl [1, 0] rfl)
    · have hw := hw.2 hc
      refine lv_aload_n hx hb dX10_solveWhole_21 rfl (lv_at hl 0 rfl) ?_
      refine rM_get C hM 30 (by decide) (fM_30 ad σ) q1420 rfl dX10_solveWhole_22 ?_
      refine lv_iload_n hx hb dX10_solveWhole_25 rfl (lv_at hl 1 rfl) ?_
      refine lv_iload_n hx hb dX10_solveWhole_26 rfl (lv_at hl 1 rfl) ?_
      refine lv_bipush (v := 6) hx hb dX10_solveWhole_27 (by decide) ?_
      refine lv_irem hx hb dX10_solveWhole_29 (by decide) ?_
      refine lv_iload_n hx hb dX10_solveWhole_30 rfl (lv_at hl 1 rfl) ?_
      refine lv_bipush (v := 6) hx hb dX10_solveWhole_31 (by decide) ?_
      refine lv_idiv hx hb dX10_solveWhole_33 (by decide) ?_
      refine lv_icmp_ne (tgt := 41) hx hb dX10_solveWhole_34 (by decide) (fun hc => ?_) (fun hc => ?_)
      · have hw := hw.1 hc
        refine lv_lconst (v := 0) hx hb dX10_solveWhole_41 (by decide) ?_
        exact wk_solveWhole_42 C ih v1 v1 0 σ _ _ ls hw hM (lv_sub hl [0, 1] rfl)
      · have hw := hw.2 hc
        refine lv_lconst (v := 1) hx hb dX10_solveWhole_37 (by decide) ?_
        refine lv_goto (tgt := 42) hx hb dX10_solveWhole_38 (by decide) ?_
        exact wk_solveWhole_42 C ih v1 v1 1 σ _ _ ls hw hM (lv_sub hl [0, 1] rfl)
set_option maxHeartbeats 4000000 in
/-- private void solveWhole(); -/
theorem mt_solveWhole (l : Launch) (D : va_G) (dA : Nat → ClassId) (ad : Nat → Nat) (sz : Nat) (σ : St) (Qr : St → Prop) (hw : wp_solveWhole  σ Qr) : Met l yX10_solveWhole (ws_ yX10_solveWhole cX10_solveWhole 2 none) rm_solveWhole (PcM D dA ad σ sz [.ref (ad 0)]) (va_Qv Qr (BM D dA ad (AM dA ad σ sz)) (AM dA ad σ sz)) 0 0 (AM dA ad σ sz) := by
  refine Met.ofW (cc := cX10_solveWhole) (maxL := 2) (ret := none) (by decide) rfl ?_
  intro p e s m args below meth c s₁ B hml hv
  obtain ⟨rfl, hsz, hP, hK, hD0⟩ := hv
  subst hsz
  have hts0 := atoms_spec (ws := ws_ yX10_solveWhole cX10_solveWhole 2 none) B.pre
  have C : CxM p s m meth c _ (AM dA ad σ s.heap.size) RX10 cX10_solveWhole 2 none := ⟨B.exec, B.bytes, B.returns, B.notSynchronized, hml, findClass_of_methodNamed B.named, fun w h => hts0 w (List.mem_cons_of_mem _ h), fun q h => Or.inr h⟩
  have hM : wM D dA ad (AM dA ad σ s.heap.size) s σ s.heap [] := ⟨hK, hP, hD0.self, va_S.rf⟩
  have hx := C.1
  have hb := C.2.1
  have hown := C.2.2.2.2.2.1
  have hts := C.2.2.2.2.2.2.1
  have hl := lv_entry ([.ref (ad 0)]) (n := 2) (Nat.le_of_ble_eq_true rfl)
  rw [lg_entry_eq]
  generalize (lg_sl ([.ref (ad 0)]) ++ List.replicate (2 - (lg_sl ([.ref (ad 0)])).length) Slot.unset).toArray = ls at hl ⊢
  have hl : lv_has ls 2 [(0, .ref (ad 0))] := hl
  unfold wp_solveWhole at hw
  refine lv_aload_n hx hb dX10_solveWhole_0 rfl (lv_at hl 0 rfl) ?_
  refine lv_aload_n hx hb dX10_solveWhole_1 rfl (lv_at hl 0 rfl) ?_
  refine rM_get C hM 17 (by decide) (fM_17 ad σ) q1407 rfl dX10_solveWhole_2 ?_
  refine rM_putI C hM 31 (by decide) (fM_s31 dA ad σ _) q1421 rfl rfl (tyX10_ok 31 (by decide)) rfl rfl dX10_solveWhole_5 (fun σ1 H locs eσ hM => ?_)
  have hw := hw σ1 eσ
  clear eσ
  refine lv_aload_n hx hb dX10_solveWhole_8 rfl (lv_at hl 0 rfl) ?_
  refine lv_iconst (v := 1) hx hb dX10_solveWhole_9 (by decide) ?_
  refine rM_putI C hM 33 (by decide) (fM_s33 dA ad σ1 _) q1423 rfl rfl (tyX10_ok 33 (by decide)) (isB_n isB_1) (isB_f isB_1) dX10_solveWhole_10 (fun σ2 H locs eσ hM => ?_)
  have hw := hw σ2 eσ
  clear eσ
  refine lv_iconst (v := 0) hx hb dX10_solveWhole_13 (by decide) ?_
  refine lv_istore_n (lv' := [(1, .int 0), (0, .ref (ad 0))]) hx hb dX10_solveWhole_14 rfl hl (by decide) rfl (fun ls hl => ?_)
  obtain ⟨n15, hw⟩ := hw
  exact wk_solveWhole_15 C  n15 0 σ2 _ _ ls hw hM (lv_sub hl [1, 0] rfl)
abbrev rm_solvable : Room := { frames := 4, cells := 0, slots := 0, locals := 103 }
set_option maxHeartbeats 4000000 in
theorem wk_solvable_41 {p : Program} {l : Launch} {e : Env} {s : State} {m : MethodId} {args : Array Value} {below : List Frame} {meth : Method} {c : Code} {D : va_G} {dA : Nat → ClassId} {ad : Nat → Nat} {σ0 : St} {sz : Nat} (C : CxM p s m meth c args (AM dA ad σ0 sz) RX10 cX10_solvable 1 (some .int)) {Qr : Int32 → St → Prop} : ∀ (u0 : Int32) (σ : St) (H : Heap) (locs : List Loc) (ls : Array Slot), wp_solvable_41 Qr u0 σ → wM D dA ad (AM dA ad σ0 sz) s σ H locs → lv_has ls 1 [(0, .ref (ad 0))] → W p l e rm_solvable s m args below meth c H locs 0 0 (MQ below (va_Qi Qr (BM D dA ad (AM dA ad σ0 sz)) (AM dA ad σ0 sz)) args s 0 0 (AM dA ad σ0 sz)) (F0 m 41 ls [.int u0]) := by
  intro u0 σ H locs ls hw hM hl
  have hx := C.1
  have hb := C.2.1
  have hown := C.2.2.2.2.2.1
  have hts := C.2.2.2.2.2.2.1
  unfold wp_solvable_41 at hw
  exact rM_iret C hM hw dX10_solvable_41
set_option maxHeartbeats 4000000 in
theorem wk_solvable_13 {p : Program} {l : Launch} {e : Env} {s : State} {m : MethodId} {args : Array Value} {below : List Frame} {meth : Method} {c : Code} {D : va_G} {dA : Nat → ClassId} {ad : Nat → Nat} {σ0 : St} {sz : Nat} (C : CxM p s m meth c args (AM dA ad σ0 sz) RX10 cX10_solvable 1 (some .int)) {Qr : Int32 → St → Prop} : ∀ (u1 : Int32) (σ : St) (H : Heap) (locs : List Loc) (ls : Array Slot), wp_solvable_13 Qr u1 σ → wM D dA ad (AM dA ad σ0 sz) s σ H locs → lv_has ls 1 [(0, .ref (ad 0))] → W p l e rm_solvable s m args below meth c H locs 0 0 (MQ below (va_Qi Qr (BM D dA ad (AM dA ad σ0 sz)) (AM dA ad σ0 sz)) args s 0 0 (AM dA ad σ0 sz)) (F0 m 13 ls [.int u1, .ref (ad 0)]) := by
  intro u1 σ H locs ls hw hM hl
  have hx := C.1
  have hb := C.2.1
  have hown := C.2.2.2.2.2.1
  have hts := C.2.2.2.2.2.2.1
  unfold wp_solvable_13 at hw
  refine rM_putI C hM 0 (by decide) (fM_s0 dA ad σ _) q1390 rfl rfl (tyX10_ok 0 (by decide)) rfl rfl dX10_solvable_13 (fun σ1 H locs eσ hM => ?_)
  have hw := hw σ1 eσ
  clear eσ
  refine lv_aload_n hx hb dX10_solvable_16 rfl (lv_at hl 0 rfl) ?_
  refine rM_get C hM 0 (by decide) (fM_0 ad σ1) q1390 rfl dX10_solvable_17 ?_
  refine lv_if_le (tgt := 25) hx hb dX10_solvable_20 (by decide) (fun hc => ?_) (fun hc => ?_)
  · have hw := hw.1 hc
    refine lv_aload_n hx hb dX10_solvable_25 rfl (lv_at hl 0 rfl) ?_
    refine rM_callVv (n := 0) (As := []) C hM hl.1 (mt_solveWhole l D dA ad _ σ1  _ hw) (lw_V q1567 q1569 qs54 q93 q1570) rfl rfl (by decide +kernel) ⟨Nat.le_of_ble_eq_true rfl, Nat.le_of_ble_eq_true rfl⟩ rfl (Nat.le_of_ble_eq_true rfl) ⟨Nat.zero_le _, Nat.zero_le _⟩ rfl dX10_solvable_26 (fun σ2 H locs hw hM => ?_)
    refine lv_aload_n hx hb dX10_solvable_29 rfl (lv_at hl 0 rfl) ?_
    refine rM_get C hM 33 (by decide) (fM_33 ad σ2) q1423 rfl dX10_solvable_30 ?_
    refine lv_if_eq (tgt := 40) hx hb dX10_solvable_33 (by decide) (fun hc => ?_) (fun hc => ?_)
    · have hw := hw.1 hc
      refine lv_iconst (v := 0) hx hb dX10_solvable_40 (by decide) ?_
      exact wk_solvable_41 C  0 σ2 _ _ ls hw hM (lv_sub hl [0] rfl)
    · have hw := hw.2 hc
      refine lv_iconst (v := 1) hx hb dX10_solvable_36 (by decide) ?_
      refine lv_goto (tgt := 41) hx hb dX10_solvable_37 (by decide) ?_
      exact wk_solvable_41 C  1 σ2 _ _ ls hw hM (lv_sub hl [0] rfl)
  · have hw := hw.2 hc
    refine lv_iconst (v := 0) hx hb dX10_solvable_23 (by decide) ?_
    exact rM_iret C hM hw dX10_solvable_24
set_option maxHeartbeats 4000000 in
/-- public int solvable(); -/
theorem mt_solvable (l : Launch) (D : va_G) (dA : Nat → ClassId) (ad : Nat → Nat) (sz : Nat) (σ : St) (Qr : Int32 → St → Prop) (hw : wp_solvable  σ Qr) : Met l yX10_solvable (ws_ yX10_solvable cX10_solvable 1 (some .int)) rm_solvable (PcM D dA ad σ sz [.ref (ad 0)]) (va_Qi Qr (BM D dA ad (AM dA ad σ sz)) (AM dA ad σ sz)) 0 0 (AM dA ad σ sz) := by
  refine Met.ofW (cc := cX10_solvable) (maxL := 1) (ret := (some .int)) (by decide) rfl ?_
  intro p e s m args below meth c s₁ B hml hv
  obtain ⟨rfl, hsz, hP, hK, hD0⟩ := hv
  subst hsz
  have hts0 := atoms_spec (ws := ws_ yX10_solvable cX10_solvable 1 (some .int)) B.pre
  have C : CxM p s m meth c _ (AM dA ad σ s.heap.size) RX10 cX10_solvable 1 (some .int) := ⟨B.exec, B.bytes, B.returns, B.notSynchronized, hml, findClass_of_methodNamed B.named, fun w h => hts0 w (List.mem_cons_of_mem _ h), fun q h => Or.inr h⟩
  have hM : wM D dA ad (AM dA ad σ s.heap.size) s σ s.heap [] := ⟨hK, hP, hD0.self, va_S.rf⟩
  have hx := C.1
  have hb := C.2.1
  have hown := C.2.2.2.2.2.1
  have hts := C.2.2.2.2.2.2.1
  have hl := lv_entry ([.ref (ad 0)]) (n := 1) (Nat.le_of_ble_eq_true rfl)
  rw [lg_entry_eq]
  generalize (lg_sl ([.ref (ad 0)]) ++ List.replicate (1 - (lg_sl ([.ref (ad 0)])).length) Slot.unset).toArray = ls at hl ⊢
  have hl : lv_has ls 1 [(0, .ref (ad 0))] := hl
  unfold wp_solvable at hw
  refine lv_aload_n hx hb dX10_solvable_0 rfl (lv_at hl 0 rfl) ?_
  refine lv_aload_n hx hb dX10_solvable_1 rfl (lv_at hl 0 rfl) ?_
  refine rM_get C hM 14 (by decide) (fM_14 ad σ) q1404 rfl dX10_solvable_2 ?_
  refine lv_if_eq (tgt := 12) hx hb dX10_solvable_5 (by decide) (fun hc => ?_) (fun hc => ?_)
  · have hw := hw.1 hc
    refine lv_iconst (v := 1) hx hb dX10_solvable_12 (by decide) ?_
    exact wk_solvable_13 C  1 σ _ _ ls hw hM (lv_sub hl [0] rfl)
  · have hw := hw.2 hc
    refine lv_iconst (v := 0) hx hb dX10_solvable_8 (by decide) ?_
    refine lv_goto (tgt := 13) hx hb dX10_solvable_9 (by decide) ?_
    exact wk_solvable_13 C  0 σ _ _ ls hw hM (lv_sub hl [0] rfl)
abbrev rm_kernel : Room := { frames := 4, cells := 0, slots := 0, locals := 103 }
set_option maxHeartbeats 4000000 in
theorem wk_kernel_13 {p : Program} {l : Launch} {e : Env} {s : State} {m : MethodId} {args : Array Value} {below : List Frame} {meth : Method} {c : Code} {D : va_G} {dA : Nat → ClassId} {ad : Nat → Nat} {σ0 : St} {sz : Nat} (C : CxM p s m meth c args (AM dA ad σ0 sz) RX10 cX10_kernel 1 (some .int)) {Qr : Int32 → St → Prop} : ∀ (u1 : Int32) (σ : St) (H : Heap) (locs : List Loc) (ls : Array Slot), wp_kernel_13 Qr u1 σ → wM D dA ad (AM dA ad σ0 sz) s σ H locs → lv_has ls 1 [(0, .ref (ad 0))] → W p l e rm_kernel s m args below meth c H locs 0 0 (MQ below (va_Qi Qr (BM D dA ad (AM dA ad σ0 sz)) (AM dA ad σ0 sz)) args s 0 0 (AM dA ad σ0 sz)) (F0 m 13 ls [.int u1, .ref (ad 0)]) := by
  intro u1 σ H locs ls hw hM hl
  have hx := C.1
  have hb := C.2.1
  have hown := C.2.2.2.2.2.1
  have hts := C.2.2.2.2.2.2.1
  unfold wp_kernel_13 at hw
  refine rM_putI C hM 0 (by decide) (fM_s0 dA ad σ _) q1390 rfl rfl (tyX10_ok 0 (by decide)) rfl rfl dX10_kernel_13 (fun σ1 H locs eσ hM => ?_)
  have hw := hw σ1 eσ
  clear eσ
  refine lv_aload_n hx hb dX10_kernel_16 rfl (lv_at hl 0 rfl) ?_
  refine rM_get C hM 0 (by decide) (fM_0 ad σ1) q1390 rfl dX10_kernel_17 ?_
  refine lv_if_le (tgt := 25) hx hb dX10_kernel_20 (by decide) (fun hc => ?_) (fun hc => ?_)
  · have hw := hw.1 hc
    refine lv_aload_n hx hb dX10_kernel_25 rfl (lv_at hl 0 rfl) ?_
    refine rM_callVv (n := 0) (As := []) C hM hl.1 (mt_solveWhole l D dA ad _ σ1  _ hw) (lw_V q1567 q1569 qs54 q93 q1570) rfl rfl (by decide +kernel) ⟨Nat.le_of_ble_eq_true rfl, Nat.le_of_ble_eq_true rfl⟩ rfl (Nat.le_of_ble_eq_true rfl) ⟨Nat.zero_le _, Nat.zero_le _⟩ rfl dX10_kernel_26 (fun σ2 H locs hw hM => ?_)
    refine lv_aload_n hx hb dX10_kernel_29 rfl (lv_at hl 0 rfl) ?_
    refine rM_get C hM 31 (by decide) (fM_31 ad σ2) q1421 rfl dX10_kernel_30 ?_
    exact rM_iret C hM hw dX10_kernel_33
  · have hw := hw.2 hc
    refine lv_iconst (v := 0) hx hb dX10_kernel_23 (by decide) ?_
    exact rM_iret C hM hw dX10_kernel_24
set_option maxHeartbeats 4000000 in
/-- public int kernel(); -/
theorem mt_kernel (l : Launch) (D : va_G) (dA : Nat → ClassId) (ad : Nat → Nat) (sz : Nat) (σ : St) (Qr : Int32 → St → Prop) (hw : wp_kernel  σ Qr) : Met l yX10_kernel (ws_ yX10_kernel cX10_kernel 1 (some .int)) rm_kernel (PcM D dA ad σ sz [.ref (ad 0)]) (va_Qi Qr (BM D dA ad (AM dA ad σ sz)) (AM dA ad σ sz)) 0 0 (AM dA ad σ sz) := by
  refine Met.ofW (cc := cX10_kernel) (maxL := 1) (ret := (some .int)) (by decide) rfl ?_
  intro p e s m args below meth c s₁ B hml hv
  obtain ⟨rfl, hsz, hP, hK, hD0⟩ := hv
  subst hsz
  have hts0 := atoms_spec (ws := ws_ yX10_kernel cX10_kernel 1 (some .int)) B.pre
  have C : CxM p s m meth c _ (AM dA ad σ s.heap.size) RX10 cX10_kernel 1 (some .int) := ⟨B.exec, B.bytes, B.returns, B.notSynchronized, hml, findClass_of_methodNamed B.named, fun w h => hts0 w (List.mem_cons_of_mem _ h), fun q h => Or.inr h⟩
  have hM : wM D dA ad (AM dA ad σ s.heap.size) s σ s.heap [] := ⟨hK, hP, hD0.self, va_S.rf⟩
  have hx := C.1
  have hb := C.2.1
  have hown := C.2.2.2.2.2.1
  have hts := C.2.2.2.2.2.2.1
  have hl := lv_entry ([.ref (ad 0)]) (n := 1) (Nat.le_of_ble_eq_true rfl)
  rw [lg_entry_eq]
  generalize (lg_sl ([.ref (ad 0)]) ++ List.replicate (1 - (lg_sl ([.ref (ad 0)])).length) Slot.unset).toArray = ls at hl ⊢
  have hl : lv_has ls 1 [(0, .ref (ad 0))] := hl
  unfold wp_kernel at hw
  refine lv_aload_n hx hb dX10_kernel_0 rfl (lv_at hl 0 rfl) ?_
  refine lv_aload_n hx hb dX10_kernel_1 rfl (lv_at hl 0 rfl) ?_
  refine rM_get C hM 14 (by decide) (fM_14 ad σ) q1404 rfl dX10_kernel_2 ?_
  refine lv_if_eq (tgt := 12) hx hb dX10_kernel_5 (by decide) (fun hc => ?_) (fun hc => ?_)
  · have hw := hw.1 hc
    refine lv_iconst (v := 1) hx hb dX10_kernel_12 (by decide) ?_
    exact wk_kernel_13 C  1 σ _ _ ls hw hM (lv_sub hl [0] rfl)
  · have hw := hw.2 hc
    refine lv_iconst (v := 0) hx hb dX10_kernel_8 (by decide) ?_
    refine lv_goto (tgt := 13) hx hb dX10_kernel_9 (by decide) ?_
    exact wk_kernel_13 C  0 σ _ _ ls hw hM (lv_sub hl [0] rfl)
abbrev rm_isColumn : Room := { frames := 0, cells := 0, slots := 0, locals := 0 }
set_option maxHeartbeats 4000000 in
theorem wk_isColumn_24 {p : Program} {l : Launch} {e : Env} {s : State} {m : MethodId} {args : Array Value} {below : List Frame} {meth : Method} {c : Code} {D : va_G} {dA : Nat → ClassId} {ad : Nat → Nat} {σ0 : St} {sz : Nat} (C : CxM p s m meth c args (AM dA ad σ0 sz) RX10 cX10_isColumn 2 (some .boolean)) {Qr : Int32 → St → Prop} : ∀ (u0 : Int32) (σ : St) (H : Heap) (locs : List Loc) (ls : Array Slot), wp_isColumn_24 Qr u0 σ → wM D dA ad (AM dA ad σ0 sz) s σ H locs → lv_has ls 2 [(0, .ref (ad 0))] → W p l e rm_isColumn s m args below meth c H locs 0 0 (MQ below (va_Qi Qr (BM D dA ad (AM dA ad σ0 sz)) (AM dA ad σ0 sz)) args s 0 0 (AM dA ad σ0 sz)) (F0 m 24 ls [.int u0]) := by
  intro u0 σ H locs ls hw hM hl
  have hx := C.1
  have hb := C.2.1
  have hown := C.2.2.2.2.2.1
  have hts := C.2.2.2.2.2.2.1
  unfold wp_isColumn_24 at hw
  exact rM_zret C hM hw dX10_isColumn_24
set_option maxHeartbeats 4000000 in
theorem wk_isColumn_23 {p : Program} {l : Launch} {e : Env} {s : State} {m : MethodId} {args : Array Value} {below : List Frame} {meth : Method} {c : Code} {D : va_G} {dA : Nat → ClassId} {ad : Nat → Nat} {σ0 : St} {sz : Nat} (C : CxM p s m meth c args (AM dA ad σ0 sz) RX10 cX10_isColumn 2 (some .boolean)) {Qr : Int32 → St → Prop} : ∀ (σ : St) (H : Heap) (locs : List Loc) (ls : Array Slot), wp_isColumn_23 Qr σ → wM D dA ad (AM dA ad σ0 sz) s σ H locs → lv_has ls 2 [(0, .ref (ad 0))] → W p l e rm_isColumn s m args below meth c H locs 0 0 (MQ below (va_Qi Qr (BM D dA ad (AM dA ad σ0 sz)) (AM dA ad σ0 sz)) args s 0 0 (AM dA ad σ0 sz)) (F0 m 23 ls []) := by
  intro σ H locs ls hw hM hl
  have hx := C.1
  have hb := C.2.1
  have hown := C.2.2.2.2.2.1
  have hts := C.2.2.2.2.2.2.1
  unfold wp_isColumn_23 at hw
  refine lv_iconst (v := 0) hx hb dX10_isColumn_23 (by decide) ?_
  exact wk_isColumn_24 C  0 σ _ _ ls hw hM (lv_sub hl [0] rfl)
set_option maxHeartbeats 4000000 in
/-- private boolean isColumn(int); -/
theorem mt_isColumn (l : Launch) (D : va_G) (dA : Nat → ClassId) (ad : Nat → Nat) (sz : Nat) (σ : St) (p1 : Int32) (Qr : Int32 → St → Prop) (hw : wp_isColumn p1 σ Qr) : Met l yX10_isColumn (ws_ yX10_isColumn cX10_isColumn 2 (some .boolean)) rm_isColumn (PcM D dA ad σ sz [.ref (ad 0), .int p1]) (va_Qi Qr (BM D dA ad (AM dA ad σ sz)) (AM dA ad σ sz)) 0 0 (AM dA ad σ sz) := by
  refine Met.ofW (cc := cX10_isColumn) (maxL := 2) (ret := (some .boolean)) (by decide) rfl ?_
  intro p e s m args below meth c s₁ B hml hv
  obtain ⟨rfl, hsz, hP, hK, hD0⟩ := hv
  subst hsz
  have hts0 := atoms_spec (ws := ws_ yX10_isColumn cX10_isColumn 2 (some .boolean)) B.pre
  have C : CxM p s m meth c _ (AM dA ad σ s.heap.size) RX10 cX10_isColumn 2 (some .boolean) := ⟨B.exec, B.bytes, B.returns, B.notSynchronized, hml, findClass_of_methodNamed B.named, fun w h => hts0 w (List.mem_cons_of_mem _ h), fun q h => Or.inr h⟩
  have hM : wM D dA ad (AM dA ad σ s.heap.size) s σ s.heap [] := ⟨hK, hP, hD0.self, va_S.rf⟩
  have hx := C.1
  have hb := C.2.1
  have hown := C.2.2.2.2.2.1
  have hts := C.2.2.2.2.2.2.1
  have hl := lv_entry ([.ref (ad 0), .int p1]) (n := 2) (Nat.le_of_ble_eq_true rfl)
  rw [lg_entry_eq]
  generalize (lg_sl ([.ref (ad 0), .int p1]) ++ List.replicate (2 - (lg_sl ([.ref (ad 0), .int p1])).length) Slot.unset).toArray = ls at hl ⊢
  have hl : lv_has ls 2 [(0, .ref (ad 0)), (1, .int p1)] := hl
  unfold wp_isColumn at hw
  refine lv_aload_n hx hb dX10_isColumn_0 rfl (lv_at hl 0 rfl) ?_
  refine rM_get C hM 14 (by decide) (fM_14 ad σ) q1404 rfl dX10_isColumn_1 ?_
  refine lv_if_eq (tgt := 23) hx hb dX10_isColumn_4 (by decide) (fun hc => ?_) (fun hc => ?_)
  · have hw := hw.1 hc
    exact wk_isColumn_23 C   σ _ _ ls hw hM (lv_sub hl [0] rfl)
  · have hw := hw.2 hc
    refine lv_iload_n hx hb dX10_isColumn_7 rfl (lv_at hl 1 rfl) ?_
    refine lv_if_lt (tgt := 23) hx hb dX10_isColumn_8 (by decide) (fun hc => ?_) (fun hc => ?_)
    · have hw := hw.1 hc
      exact wk_isColumn_23 C   σ _ _ ls hw hM (lv_sub hl [0] rfl)
    · have hw := hw.2 hc
      refine lv_iload_n hx hb dX10_isColumn_11 rfl (lv_at hl 1 rfl) ?_
      refine lv_aload_n hx hb dX10_isColumn_12 rfl (lv_at hl 0 rfl) ?_
      refine rM_get C hM 17 (by decide) (fM_17 ad σ) q1407 rfl dX10_isColumn_13 ?_
      refine lv_icmp_ge (tgt := 23) hx hb dX10_isColumn_16 (by decide) (fun hc => ?_) (fun hc => ?_)
      · have hw := hw.1 hc
        exact wk_isColumn_23 C   σ _ _ ls hw hM (lv_sub hl [0] rfl)
      · have hw := hw.2 hc
        refine lv_iconst (v := 1) hx hb dX10_isColumn_19 (by decide) ?_
        refine lv_goto (tgt := 24) hx hb dX10_isColumn_20 (by decide) ?_
        exact wk_isColumn_24 C  1 σ _ _ ls hw hM (lv_sub hl [0] rfl)
abbrev rm_kernelAt : Room := { frames := 4, cells := 0, slots := 0, locals := 103 }
set_option maxHeartbeats 4000000 in
theorem wk_kernelAt_62 {p : Program} {l : Launch} {e : Env} {s : State} {m : MethodId} {args : Array Value} {below : List Frame} {meth : Method} {c : Code} {D : va_G} {dA : Nat → ClassId} {ad : Nat → Nat} {σ0 : St} {sz : Nat} (C : CxM p s m meth c args (AM dA ad σ0 sz) RX10 cX10_kernelAt 3 (some .long)) {Qr : Int64 → St → Prop} : ∀ (u0 : Int64) (σ : St) (H : Heap) (locs : List Loc) (ls : Array Slot), wp_kernelAt_62 Qr u0 σ → wM D dA ad (AM dA ad σ0 sz) s σ H locs → lv_has ls 3 [(0, .ref (ad 0))] → W p l e rm_kernelAt s m args below meth c H locs 0 0 (MQ below (va_Ql Qr (BM D dA ad (AM dA ad σ0 sz)) (AM dA ad σ0 sz)) args s 0 0 (AM dA ad σ0 sz)) (F0 m 62 ls [.long u0]) := by
  intro u0 σ H locs ls hw hM hl
  have hx := C.1
  have hb := C.2.1
  have hown := C.2.2.2.2.2.1
  have hts := C.2.2.2.2.2.2.1
  unfold wp_kernelAt_62 at hw
  exact rM_lret C hM hw dX10_kernelAt_62
set_option maxHeartbeats 4000000 in
theorem wk_kernelAt_37 {p : Program} {l : Launch} {e : Env} {s : State} {m : MethodId} {args : Array Value} {below : List Frame} {meth : Method} {c : Code} {D : va_G} {dA : Nat → ClassId} {ad : Nat → Nat} {σ0 : St} {sz : Nat} (C : CxM p s m meth c args (AM dA ad σ0 sz) RX10 cX10_kernelAt 3 (some .long)) {Qr : Int64 → St → Prop} : ∀ (v1 : Int32) (v2 : Int32) (u1 : Int32) (σ : St) (H : Heap) (locs : List Loc) (ls : Array Slot), wp_kernelAt_37 Qr v1 v2 u1 σ → wM D dA ad (AM dA ad σ0 sz) s σ H locs → lv_has ls 3 [(0, .ref (ad 0)), (1, .int v1), (2, .int v2)] → W p l e rm_kernelAt s m args below meth c H locs 0 0 (MQ below (va_Ql Qr (BM D dA ad (AM dA ad σ0 sz)) (AM dA ad σ0 sz)) args s 0 0 (AM dA ad σ0 sz)) (F0 m 37 ls [.int u1, .ref (ad 0)]) := by
  intro v1 v2 u1 σ H locs ls hw hM hl
  have hx := C.1
  have hb := C.2.1
  have hown := C.2.2.2.2.2.1
  have hts := C.2.2.2.2.2.2.1
  unfold wp_kernelAt_37 at hw
  refine rM_putI C hM 0 (by decide) (fM_s0 dA ad σ _) q1390 rfl rfl (tyX10_ok 0 (by decide)) rfl rfl dX10_kernelAt_37 (fun σ1 H locs eσ hM => ?_)
  have hw := hw σ1 eσ
  clear eσ
  refine lv_aload_n hx hb dX10_kernelAt_40 rfl (lv_at hl 0 rfl) ?_
  refine rM_get C hM 0 (by decide) (fM_0 ad σ1) q1390 rfl dX10_kernelAt_41 ?_
  refine lv_if_ne (tgt := 61) hx hb dX10_kernelAt_44 (by decide) (fun hc => ?_) (fun hc => ?_)
  · have hw := hw.1 hc
    refine lv_lconst (v := 0) hx hb dX10_kernelAt_61 (by decide) ?_
    exact wk_kernelAt_62 C  0 σ1 _ _ ls hw hM (lv_sub hl [0] rfl)
  · have hw := hw.2 hc
    refine lv_aload_n hx hb dX10_kernelAt_47 rfl (lv_at hl 0 rfl) ?_
    refine rM_get C hM 30 (by decide) (fM_30 ad σ1) q1420 rfl dX10_kernelAt_48 ?_
    refine lv_bipush (v := 6) hx hb dX10_kernelAt_51 (by decide) ?_
    refine lv_iload_n hx hb dX10_kernelAt_53 rfl (lv_at hl 1 rfl) ?_
    refine lv_imul hx hb dX10_kernelAt_54 ?_
    refine lv_iload_n hx hb dX10_kernelAt_55 rfl (lv_at hl 2 rfl) ?_
    refine lv_iadd hx hb dX10_kernelAt_56 ?_
    refine rM_lald C hM 30 18 (wM_30 dA ad σ1) hw.1 dX10_kernelAt_57 ?_
    have hw := hw.2
    refine lv_goto (tgt := 62) hx hb dX10_kernelAt_58 (by decide) ?_
    exact wk_kernelAt_62 C  ((gL σ1 30 ((6 * v1) + v2))) σ1 _ _ ls hw hM (lv_sub hl [0] rfl)
set_option maxHeartbeats 4000000 in
theorem wk_kernelAt_17 {p : Program} {l : Launch} {e : Env} {s : State} {m : MethodId} {args : Array Value} {below : List Frame} {meth : Method} {c : Code} {D : va_G} {dA : Nat → ClassId} {ad : Nat → Nat} {σ0 : St} {sz : Nat} (C : CxM p s m meth c args (AM dA ad σ0 sz) RX10 cX10_kernelAt 3 (some .long)) {Qr : Int64 → St → Prop} : ∀ (σ : St) (H : Heap) (locs : List Loc) (ls : Array Slot), wp_kernelAt_17 Qr σ → wM D dA ad (AM dA ad σ0 sz) s σ H locs → lv_has ls 3 [(0, .ref (ad 0))] → W p l e rm_kernelAt s m args below meth c H locs 0 0 (MQ below (va_Ql Qr (BM D dA ad (AM dA ad σ0 sz)) (AM dA ad σ0 sz)) args s 0 0 (AM dA ad σ0 sz)) (F0 m 17 ls []) := by
  intro σ H locs ls hw hM hl
  have hx := C.1
  have hb := C.2.1
  have hown := C.2.2.2.2.2.1
  have hts := C.2.2.2.2.2.2.1
  unfold wp_kernelAt_17 at hw
  refine lv_lconst (v := 0) hx hb dX10_kernelAt_17 (by decide) ?_
  exact rM_lret C hM hw dX10_kernelAt_18
set_option maxHeartbeats 4000000 in
/-- public long kernelAt(int, int); -/
theorem mt_kernelAt (l : Launch) (D : va_G) (dA : Nat → ClassId) (ad : Nat → Nat) (sz : Nat) (σ : St) (p1 : Int32) (p2 : Int32) (Qr : Int64 → St → Prop) (hw : wp_kernelAt p1 p2 σ Qr) : Met l yX10_kernelAt (ws_ yX10_kernelAt cX10_kernelAt 3 (some .long)) rm_kernelAt (PcM D dA ad σ sz [.ref (ad 0), .int p1, .int p2]) (va_Ql Qr (BM D dA ad (AM dA ad σ sz)) (AM dA ad σ sz)) 0 0 (AM dA ad σ sz) := by
  refine Met.ofW (cc := cX10_kernelAt) (maxL := 3) (ret := (some .long)) (by decide) rfl ?_
  intro p e s m args below meth c s₁ B hml hv
  obtain ⟨rfl, hsz, hP, hK, hD0⟩ := hv
  subst hsz
  have hts0 := atoms_spec (ws := ws_ yX10_kernelAt cX10_kernelAt 3 (some .long)) B.pre
  have C : CxM p s m meth c _ (AM dA ad σ s.heap.size) RX10 cX10_kernelAt 3 (some .long) := ⟨B.exec, B.bytes, B.returns, B.notSynchronized, hml, findClass_of_methodNamed B.named, fun w h => hts0 w (List.mem_cons_of_mem _ h), fun q h => Or.inr h⟩
  have hM : wM D dA ad (AM dA ad σ s.heap.size) s σ s.heap [] := ⟨hK, hP, hD0.self, va_S.rf⟩
  have hx := C.1
  have hb := C.2.1
  have hown := C.2.2.2.2.2.1
  have hts := C.2.2.2.2.2.2.1
  have hl := lv_entry ([.ref (ad 0), .int p1, .int p2]) (n := 3) (Nat.le_of_ble_eq_true rfl)
  rw [lg_entry_eq]
  generalize (lg_sl ([.ref (ad 0), .int p1, .int p2]) ++ List.replicate (3 - (lg_sl ([.ref (ad 0), .int p1, .int p2])).length) Slot.unset).toArray = ls at hl ⊢
  have hl : lv_has ls 3 [(0, .ref (ad 0)), (1, .int p1), (2, .int p2)] := hl
  unfold wp_kernelAt at hw
  refine lv_aload_n hx hb dX10_kernelAt_0 rfl (lv_at hl 0 rfl) ?_
  refine lv_iconst (v := 1) hx hb dX10_kernelAt_1 (by decide) ?_
  refine rM_putI C hM 0 (by decide) (fM_s0 dA ad σ _) q1390 rfl rfl (tyX10_ok 0 (by decide)) rfl rfl dX10_kernelAt_2 (fun σ1 H locs eσ hM => ?_)
  have hw := hw σ1 eσ
  clear eσ
  refine lv_aload_n hx hb dX10_kernelAt_5 rfl (lv_at hl 0 rfl) ?_
  refine lv_iload_n hx hb dX10_kernelAt_6 rfl (lv_at hl 2 rfl) ?_
  refine rM_callVi (n := 1) (As := [.int p2]) C hM hl.1 (mt_isColumn l D dA ad _ σ1 p2 _ hw) (lw_V q1614 q1616 qs63 q93 q1617) rfl rfl (by decide +kernel) ⟨Nat.le_of_ble_eq_true rfl, Nat.le_of_ble_eq_true rfl⟩ rfl (Nat.le_of_ble_eq_true rfl) ⟨Nat.zero_le _, Nat.zero_le _⟩ rfl dX10_kernelAt_7 (fun x3 σ2 H locs hw hM => ?_)
  refine lv_if_eq (tgt := 17) hx hb dX10_kernelAt_10 (by decide) (fun hc => ?_) (fun hc => ?_)
  · have hw := hw.1 hc
    exact wk_kernelAt_17 C   σ2 _ _ ls hw hM (lv_sub hl [0] rfl)
  · have hw := hw.2 hc
    refine lv_iload_n hx hb dX10_kernelAt_13 rfl (lv_at hl 1 rfl) ?_
    refine lv_if_ge (tgt := 19) hx hb dX10_kernelAt_14 (by decide) (fun hc => ?_) (fun hc => ?_)
    · have hw := hw.1 hc
      refine lv_aload_n hx hb dX10_kernelAt_19 rfl (lv_at hl 0 rfl) ?_
      refine rM_callVv (n := 0) (As := []) C hM hl.1 (mt_solveWhole l D dA ad _ σ2  _ hw) (lw_V q1567 q1569 qs54 q93 q1570) rfl rfl (by decide +kernel) ⟨Nat.le_of_ble_eq_true rfl, Nat.le_of_ble_eq_true rfl⟩ rfl (Nat.le_of_ble_eq_true rfl) ⟨Nat.zero_le _, Nat.zero_le _⟩ rfl dX10_kernelAt_20 (fun σ4 H locs hw hM => ?_)
      refine lv_aload_n hx hb dX10_kernelAt_23 rfl (lv_at hl 0 rfl) ?_
      refine lv_iload_n hx hb dX10_kernelAt_24 rfl (lv_at hl 1 rfl) ?_
      refine lv_aload_n hx hb dX10_kernelAt_25 rfl (lv_at hl 0 rfl) ?_
      refine rM_get C hM 31 (by decide) (fM_31 ad σ4) q1421 rfl dX10_kernelAt_26 ?_
      refine lv_icmp_ge (tgt := 36) hx hb dX10_kernelAt_29 (by decide) (fun hc => ?_) (fun hc => ?_)
      · have hw := hw.1 hc
        refine lv_iconst (v := 1) hx hb dX10_kernelAt_36 (by decide) ?_
        exact wk_kernelAt_37 C  p1 p2 1 σ4 _ _ ls hw hM (lv_sub hl [0, 1, 2] rfl)
      · have hw := hw.2 hc
        refine lv_iconst (v := 0) hx hb dX10_kernelAt_32 (by decide) ?_
        refine lv_goto (tgt := 37) hx hb dX10_kernelAt_33 (by decide) ?_
        exact wk_kernelAt_37 C  p1 p2 0 σ4 _ _ ls hw hM (lv_sub hl [0, 1, 2] rfl)
    · have hw := hw.2 hc
      exact wk_kernelAt_17 C   σ2 _ _ ls hw hM (lv_sub hl [0] rfl)
abbrev rm_most : Room := { frames := 0, cells := 0, slots := 0, locals := 0 }
set_option maxHeartbeats 4000000 in
theorem wk_most_12 {p : Program} {l : Launch} {e : Env} {s : State} {m : MethodId} {args : Array Value} {below : List Frame} {meth : Method} {c : Code} {D : va_G} {dA : Nat → ClassId} {ad : Nat → Nat} {σ0 : St} {sz : Nat} (C : CxM p s m meth c args (AM dA ad σ0 sz) RX10 cX10_most 2 (some .int)) {Qr : Int32 → St → Prop} : ∀ (u0 : Int32) (σ : St) (H : Heap) (locs : List Loc) (ls : Array Slot), wp_most_12 Qr u0 σ → wM D dA ad (AM dA ad σ0 sz) s σ H locs → lv_has ls 2 [(0, .ref (ad 0))] → W p l e rm_most s m args below meth c H locs 0 0 (MQ below (va_Qi Qr (BM D dA ad (AM dA ad σ0 sz)) (AM dA ad σ0 sz)) args s 0 0 (AM dA ad σ0 sz)) (F0 m 12 ls [.int u0]) := by
  intro u0 σ H locs ls hw hM hl
  have hx := C.1
  have hb := C.2.1
  have hown := C.2.2.2.2.2.1
  have hts := C.2.2.2.2.2.2.1
  unfold wp_most_12 at hw
  exact rM_iret C hM hw dX10_most_12
set_option maxHeartbeats 4000000 in
/-- private int most(int); -/
theorem mt_most (l : Launch) (D : va_G) (dA : Nat → ClassId) (ad : Nat → Nat) (sz : Nat) (σ : St) (p1 : Int32) (Qr : Int32 → St → Prop) (hw : wp_most p1 σ Qr) : Met l yX10_most (ws_ yX10_most cX10_most 2 (some .int)) rm_most (PcM D dA ad σ sz [.ref (ad 0), .int p1]) (va_Qi Qr (BM D dA ad (AM dA ad σ sz)) (AM dA ad σ sz)) 0 0 (AM dA ad σ sz) := by
  refine Met.ofW (cc := cX10_most) (maxL := 2) (ret := (some .int)) (by decide) rfl ?_
  intro p e s m args below meth c s₁ B hml hv
  obtain ⟨rfl, hsz, hP, hK, hD0⟩ := hv
  subst hsz
  have hts0 := atoms_spec (ws := ws_ yX10_most cX10_most 2 (some .int)) B.pre
  have C : CxM p s m meth c _ (AM dA ad σ s.heap.size) RX10 cX10_most 2 (some .int) := ⟨B.exec, B.bytes, B.returns, B.notSynchronized, hml, findClass_of_methodNamed B.named, fun w h => hts0 w (List.mem_cons_of_mem _ h), fun q h => Or.inr h⟩
  have hM : wM D dA ad (AM dA ad σ s.heap.size) s σ s.heap [] := ⟨hK, hP, hD0.self, va_S.rf⟩
  have hx := C.1
  have hb := C.2.1
  have hown := C.2.2.2.2.2.1
  have hts := C.2.2.2.2.2.2.1
  have hl := lv_entry ([.ref (ad 0), .int p1]) (n := 2) (Nat.le_of_ble_eq_true rfl)
  rw [lg_entry_eq]
  generalize (lg_sl ([.ref (ad 0), .int p1]) ++ List.replicate (2 - (lg_sl ([.ref (ad 0), .int p1])).length) Slot.unset).toArray = ls at hl ⊢
  have hl : lv_has ls 2 [(0, .ref (ad 0)), (1, .int p1)] := hl
  unfold wp_most at hw
  refine lv_aload_n hx hb dX10_most_0 rfl (lv_at hl 0 rfl) ?_
  refine rM_get C hM 17 (by decide) (fM_17 ad σ) q1407 rfl dX10_most_1 ?_
  refine lv_if_ne (tgt := 11) hx hb dX10_most_4 (by decide) (fun hc => ?_) (fun hc => ?_)
  · have hw := hw.1 hc
    refine lv_iload_n hx hb dX10_most_11 rfl (lv_at hl 1 rfl) ?_
    exact wk_most_12 C  p1 σ _ _ ls hw hM (lv_sub hl [0] rfl)
  · have hw := hw.2 hc
    refine lv_iconst (v := 0) hx hb dX10_most_7 (by decide) ?_
    refine lv_goto (tgt := 12) hx hb dX10_most_8 (by decide) ?_
    exact wk_most_12 C  0 σ _ _ ls hw hM (lv_sub hl [0] rfl)
abbrev rm_begin : Room := { frames := 0, cells := 0, slots := 0, locals := 0 }
set_option maxHeartbeats 4000000 in
theorem wk_begin_55 {p : Program} {l : Launch} {e : Env} {s : State} {m : MethodId} {args : Array Value} {below : List Frame} {meth : Method} {c : Code} {D : va_G} {dA : Nat → ClassId} {ad : Nat → Nat} {σ0 : St} {sz : Nat} (C : CxM p s m meth c args (AM dA ad σ0 sz) RX10 cX10_begin 4 none) {Qr : St → Prop} : ∀ (σ : St) (H : Heap) (locs : List Loc) (ls : Array Slot), wp_begin_55 Qr σ → wM D dA ad (AM dA ad σ0 sz) s σ H locs → lv_has ls 4 [(0, .ref (ad 0))] → W p l e rm_begin s m args below meth c H locs 0 0 (MQ below (va_Qv Qr (BM D dA ad (AM dA ad σ0 sz)) (AM dA ad σ0 sz)) args s 0 0 (AM dA ad σ0 sz)) (F0 m 55 ls []) := by
  intro σ H locs ls hw hM hl
  have hx := C.1
  have hb := C.2.1
  have hown := C.2.2.2.2.2.1
  have hts := C.2.2.2.2.2.2.1
  unfold wp_begin_55 at hw
  exact rM_vret C hM hw dX10_begin_55
set_option maxHeartbeats 4000000 in
theorem wk_begin_2 {p : Program} {l : Launch} {e : Env} {s : State} {m : MethodId} {args : Array Value} {below : List Frame} {meth : Method} {c : Code} {D : va_G} {dA : Nat → ClassId} {ad : Nat → Nat} {σ0 : St} {sz : Nat} (C : CxM p s m meth c args (AM dA ad σ0 sz) RX10 cX10_begin 4 none) {Qr : St → Prop} : ∀ (n : Nat) (v1 : Int32) (v2 : Int32) (v3 : Int32) (σ : St) (H : Heap) (locs : List Loc) (ls : Array Slot), wp_begin_2 Qr n v1 v2 v3 σ → wM D dA ad (AM dA ad σ0 sz) s σ H locs → lv_has ls 4 [(0, .ref (ad 0)), (1, .int v1), (2, .int v2), (3, .int v3)] → W p l e rm_begin s m args below meth c H locs 0 0 (MQ below (va_Qv Qr (BM D dA ad (AM dA ad σ0 sz)) (AM dA ad σ0 sz)) args s 0 0 (AM dA ad σ0 sz)) (F0 m 2 ls []) := by
  intro n
  induction n with
  | zero => intro v1 v2 v3 σ H locs ls hw; exact hw.elim
  | succ n2 ih =>
    intro v1 v2 v3 σ H locs ls hw hM hl
    have hx := C.1
    have hb := C.2.1
    have hown := C.2.2.2.2.2.1
    have hts := C.2.2.2.2.2.2.1
    unfold wp_begin_2 at hw
    refine lv_iload_n hx hb dX10_begin_2 rfl (lv_at hl 3 rfl) ?_
    refine lv_bipush (v := 6) hx hb dX10_begin_3 (by decide) ?_
    refine lv_icmp_ge (tgt := 21) hx hb dX10_begin_5 (by decide) (fun hc => ?_) (fun hc => ?_)
    · have hw := hw.1 hc
      refine lv_iload_n hx hb dX10_begin_21 rfl (lv_at hl 2 rfl) ?_
      refine lv_if_eq (tgt := 36) hx hb dX10_begin_22 (by decide) (fun hc => ?_) (fun hc => ?_)
      · have hw := hw.1 hc
        refine lv_aload_n hx hb dX10_begin_36 rfl (lv_at hl 0 rfl) ?_
        refine rM_get C hM 17 (by decide) (fM_17 ad σ) q1407 rfl dX10_begin_37 ?_
        refine lv_if_le (tgt := 55) hx hb dX10_begin_40 (by decide) (fun hc => ?_) (fun hc => ?_)
        · have hw := hw.1 hc
          exact wk_begin_55 C   σ _ _ ls hw hM (lv_sub hl [0] rfl)
        · have hw := hw.2 hc
          refine lv_aload_n hx hb dX10_begin_43 rfl (lv_at hl 0 rfl) ?_
          refine rM_get C hM 35 (by decide) (fM_35 ad σ) q1425 rfl dX10_begin_44 ?_
          refine lv_aload_n hx hb dX10_begin_47 rfl (lv_at hl 0 rfl) ?_
          refine rM_get C hM 17 (by decide) (fM_17 ad σ) q1407 rfl dX10_begin_48 ?_
          refine lv_iconst (v := 1) hx hb dX10_begin_51 (by decide) ?_
          refine lv_isub hx hb dX10_begin_52 ?_
          refine lv_iload_n hx hb dX10_begin_53 rfl (lv_at hl 1 rfl) ?_
          refine rM_iast C hM 35 21 (wM_35 dA ad σ) (wM_s35 dA ad σ _ _) hw.1 dX10_begin_54 (fun σ1 H locs eσ hM => ?_)
          have hw := hw.2 σ1 eσ
          clear eσ
          exact wk_begin_55 C   σ1 _ _ ls hw hM (lv_sub hl [0] rfl)
      · have hw := hw.2 hc
        refine lv_aload_n hx hb dX10_begin_25 rfl (lv_at hl 0 rfl) ?_
        refine rM_get C hM 35 (by decide) (fM_35 ad σ) q1425 rfl dX10_begin_26 ?_
        refine lv_iconst (v := 0) hx hb dX10_begin_29 (by decide) ?_
        refine lv_iload_n hx hb dX10_begin_30 rfl (lv_at hl 1 rfl) ?_
        refine lv_ineg hx hb dX10_begin_31 ?_
        refine rM_iast C hM 35 21 (wM_35 dA ad σ) (wM_s35 dA ad σ _ _) hw.1 dX10_begin_32 (fun σ2 H locs eσ hM => ?_)
        have hw := hw.2 σ2 eσ
        clear eσ
        refine lv_goto (tgt := 55) hx hb dX10_begin_33 (by decide) ?_
        exact wk_begin_55 C   σ2 _ _ ls hw hM (lv_sub hl [0] rfl)
    · have hw := hw.2 hc
      refine lv_aload_n hx hb dX10_begin_8 rfl (lv_at hl 0 rfl) ?_
      refine rM_get C hM 35 (by decide) (fM_35 ad σ) q1425 rfl dX10_begin_9 ?_
      refine lv_iload_n hx hb dX10_begin_12 rfl (lv_at hl 3 rfl) ?_
      refine lv_iconst (v := 0) hx hb dX10_begin_13 (by decide) ?_
      refine rM_iast C hM 35 21 (wM_35 dA ad σ) (wM_s35 dA ad σ _ _) hw.1 dX10_begin_14 (fun σ3 H locs eσ hM => ?_)
      have hw := hw.2 σ3 eσ
      clear eσ
      obtain ⟨x4, ex4⟩ : ∃ y : Int32, y = v3 + 1 := ⟨_, rfl⟩
      have hw := hw x4 ex4
      refine lv_iinc (v := x4) (lv' := [(3, .int x4), (0, .ref (ad 0)), (1, .int v1), (2, .int v2)]) hx hb dX10_begin_15 hl (k := 3) rfl (by rw [ex4]; rfl) (by decide) rfl (fun ls hl => ?_)
      refine lv_goto (tgt := 2) hx hb dX10_begin_18 (by decide) ?_
      exact ih v1 v2 x4 σ3 _ _ ls hw hM (lv_sub hl [1, 2, 3, 0] rfl)
set_option maxHeartbeats 4000000 in
/-- private void begin(int, boolean); -/
theorem mt_begin (l : Launch) (D : va_G) (dA : Nat → ClassId) (ad : Nat → Nat) (sz : Nat) (σ : St) (p1 : Int32) (p2 : Int32) (Qr : St → Prop) (hw : wp_begin p1 p2 σ Qr) : Met l yX10_begin (ws_ yX10_begin cX10_begin 4 none) rm_begin (PcM D dA ad σ sz [.ref (ad 0), .int p1, .int p2]) (va_Qv Qr (BM D dA ad (AM dA ad σ sz)) (AM dA ad σ sz)) 0 0 (AM dA ad σ sz) := by
  refine Met.ofW (cc := cX10_begin) (maxL := 4) (ret := none) (by decide) rfl ?_
  intro p e s m args below meth c s₁ B hml hv
  obtain ⟨rfl, hsz, hP, hK, hD0⟩ := hv
  subst hsz
  have hts0 := atoms_spec (ws := ws_ yX10_begin cX10_begin 4 none) B.pre
  have C : CxM p s m meth c _ (AM dA ad σ s.heap.size) RX10 cX10_begin 4 none := ⟨B.exec, B.bytes, B.returns, B.notSynchronized, hml, findClass_of_methodNamed B.named, fun w h => hts0 w (List.mem_cons_of_mem _ h), fun q h => Or.inr h⟩
  have hM : wM D dA ad (AM dA ad σ s.heap.size) s σ s.heap [] := ⟨hK, hP, hD0.self, va_S.rf⟩
  have hx := C.1
  have hb := C.2.1
  have hown := C.2.2.2.2.2.1
  have hts := C.2.2.2.2.2.2.1
  have hl := lv_entry ([.ref (ad 0), .int p1, .int p2]) (n := 4) (Nat.le_of_ble_eq_true rfl)
  rw [lg_entry_eq]
  generalize (lg_sl ([.ref (ad 0), .int p1, .int p2]) ++ List.replicate (4 - (lg_sl ([.ref (ad 0), .int p1, .int p2])).length) Slot.unset).toArray = ls at hl ⊢
  have hl : lv_has ls 4 [(0, .ref (ad 0)), (1, .int p1), (2, .int p2)] := hl
  unfold wp_begin at hw
  refine lv_iconst (v := 0) hx hb dX10_begin_0 (by decide) ?_
  refine lv_istore_n (lv' := [(3, .int 0), (0, .ref (ad 0)), (1, .int p1), (2, .int p2)]) hx hb dX10_begin_1 rfl hl (by decide) rfl (fun ls hl => ?_)
  obtain ⟨n2, hw⟩ := hw
  exact wk_begin_2 C  n2 p1 p2 0 σ _ _ ls hw hM (lv_sub hl [1, 2, 3, 0] rfl)
abbrev rm_solves_35 : Room := { frames := 0, cells := 0, slots := 0, locals := 0 }
set_option maxHeartbeats 4000000 in
theorem wk_solves_35_102 {p : Program} {l : Launch} {e : Env} {s : State} {m : MethodId} {args : Array Value} {below : List Frame} {meth : Method} {c : Code} {D : va_G} {dA : Nat → ClassId} {ad : Nat → Nat} {σ0 : St} {sz : Nat} (C : CxM p s m meth c args (AM dA ad σ0 sz) RX10 cX10_solves 7 (some .boolean)) {Qr : Int32 → St → Prop} : ∀ (v3 : Int32) (σ : St) (H : Heap) (locs : List Loc) (ls : Array Slot), wp_solves_35_102 Qr v3 σ → wM D dA ad (AM dA ad σ0 sz) s σ H locs → lv_has ls 7 [(0, .ref (ad 0)), (3, .int v3)] → W p l e rm_solves_35 s m args below meth c H locs 0 0 (MQ below (va_Qi Qr (BM D dA ad (AM dA ad σ0 sz)) (AM dA ad σ0 sz)) args s 0 0 (AM dA ad σ0 sz)) (F0 m 102 ls []) := by
  intro v3 σ H locs ls hw hM hl
  have hx := C.1
  have hb := C.2.1
  have hown := C.2.2.2.2.2.1
  have hts := C.2.2.2.2.2.2.1
  unfold wp_solves_35_102 at hw
  refine lv_iload_n hx hb dX10_solves_102 rfl (lv_at hl 1 rfl) ?_
  exact rM_zret C hM hw dX10_solves_103
set_option maxHeartbeats 4000000 in
theorem wk_solves_35_95 {p : Program} {l : Launch} {e : Env} {s : State} {m : MethodId} {args : Array Value} {below : List Frame} {meth : Method} {c : Code} {D : va_G} {dA : Nat → ClassId} {ad : Nat → Nat} {σ0 : St} {sz : Nat} (C : CxM p s m meth c args (AM dA ad σ0 sz) RX10 cX10_solves 7 (some .boolean)) {Qr : Int32 → St → Prop} {K5 : Int32 → Int32 → Int32 → St → Prop} (hK5 : ∀ (v2 : Int32) (v3 : Int32) (v4 : Int32) (σ : St) (H : Heap) (locs : List Loc) (ls : Array Slot), K5 v2 v3 v4 σ → wM D dA ad (AM dA ad σ0 sz) s σ H locs → lv_has ls 7 [(0, .ref (ad 0)), (1, .ref (ad 35)), (2, .int v2), (3, .int v3), (4, .int v4)] → W p l e rm_solves_35 s m args below meth c H locs 0 0 (MQ below (va_Qi Qr (BM D dA ad (AM dA ad σ0 sz)) (AM dA ad σ0 sz)) args s 0 0 (AM dA ad σ0 sz)) (F0 m 5 ls [])) : ∀ (v2 : Int32) (v4 : Int32) (u0 : Int32) (σ : St) (H : Heap) (locs : List Loc) (ls : Array Slot), wp_solves_35_95 Qr K5 v2 v4 u0 σ → wM D dA ad (AM dA ad σ0 sz) s σ H locs → lv_has ls 7 [(0, .ref (ad 0)), (1, .ref (ad 35)), (2, .int v2), (4, .int v4)] → W p l e rm_solves_35 s m args below meth c H locs 0 0 (MQ below (va_Qi Qr (BM D dA ad (AM dA ad σ0 sz)) (AM dA ad σ0 sz)) args s 0 0 (AM dA ad σ0 sz)) (F0 m 95 ls [.int u0]) := by
  intro v2 v4 u0 σ H locs ls hw hM hl
  have hx := C.1
  have hb := C.2.1
  have hown := C.2.2.2.2.2.1
  have hts := C.2.2.2.2.2.2.1
  unfold wp_solves_35_95 at hw
  refine lv_istore_n (lv' := [(3, .int u0), (0, .ref (ad 0)), (1, .ref (ad 35)), (2, .int v2), (4, .int v4)]) hx hb dX10_solves_95 rfl hl (by decide) rfl (fun ls hl => ?_)
  obtain ⟨x1, ex1⟩ : ∃ y : Int32, y = v4 + 1 := ⟨_, rfl⟩
  have hw := hw x1 ex1
  refine lv_iinc (v := x1) (lv' := [(4, .int x1), (3, .int u0), (0, .ref (ad 0)), (1, .ref (ad 35)), (2, .int v2)]) hx hb dX10_solves_96 hl (k := 4) rfl (by rw [ex1]; rfl) (by decide) rfl (fun ls hl => ?_)
  refine lv_goto (tgt := 5) hx hb dX10_solves_99 (by decide) ?_
  exact hK5 v2 u0 x1 σ _ _ ls hw hM (lv_sub hl [2, 3, 4, 1, 0] rfl)
set_option maxHeartbeats 4000000 in
theorem wk_solves_35_87 {p : Program} {l : Launch} {e : Env} {s : State} {m : MethodId} {args : Array Value} {below : List Frame} {meth : Method} {c : Code} {D : va_G} {dA : Nat → ClassId} {ad : Nat → Nat} {σ0 : St} {sz : Nat} (C : CxM p s m meth c args (AM dA ad σ0 sz) RX10 cX10_solves 7 (some .boolean)) {Qr : Int32 → St → Prop} {K5 : Int32 → Int32 → Int32 → St → Prop} (hK5 : ∀ (v2 : Int32) (v3 : Int32) (v4 : Int32) (σ : St) (H : Heap) (locs : List Loc) (ls : Array Slot), K5 v2 v3 v4 σ → wM D dA ad (AM dA ad σ0 sz) s σ H locs → lv_has ls 7 [(0, .ref (ad 0)), (1, .ref (ad 35)), (2, .int v2), (3, .int v3), (4, .int v4)] → W p l e rm_solves_35 s m args below meth c H locs 0 0 (MQ below (va_Qi Qr (BM D dA ad (AM dA ad σ0 sz)) (AM dA ad σ0 sz)) args s 0 0 (AM dA ad σ0 sz)) (F0 m 5 ls [])) : ∀ (v2 : Int32) (v4 : Int32) (u0 : Int32) (u1 : Int32) (σ : St) (H : Heap) (locs : List Loc) (ls : Array Slot), wp_solves_35_87 Qr K5 v2 v4 u0 u1 σ → wM D dA ad (AM dA ad σ0 sz) s σ H locs → lv_has ls 7 [(0, .ref (ad 0)), (1, .ref (ad 35)), (2, .int v2), (4, .int v4)] → W p l e rm_solves_35 s m args below meth c H locs 0 0 (MQ below (va_Qi Qr (BM D dA ad (AM dA ad σ0 sz)) (AM dA ad σ0 sz)) args s 0 0 (AM dA ad σ0 sz)) (F0 m 87 ls [.int u1, .int u0]) := by
  intro v2 v4 u0 u1 σ H locs ls hw hM hl
  have hx := C.1
  have hb := C.2.1
  have hown := C.2.2.2.2.2.1
  have hts := C.2.2.2.2.2.2.1
  unfold wp_solves_35_87 at hw
  refine lv_icmp_ne (tgt := 94) hx hb dX10_solves_87 (by decide) (fun hc => ?_) (fun hc => ?_)
  · have hw := hw.1 hc
    refine lv_iconst (v := 0) hx hb dX10_solves_94 (by decide) ?_
    exact wk_solves_35_95 C hK5 v2 v4 0 σ _ _ ls hw hM (lv_sub hl [0, 1, 2, 3] rfl)
  · have hw := hw.2 hc
    refine lv_iconst (v := 1) hx hb dX10_solves_90 (by decide) ?_
    refine lv_goto (tgt := 95) hx hb dX10_solves_91 (by decide) ?_
    exact wk_solves_35_95 C hK5 v2 v4 1 σ _ _ ls hw hM (lv_sub hl [0, 1, 2, 3] rfl)
set_option maxHeartbeats 4000000 in
theorem wk_solves_35_24 {p : Program} {l : Launch} {e : Env} {s : State} {m : MethodId} {args : Array Value} {below : List Frame} {meth : Method} {c : Code} {D : va_G} {dA : Nat → ClassId} {ad : Nat → Nat} {σ0 : St} {sz : Nat} (C : CxM p s m meth c args (AM dA ad σ0 sz) RX10 cX10_solves 7 (some .boolean)) {Qr : Int32 → St → Prop} {K5 : Int32 → Int32 → Int32 → St → Prop} (hK5 : ∀ (v2 : Int32) (v3 : Int32) (v4 : Int32) (σ : St) (H : Heap) (locs : List Loc) (ls : Array Slot), K5 v2 v3 v4 σ → wM D dA ad (AM dA ad σ0 sz) s σ H locs → lv_has ls 7 [(0, .ref (ad 0)), (1, .ref (ad 35)), (2, .int v2), (3, .int v3), (4, .int v4)] → W p l e rm_solves_35 s m args below meth c H locs 0 0 (MQ below (va_Qi Qr (BM D dA ad (AM dA ad σ0 sz)) (AM dA ad σ0 sz)) args s 0 0 (AM dA ad σ0 sz)) (F0 m 5 ls [])) : ∀ (n : Nat) (v2 : Int32) (v4 : Int32) (v5 : Int32) (v6 : Int32) (σ : St) (H : Heap) (locs : List Loc) (ls : Array Slot), wp_solves_35_24 Qr K5 n v2 v4 v5 v6 σ → wM D dA ad (AM dA ad σ0 sz) s σ H locs → lv_has ls 7 [(0, .ref (ad 0)), (1, .ref (ad 35)), (2, .int v2), (4, .int v4), (5, .int v5), (6, .int v6)] → W p l e rm_solves_35 s m args below meth c H locs 0 0 (MQ below (va_Qi Qr (BM D dA ad (AM dA ad σ0 sz)) (AM dA ad σ0 sz)) args s 0 0 (AM dA ad σ0 sz)) (F0 m 24 ls []) := by
  intro n
  induction n with
  | zero => intro v2 v4 v5 v6 σ H locs ls hw; exact hw.elim
  | succ n24 ih =>
    intro v2 v4 v5 v6 σ H locs ls hw hM hl
    have hx := C.1
    have hb := C.2.1
    have hown := C.2.2.2.2.2.1
    have hts := C.2.2.2.2.2.2.1
    unfold wp_solves_35_24 at hw
    refine lv_iload hx hb dX10_solves_24 (lv_at hl 5 rfl) ?_
    refine lv_aload_n hx hb dX10_solves_26 rfl (lv_at hl 0 rfl) ?_
    refine rM_get C hM 17 (by decide) (fM_17 ad σ) q1407 rfl dX10_solves_27 ?_
    refine lv_icmp_ge (tgt := 62) hx hb dX10_solves_30 (by decide) (fun hc => ?_) (fun hc => ?_)
    · have hw := hw.1 hc
      refine lv_iload hx hb dX10_solves_62 (lv_at hl 4 rfl) ?_
      refine lv_iload_n hx hb dX10_solves_64 rfl (lv_at hl 2 rfl) ?_
      refine lv_if_eq (tgt := 86) hx hb dX10_solves_65 (by decide) (fun hc => ?_) (fun hc => ?_)
      · have hw := hw.1 hc
        refine lv_iconst (v := 0) hx hb dX10_solves_86 (by decide) ?_
        exact wk_solves_35_87 C hK5 v2 v4 v5 0 σ _ _ ls hw hM (lv_sub hl [0, 1, 2, 3] rfl)
      · have hw := hw.2 hc
        refine lv_aload_n hx hb dX10_solves_68 rfl (lv_at hl 0 rfl) ?_
        refine rM_get C hM 19 (by decide) (fM_19 ad σ) q1409 rfl dX10_solves_69 ?_
        refine lv_bipush (v := 7) hx hb dX10_solves_72 (by decide) ?_
        refine lv_iload hx hb dX10_solves_74 (lv_at hl 3 rfl) ?_
        refine lv_imul hx hb dX10_solves_76 ?_
        refine lv_aload_n hx hb dX10_solves_77 rfl (lv_at hl 0 rfl) ?_
        refine rM_get C hM 17 (by decide) (fM_17 ad σ) q1407 rfl dX10_solves_78 ?_
        refine lv_iadd hx hb dX10_solves_81 ?_
        refine rM_iald C hM 19 9 (wM_19 dA ad σ) hw.1 dX10_solves_82 ?_
        have hw := hw.2
        refine lv_goto (tgt := 87) hx hb dX10_solves_83 (by decide) ?_
        exact wk_solves_35_87 C hK5 v2 v4 v5 ((gA σ 19 ((7 * v4) + (gI σ 17)))) σ _ _ ls hw hM (lv_sub hl [0, 1, 2, 3] rfl)
    · have hw := hw.2 hc
      refine lv_iload hx hb dX10_solves_33 (lv_at hl 4 rfl) ?_
      refine lv_aload_n hx hb dX10_solves_35 rfl (lv_at hl 0 rfl) ?_
      refine rM_get C hM 19 (by decide) (fM_19 ad σ) q1409 rfl dX10_solves_36 ?_
      refine lv_bipush (v := 7) hx hb dX10_solves_39 (by decide) ?_
      refine lv_iload hx hb dX10_solves_41 (lv_at hl 3 rfl) ?_
      refine lv_imul hx hb dX10_solves_43 ?_
      refine lv_iload hx hb dX10_solves_44 (lv_at hl 5 rfl) ?_
      refine lv_iadd hx hb dX10_solves_46 ?_
      refine rM_iald C hM 19 9 (wM_19 dA ad σ) hw.1 dX10_solves_47 ?_
      have hw := hw.2
      refine lv_aload_n hx hb dX10_solves_48 rfl (lv_at hl 1 rfl) ?_
      refine lv_iload hx hb dX10_solves_49 (lv_at hl 5 rfl) ?_
      refine rM_iald C hM 35 21 (wM_35 dA ad σ) hw.1 dX10_solves_51 ?_
      have hw := hw.2
      refine lv_imul hx hb dX10_solves_52 ?_
      refine lv_iadd hx hb dX10_solves_53 ?_
      refine lv_topi (fun x1 ex1 => ?_)
      have hw := hw x1 ex1
      refine lv_istore (lv' := [(5, .int x1), (0, .ref (ad 0)), (1, .ref (ad 35)), (2, .int v2), (4, .int v4), (6, .int v6)]) hx hb dX10_solves_54 hl (by decide) rfl (fun ls hl => ?_)
      obtain ⟨x2, ex2⟩ : ∃ y : Int32, y = v6 + 1 := ⟨_, rfl⟩
      have hw := hw x2 ex2
      refine lv_iinc (v := x2) (lv' := [(6, .int x2), (5, .int x1), (0, .ref (ad 0)), (1, .ref (ad 35)), (2, .int v2), (4, .int v4)]) hx hb dX10_solves_56 hl (k := 5) rfl (by rw [ex2]; rfl) (by decide) rfl (fun ls hl => ?_)
      refine lv_goto (tgt := 24) hx hb dX10_solves_59 (by decide) ?_
      exact ih v2 v4 x1 x2 σ _ _ ls hw hM (lv_sub hl [2, 3, 4, 5, 1, 0] rfl)
set_option maxHeartbeats 4000000 in
theorem wk_solves_35_5 {p : Program} {l : Launch} {e : Env} {s : State} {m : MethodId} {args : Array Value} {below : List Frame} {meth : Method} {c : Code} {D : va_G} {dA : Nat → ClassId} {ad : Nat → Nat} {σ0 : St} {sz : Nat} (C : CxM p s m meth c args (AM dA ad σ0 sz) RX10 cX10_solves 7 (some .boolean)) {Qr : Int32 → St → Prop} : ∀ (n : Nat) (v2 : Int32) (v3 : Int32) (v4 : Int32) (σ : St) (H : Heap) (locs : List Loc) (ls : Array Slot), wp_solves_35_5 Qr n v2 v3 v4 σ → wM D dA ad (AM dA ad σ0 sz) s σ H locs → lv_has ls 7 [(0, .ref (ad 0)), (1, .ref (ad 35)), (2, .int v2), (3, .int v3), (4, .int v4)] → W p l e rm_solves_35 s m args below meth c H locs 0 0 (MQ below (va_Qi Qr (BM D dA ad (AM dA ad σ0 sz)) (AM dA ad σ0 sz)) args s 0 0 (AM dA ad σ0 sz)) (F0 m 5 ls []) := by
  intro n
  induction n with
  | zero => intro v2 v3 v4 σ H locs ls hw; exact hw.elim
  | succ n5 ih =>
    intro v2 v3 v4 σ H locs ls hw hM hl
    have hx := C.1
    have hb := C.2.1
    have hown := C.2.2.2.2.2.1
    have hts := C.2.2.2.2.2.2.1
    unfold wp_solves_35_5 at hw
    refine lv_iload hx hb dX10_solves_5 (lv_at hl 4 rfl) ?_
    refine lv_aload_n hx hb dX10_solves_7 rfl (lv_at hl 0 rfl) ?_
    refine rM_get C hM 15 (by decide) (fM_15 ad σ) q1405 rfl dX10_solves_8 ?_
    refine lv_icmp_ge (tgt := 102) hx hb dX10_solves_11 (by decide) (fun hc => ?_) (fun hc => ?_)
    · have hw := hw.1 hc
      exact wk_solves_35_102 C  v3 σ _ _ ls hw hM (lv_sub hl [0, 3] rfl)
    · have hw := hw.2 hc
      refine lv_iload_n hx hb dX10_solves_14 rfl (lv_at hl 3 rfl) ?_
      refine lv_if_eq (tgt := 102) hx hb dX10_solves_15 (by decide) (fun hc => ?_) (fun hc => ?_)
      · have hw := hw.1 hc
        exact wk_solves_35_102 C  v3 σ _ _ ls hw hM (lv_sub hl [0, 3] rfl)
      · have hw := hw.2 hc
        refine lv_iconst (v := 0) hx hb dX10_solves_18 (by decide) ?_
        refine lv_istore (lv' := [(5, .int 0), (0, .ref (ad 0)), (1, .ref (ad 35)), (2, .int v2), (3, .int v3), (4, .int v4)]) hx hb dX10_solves_19 hl (by decide) rfl (fun ls hl => ?_)
        refine lv_iconst (v := 0) hx hb dX10_solves_21 (by decide) ?_
        refine lv_istore (lv' := [(6, .int 0), (5, .int 0), (0, .ref (ad 0)), (1, .ref (ad 35)), (2, .int v2), (3, .int v3), (4, .int v4)]) hx hb dX10_solves_22 hl (by decide) rfl (fun ls hl => ?_)
        obtain ⟨n24, hw⟩ := hw
        exact wk_solves_35_24 C ih n24 v2 v4 0 0 σ _ _ ls hw hM (lv_sub hl [2, 3, 4, 6, 1, 0] rfl)
set_option maxHeartbeats 4000000 in
/-- private boolean solves(int[], boolean); -/
theorem mt_solves_35 (l : Launch) (D : va_G) (dA : Nat → ClassId) (ad : Nat → Nat) (sz : Nat) (σ : St) (p2 : Int32) (Qr : Int32 → St → Prop) (hw : wp_solves_35 p2 σ Qr) : Met l yX10_solves (ws_ yX10_solves cX10_solves 7 (some .boolean)) rm_solves_35 (PcM D dA ad σ sz [.ref (ad 0), .ref (ad 35), .int p2]) (va_Qi Qr (BM D dA ad (AM dA ad σ sz)) (AM dA ad σ sz)) 0 0 (AM dA ad σ sz) := by
  refine Met.ofW (cc := cX10_solves) (maxL := 7) (ret := (some .boolean)) (by decide) rfl ?_
  intro p e s m args below meth c s₁ B hml hv
  obtain ⟨rfl, hsz, hP, hK, hD0⟩ := hv
  subst hsz
  have hts0 := atoms_spec (ws := ws_ yX10_solves cX10_solves 7 (some .boolean)) B.pre
  have C : CxM p s m meth c _ (AM dA ad σ s.heap.size) RX10 cX10_solves 7 (some .boolean) := ⟨B.exec, B.bytes, B.returns, B.notSynchronized, hml, findClass_of_methodNamed B.named, fun w h => hts0 w (List.mem_cons_of_mem _ h), fun q h => Or.inr h⟩
  have hM : wM D dA ad (AM dA ad σ s.heap.size) s σ s.heap [] := ⟨hK, hP, hD0.self, va_S.rf⟩
  have hx := C.1
  have hb := C.2.1
  have hown := C.2.2.2.2.2.1
  have hts := C.2.2.2.2.2.2.1
  have hl := lv_entry ([.ref (ad 0), .ref (ad 35), .int p2]) (n := 7) (Nat.le_of_ble_eq_true rfl)
  rw [lg_entry_eq]
  generalize (lg_sl ([.ref (ad 0), .ref (ad 35), .int p2]) ++ List.replicate (7 - (lg_sl ([.ref (ad 0), .ref (ad 35), .int p2])).length) Slot.unset).toArray = ls at hl ⊢
  have hl : lv_has ls 7 [(0, .ref (ad 0)), (1, .ref (ad 35)), (2, .int p2)] := hl
  unfold wp_solves_35 at hw
  refine lv_iconst (v := 1) hx hb dX10_solves_0 (by decide) ?_
  refine lv_istore_n (lv' := [(3, .int 1), (0, .ref (ad 0)), (1, .ref (ad 35)), (2, .int p2)]) hx hb dX10_solves_1 rfl hl (by decide) rfl (fun ls hl => ?_)
  refine lv_iconst (v := 0) hx hb dX10_solves_2 (by decide) ?_
  refine lv_istore (lv' := [(4, .int 0), (3, .int 1), (0, .ref (ad 0)), (1, .ref (ad 35)), (2, .int p2)]) hx hb dX10_solves_3 hl (by decide) rfl (fun ls hl => ?_)
  obtain ⟨n5, hw⟩ := hw
  exact wk_solves_35_5 C  n5 p2 1 0 σ _ _ ls hw hM (lv_sub hl [2, 3, 4, 1, 0] rfl)
abbrev rm_isBelow : Room := { frames := 0, cells := 0, slots := 0, locals := 0 }
set_option maxHeartbeats 4000000 in
theorem wk_isBelow_107 {p : Program} {l : Launch} {e : Env} {s : State} {m : MethodId} {args : Array Value} {below : List Frame} {meth : Method} {c : Code} {D : va_G} {dA : Nat → ClassId} {ad : Nat → Nat} {σ0 : St} {sz : Nat} (C : CxM p s m meth c args (AM dA ad σ0 sz) RX10 cX10_isBelow 7 (some .boolean)) {Qr : Int32 → St → Prop} : ∀ (v4 : Int32) (σ : St) (H : Heap) (locs : List Loc) (ls : Array Slot), wp_isBelow_107 Qr v4 σ → wM D dA ad (AM dA ad σ0 sz) s σ H locs → lv_has ls 7 [(0, .ref (ad 0)), (4, .int v4)] → W p l e rm_isBelow s m args below meth c H locs 0 0 (MQ below (va_Qi Qr (BM D dA ad (AM dA ad σ0 sz)) (AM dA ad σ0 sz)) args s 0 0 (AM dA ad σ0 sz)) (F0 m 107 ls []) := by
  intro v4 σ H locs ls hw hM hl
  have hx := C.1
  have hb := C.2.1
  have hown := C.2.2.2.2.2.1
  have hts := C.2.2.2.2.2.2.1
  unfold wp_isBelow_107 at hw
  refine lv_iload hx hb dX10_isBelow_107 (lv_at hl 1 rfl) ?_
  exact rM_zret C hM hw dX10_isBelow_109
set_option maxHeartbeats 4000000 in
theorem wk_isBelow_99 {p : Program} {l : Launch} {e : Env} {s : State} {m : MethodId} {args : Array Value} {below : List Frame} {meth : Method} {c : Code} {D : va_G} {dA : Nat → ClassId} {ad : Nat → Nat} {σ0 : St} {sz : Nat} (C : CxM p s m meth c args (AM dA ad σ0 sz) RX10 cX10_isBelow 7 (some .boolean)) {Qr : Int32 → St → Prop} {K6 : Int32 → Int32 → Int32 → Int32 → Int32 → St → Prop} (hK6 : ∀ (v1 : Int32) (v2 : Int32) (v3 : Int32) (v4 : Int32) (v5 : Int32) (σ : St) (H : Heap) (locs : List Loc) (ls : Array Slot), K6 v1 v2 v3 v4 v5 σ → wM D dA ad (AM dA ad σ0 sz) s σ H locs → lv_has ls 7 [(0, .ref (ad 0)), (1, .int v1), (2, .int v2), (3, .int v3), (4, .int v4), (5, .int v5)] → W p l e rm_isBelow s m args below meth c H locs 0 0 (MQ below (va_Qi Qr (BM D dA ad (AM dA ad σ0 sz)) (AM dA ad σ0 sz)) args s 0 0 (AM dA ad σ0 sz)) (F0 m 6 ls [])) : ∀ (v1 : Int32) (v2 : Int32) (v3 : Int32) (v5 : Int32) (u0 : Int32) (σ : St) (H : Heap) (locs : List Loc) (ls : Array Slot), wp_isBelow_99 Qr K6 v1 v2 v3 v5 u0 σ → wM D dA ad (AM dA ad σ0 sz) s σ H locs → lv_has ls 7 [(0, .ref (ad 0)), (1, .int v1), (2, .int v2), (3, .int v3), (5, .int v5)] → W p l e rm_isBelow s m args below meth c H locs 0 0 (MQ below (va_Qi Qr (BM D dA ad (AM dA ad σ0 sz)) (AM dA ad σ0 sz)) args s 0 0 (AM dA ad σ0 sz)) (F0 m 99 ls [.int u0]) := by
  intro v1 v2 v3 v5 u0 σ H locs ls hw hM hl
  have hx := C.1
  have hb := C.2.1
  have hown := C.2.2.2.2.2.1
  have hts := C.2.2.2.2.2.2.1
  unfold wp_isBelow_99 at hw
  refine lv_istore (lv' := [(4, .int u0), (0, .ref (ad 0)), (1, .int v1), (2, .int v2), (3, .int v3), (5, .int v5)]) hx hb dX10_isBelow_99 hl (by decide) rfl (fun ls hl => ?_)
  obtain ⟨x1, ex1⟩ : ∃ y : Int32, y = v5 + 1 := ⟨_, rfl⟩
  have hw := hw x1 ex1
  refine lv_iinc (v := x1) (lv' := [(5, .int x1), (4, .int u0), (0, .ref (ad 0)), (1, .int v1), (2, .int v2), (3, .int v3)]) hx hb dX10_isBelow_101 hl (k := 5) rfl (by rw [ex1]; rfl) (by decide) rfl (fun ls hl => ?_)
  refine lv_goto (tgt := 6) hx hb dX10_isBelow_104 (by decide) ?_
  exact hK6 v1 v2 v3 u0 x1 σ _ _ ls hw hM (lv_sub hl [2, 3, 4, 5, 1, 0] rfl)
set_option maxHeartbeats 4000000 in
theorem wk_isBelow_98 {p : Program} {l : Launch} {e : Env} {s : State} {m : MethodId} {args : Array Value} {below : List Frame} {meth : Method} {c : Code} {D : va_G} {dA : Nat → ClassId} {ad : Nat → Nat} {σ0 : St} {sz : Nat} (C : CxM p s m meth c args (AM dA ad σ0 sz) RX10 cX10_isBelow 7 (some .boolean)) {Qr : Int32 → St → Prop} {K6 : Int32 → Int32 → Int32 → Int32 → Int32 → St → Prop} (hK6 : ∀ (v1 : Int32) (v2 : Int32) (v3 : Int32) (v4 : Int32) (v5 : Int32) (σ : St) (H : Heap) (locs : List Loc) (ls : Array Slot), K6 v1 v2 v3 v4 v5 σ → wM D dA ad (AM dA ad σ0 sz) s σ H locs → lv_has ls 7 [(0, .ref (ad 0)), (1, .int v1), (2, .int v2), (3, .int v3), (4, .int v4), (5, .int v5)] → W p l e rm_isBelow s m args below meth c H locs 0 0 (MQ below (va_Qi Qr (BM D dA ad (AM dA ad σ0 sz)) (AM dA ad σ0 sz)) args s 0 0 (AM dA ad σ0 sz)) (F0 m 6 ls [])) : ∀ (v1 : Int32) (v2 : Int32) (v3 : Int32) (v5 : Int32) (σ : St) (H : Heap) (locs : List Loc) (ls : Array Slot), wp_isBelow_98 Qr K6 v1 v2 v3 v5 σ → wM D dA ad (AM dA ad σ0 sz) s σ H locs → lv_has ls 7 [(0, .ref (ad 0)), (1, .int v1), (2, .int v2), (3, .int v3), (5, .int v5)] → W p l e rm_isBelow s m args below meth c H locs 0 0 (MQ below (va_Qi Qr (BM D dA ad (AM dA ad σ0 sz)) (AM dA ad σ0 sz)) args s 0 0 (AM dA ad σ0 sz)) (F0 m 98 ls []) := by
  intro v1 v2 v3 v5 σ H locs ls hw hM hl
  have hx := C.1
  have hb := C.2.1
  have hown := C.2.2.2.2.2.1
  have hts := C.2.2.2.2.2.2.1
  unfold wp_isBelow_98 at hw
  refine lv_iconst (v := 0) hx hb dX10_isBelow_98 (by decide) ?_
  exact wk_isBelow_99 C hK6 v1 v2 v3 v5 0 σ _ _ ls hw hM (lv_sub hl [0, 1, 2, 3, 4] rfl)
set_option maxHeartbeats 4000000 in
theorem wk_isBelow_73 {p : Program} {l : Launch} {e : Env} {s : State} {m : MethodId} {args : Array Value} {below : List Frame} {meth : Method} {c : Code} {D : va_G} {dA : Nat → ClassId} {ad : Nat → Nat} {σ0 : St} {sz : Nat} (C : CxM p s m meth c args (AM dA ad σ0 sz) RX10 cX10_isBelow 7 (some .boolean)) {Qr : Int32 → St → Prop} {K6 : Int32 → Int32 → Int32 → Int32 → Int32 → St → Prop} (hK6 : ∀ (v1 : Int32) (v2 : Int32) (v3 : Int32) (v4 : Int32) (v5 : Int32) (σ : St) (H : Heap) (locs : List Loc) (ls : Array Slot), K6 v1 v2 v3 v4 v5 σ → wM D dA ad (AM dA ad σ0 sz) s σ H locs → lv_has ls 7 [(0, .ref (ad 0)), (1, .int v1), (2, .int v2), (3, .int v3), (4, .int v4), (5, .int v5)] → W p l e rm_isBelow s m args below meth c H locs 0 0 (MQ below (va_Qi Qr (BM D dA ad (AM dA ad σ0 sz)) (AM dA ad σ0 sz)) args s 0 0 (AM dA ad σ0 sz)) (F0 m 6 ls [])) : ∀ (v1 : Int32) (v2 : Int32) (v3 : Int32) (v5 : Int32) (σ : St) (H : Heap) (locs : List Loc) (ls : Array Slot), wp_isBelow_73 Qr K6 v1 v2 v3 v5 σ → wM D dA ad (AM dA ad σ0 sz) s σ H locs → lv_has ls 7 [(0, .ref (ad 0)), (1, .int v1), (2, .int v2), (3, .int v3), (5, .int v5)] → W p l e rm_isBelow s m args below meth c H locs 0 0 (MQ below (va_Qi Qr (BM D dA ad (AM dA ad σ0 sz)) (AM dA ad σ0 sz)) args s 0 0 (AM dA ad σ0 sz)) (F0 m 73 ls []) := by
  intro v1 v2 v3 v5 σ H locs ls hw hM hl
  have hx := C.1
  have hb := C.2.1
  have hown := C.2.2.2.2.2.1
  have hts := C.2.2.2.2.2.2.1
  unfold wp_isBelow_73 at hw
  refine lv_iconst (v := 0) hx hb dX10_isBelow_73 (by decide) ?_
  refine lv_goto (tgt := 99) hx hb dX10_isBelow_74 (by decide) ?_
  exact wk_isBelow_99 C hK6 v1 v2 v3 v5 0 σ _ _ ls hw hM (lv_sub hl [0, 1, 2, 3, 4] rfl)
set_option maxHeartbeats 4000000 in
theorem wk_isBelow_6 {p : Program} {l : Launch} {e : Env} {s : State} {m : MethodId} {args : Array Value} {below : List Frame} {meth : Method} {c : Code} {D : va_G} {dA : Nat → ClassId} {ad : Nat → Nat} {σ0 : St} {sz : Nat} (C : CxM p s m meth c args (AM dA ad σ0 sz) RX10 cX10_isBelow 7 (some .boolean)) {Qr : Int32 → St → Prop} : ∀ (n : Nat) (v1 : Int32) (v2 : Int32) (v3 : Int32) (v4 : Int32) (v5 : Int32) (σ : St) (H : Heap) (locs : List Loc) (ls : Array Slot), wp_isBelow_6 Qr n v1 v2 v3 v4 v5 σ → wM D dA ad (AM dA ad σ0 sz) s σ H locs → lv_has ls 7 [(0, .ref (ad 0)), (1, .int v1), (2, .int v2), (3, .int v3), (4, .int v4), (5, .int v5)] → W p l e rm_isBelow s m args below meth c H locs 0 0 (MQ below (va_Qi Qr (BM D dA ad (AM dA ad σ0 sz)) (AM dA ad σ0 sz)) args s 0 0 (AM dA ad σ0 sz)) (F0 m 6 ls []) := by
  intro n
  induction n with
  | zero => intro v1 v2 v3 v4 v5 σ H locs ls hw; exact hw.elim
  | succ n6 ih =>
    intro v1 v2 v3 v4 v5 σ H locs ls hw hM hl
    have hx := C.1
    have hb := C.2.1
    have hown := C.2.2.2.2.2.1
    have hts := C.2.2.2.2.2.2.1
    unfold wp_isBelow_6 at hw
    refine lv_iload hx hb dX10_isBelow_6 (lv_at hl 5 rfl) ?_
    refine lv_aload_n hx hb dX10_isBelow_8 rfl (lv_at hl 0 rfl) ?_
    refine rM_get C hM 17 (by decide) (fM_17 ad σ) q1407 rfl dX10_isBelow_9 ?_
    refine lv_icmp_ge (tgt := 107) hx hb dX10_isBelow_12 (by decide) (fun hc => ?_) (fun hc => ?_)
    · have hw := hw.1 hc
      exact wk_isBelow_107 C  v4 σ _ _ ls hw hM (lv_sub hl [0, 4] rfl)
    · have hw := hw.2 hc
      refine lv_iload hx hb dX10_isBelow_15 (lv_at hl 4 rfl) ?_
      refine lv_if_eq (tgt := 107) hx hb dX10_isBelow_17 (by decide) (fun hc => ?_) (fun hc => ?_)
      · have hw := hw.1 hc
        exact wk_isBelow_107 C  v4 σ _ _ ls hw hM (lv_sub hl [0, 4] rfl)
      · have hw := hw.2 hc
        refine lv_iload_n hx hb dX10_isBelow_20 rfl (lv_at hl 3 rfl) ?_
        refine lv_aload_n hx hb dX10_isBelow_21 rfl (lv_at hl 0 rfl) ?_
        refine rM_get C hM 23 (by decide) (fM_23 ad σ) q1413 rfl dX10_isBelow_22 ?_
        refine lv_sipush (v := 12000) hx hb dX10_isBelow_25 (by decide) ?_
        refine lv_iload_n hx hb dX10_isBelow_28 rfl (lv_at hl 1 rfl) ?_
        refine lv_imul hx hb dX10_isBelow_29 ?_
        refine lv_bipush (v := 6) hx hb dX10_isBelow_30 (by decide) ?_
        refine lv_iload_n hx hb dX10_isBelow_32 rfl (lv_at hl 2 rfl) ?_
        refine lv_imul hx hb dX10_isBelow_33 ?_
        refine lv_iadd hx hb dX10_isBelow_34 ?_
        refine lv_iload hx hb dX10_isBelow_35 (lv_at hl 5 rfl) ?_
        refine lv_iadd hx hb dX10_isBelow_37 ?_
        refine rM_bald C hM 23 13 (wM_23 dA ad σ) hw.1 dX10_isBelow_38 ?_
        have hw := hw.2
        refine lv_imul hx hb dX10_isBelow_39 ?_
        refine lv_topi (fun x1 ex1 => ?_)
        have hw := hw x1 ex1
        refine lv_istore (lv' := [(6, .int x1), (0, .ref (ad 0)), (1, .int v1), (2, .int v2), (3, .int v3), (4, .int v4), (5, .int v5)]) hx hb dX10_isBelow_40 hl (by decide) rfl (fun ls hl => ?_)
        refine lv_aload_n hx hb dX10_isBelow_42 rfl (lv_at hl 1 rfl) ?_
        refine rM_get C hM 35 (by decide) (fM_35 ad σ) q1425 rfl dX10_isBelow_43 ?_
        refine lv_iload hx hb dX10_isBelow_46 (lv_at hl 6 rfl) ?_
        refine rM_iald C hM 35 21 (wM_35 dA ad σ) hw.1 dX10_isBelow_48 ?_
        have hw := hw.2
        refine lv_if_lt (tgt := 77) hx hb dX10_isBelow_49 (by decide) (fun hc => ?_) (fun hc => ?_)
        · have hw := hw.1 hc
          refine lv_iload hx hb dX10_isBelow_77 (lv_at hl 0 rfl) ?_
          refine lv_if_gt (tgt := 98) hx hb dX10_isBelow_79 (by decide) (fun hc => ?_) (fun hc => ?_)
          · have hw := hw.1 hc
            exact wk_isBelow_98 C ih v1 v2 v3 v5 σ _ _ ls hw hM (lv_sub hl [1, 2, 3, 4, 6] rfl)
          · have hw := hw.2 hc
            refine lv_iload hx hb dX10_isBelow_82 (lv_at hl 0 rfl) ?_
            refine lv_aload_n hx hb dX10_isBelow_84 rfl (lv_at hl 1 rfl) ?_
            refine rM_get C hM 35 (by decide) (fM_35 ad σ) q1425 rfl dX10_isBelow_85 ?_
            refine lv_iload hx hb dX10_isBelow_88 (lv_at hl 6 rfl) ?_
            refine rM_iald C hM 35 21 (wM_35 dA ad σ) hw.1 dX10_isBelow_90 ?_
            have hw := hw.2
            refine lv_icmp_lt (tgt := 98) hx hb dX10_isBelow_91 (by decide) (fun hc => ?_) (fun hc => ?_)
            · have hw := hw.1 hc
              exact wk_isBelow_98 C ih v1 v2 v3 v5 σ _ _ ls hw hM (lv_sub hl [1, 2, 3, 4, 6] rfl)
            · have hw := hw.2 hc
              refine lv_iconst (v := 1) hx hb dX10_isBelow_94 (by decide) ?_
              refine lv_goto (tgt := 99) hx hb dX10_isBelow_95 (by decide) ?_
              exact wk_isBelow_99 C ih v1 v2 v3 v5 1 σ _ _ ls hw hM (lv_sub hl [1, 2, 3, 4, 6] rfl)
        · have hw := hw.2 hc
          refine lv_iload hx hb dX10_isBelow_52 (lv_at hl 0 rfl) ?_
          refine lv_if_lt (tgt := 73) hx hb dX10_isBelow_54 (by decide) (fun hc => ?_) (fun hc => ?_)
          · have hw := hw.1 hc
            exact wk_isBelow_73 C ih v1 v2 v3 v5 σ _ _ ls hw hM (lv_sub hl [1, 2, 3, 4, 6] rfl)
          · have hw := hw.2 hc
            refine lv_iload hx hb dX10_isBelow_57 (lv_at hl 0 rfl) ?_
            refine lv_aload_n hx hb dX10_isBelow_59 rfl (lv_at hl 1 rfl) ?_
            refine rM_get C hM 35 (by decide) (fM_35 ad σ) q1425 rfl dX10_isBelow_60 ?_
            refine lv_iload hx hb dX10_isBelow_63 (lv_at hl 6 rfl) ?_
            refine rM_iald C hM 35 21 (wM_35 dA ad σ) hw.1 dX10_isBelow_65 ?_
            have hw := hw.2
            refine lv_icmp_gt (tgt := 73) hx hb dX10_isBelow_66 (by decide) (fun hc => ?_) (fun hc => ?_)
            · have hw := hw.1 hc
              exact wk_isBelow_73 C ih v1 v2 v3 v5 σ _ _ ls hw hM (lv_sub hl [1, 2, 3, 4, 6] rfl)
            · have hw := hw.2 hc
              refine lv_iconst (v := 1) hx hb dX10_isBelow_69 (by decide) ?_
              refine lv_goto (tgt := 99) hx hb dX10_isBelow_70 (by decide) ?_
              exact wk_isBelow_99 C ih v1 v2 v3 v5 1 σ _ _ ls hw hM (lv_sub hl [1, 2, 3, 4, 6] rfl)
set_option maxHeartbeats 4000000 in
/-- private boolean isBelow(int, int, int); -/
theorem mt_isBelow (l : Launch) (D : va_G) (dA : Nat → ClassId) (ad : Nat → Nat) (sz : Nat) (σ : St) (p1 : Int32) (p2 : Int32) (p3 : Int32) (Qr : Int32 → St → Prop) (hw : wp_isBelow p1 p2 p3 σ Qr) : Met l yX10_isBelow (ws_ yX10_isBelow cX10_isBelow 7 (some .boolean)) rm_isBelow (PcM D dA ad σ sz [.ref (ad 0), .int p1, .int p2, .int p3]) (va_Qi Qr (BM D dA ad (AM dA ad σ sz)) (AM dA ad σ sz)) 0 0 (AM dA ad σ sz) := by
  refine Met.ofW (cc := cX10_isBelow) (maxL := 7) (ret := (some .boolean)) (by decide) rfl ?_
  intro p e s m args below meth c s₁ B hml hv
  obtain ⟨rfl, hsz, hP, hK, hD0⟩ := hv
  subst hsz
  have hts0 := atoms_spec (ws := ws_ yX10_isBelow cX10_isBelow 7 (some .boolean)) B.pre
  have C : CxM p s m meth c _ (AM dA ad σ s.heap.size) RX10 cX10_isBelow 7 (some .boolean) := ⟨B.exec, B.bytes, B.returns, B.notSynchronized, hml, findClass_of_methodNamed B.named, fun w h => hts0 w (List.mem_cons_of_mem _ h), fun q h => Or.inr h⟩
  have hM : wM D dA ad (AM dA ad σ s.heap.size) s σ s.heap [] := ⟨hK, hP, hD0.self, va_S.rf⟩
  have hx := C.1
  have hb := C.2.1
  have hown := C.2.2.2.2.2.1
  have hts := C.2.2.2.2.2.2.1
  have hl := lv_entry ([.ref (ad 0), .int p1, .int p2, .int p3]) (n := 7) (Nat.le_of_ble_eq_true rfl)
  rw [lg_entry_eq]
  generalize (lg_sl ([.ref (ad 0), .int p1, .int p2, .int p3]) ++ List.replicate (7 - (lg_sl ([.ref (ad 0), .int p1, .int p2, .int p3])).length) Slot.unset).toArray = ls at hl ⊢
  have hl : lv_has ls 7 [(0, .ref (ad 0)), (1, .int p1), (2, .int p2), (3, .int p3)] := hl
  unfold wp_isBelow at hw
  refine lv_iconst (v := 1) hx hb dX10_isBelow_0 (by decide) ?_
  refine lv_istore (lv' := [(4, .int 1), (0, .ref (ad 0)), (1, .int p1), (2, .int p2), (3, .int p3)]) hx hb dX10_isBelow_1 hl (by decide) rfl (fun ls hl => ?_)
  refine lv_iconst (v := 0) hx hb dX10_isBelow_3 (by decide) ?_
  refine lv_istore (lv' := [(5, .int 0), (4, .int 1), (0, .ref (ad 0)), (1, .int p1), (2, .int p2), (3, .int p3)]) hx hb dX10_isBelow_4 hl (by decide) rfl (fun ls hl => ?_)
  obtain ⟨n6, hw⟩ := hw
  exact wk_isBelow_6 C  n6 p1 p2 p3 1 0 σ _ _ ls hw hM (lv_sub hl [2, 3, 4, 5, 1, 0] rfl)
abbrev rm_belongs : Room := { frames := 1, cells := 0, slots := 0, locals := 26 }
set_option maxHeartbeats 4000000 in
theorem wk_belongs_104 {p : Program} {l : Launch} {e : Env} {s : State} {m : MethodId} {args : Array Value} {below : List Frame} {meth : Method} {c : Code} {D : va_G} {dA : Nat → ClassId} {ad : Nat → Nat} {σ0 : St} {sz : Nat} (C : CxM p s m meth c args (AM dA ad σ0 sz) RX10 cX10_belongs 6 (some .boolean)) {Qr : Int32 → St → Prop} : ∀ (σ : St) (H : Heap) (locs : List Loc) (ls : Array Slot), wp_belongs_104 Qr σ → wM D dA ad (AM dA ad σ0 sz) s σ H locs → lv_has ls 6 [(0, .ref (ad 0))] → W p l e rm_belongs s m args below meth c H locs 0 0 (MQ below (va_Qi Qr (BM D dA ad (AM dA ad σ0 sz)) (AM dA ad σ0 sz)) args s 0 0 (AM dA ad σ0 sz)) (F0 m 104 ls []) := by
  intro σ H locs ls hw hM hl
  have hx := C.1
  have hb := C.2.1
  have hown := C.2.2.2.2.2.1
  have hts := C.2.2.2.2.2.2.1
  unfold wp_belongs_104 at hw
  refine lv_iconst (v := 0) hx hb dX10_belongs_104 (by decide) ?_
  exact rM_zret C hM hw dX10_belongs_105
set_option maxHeartbeats 4000000 in
theorem wk_belongs_168 {p : Program} {l : Launch} {e : Env} {s : State} {m : MethodId} {args : Array Value} {below : List Frame} {meth : Method} {c : Code} {D : va_G} {dA : Nat → ClassId} {ad : Nat → Nat} {σ0 : St} {sz : Nat} (C : CxM p s m meth c args (AM dA ad σ0 sz) RX10 cX10_belongs 6 (some .boolean)) {Qr : Int32 → St → Prop} : ∀ (v4 : Int32) (σ : St) (H : Heap) (locs : List Loc) (ls : Array Slot), wp_belongs_168 Qr v4 σ → wM D dA ad (AM dA ad σ0 sz) s σ H locs → lv_has ls 6 [(0, .ref (ad 0)), (4, .int v4)] → W p l e rm_belongs s m args below meth c H locs 0 0 (MQ below (va_Qi Qr (BM D dA ad (AM dA ad σ0 sz)) (AM dA ad σ0 sz)) args s 0 0 (AM dA ad σ0 sz)) (F0 m 168 ls []) := by
  intro v4 σ H locs ls hw hM hl
  have hx := C.1
  have hb := C.2.1
  have hown := C.2.2.2.2.2.1
  have hts := C.2.2.2.2.2.2.1
  unfold wp_belongs_168 at hw
  refine lv_iload hx hb dX10_belongs_168 (lv_at hl 1 rfl) ?_
  exact rM_zret C hM hw dX10_belongs_170
set_option maxHeartbeats 4000000 in
theorem wk_belongs_160 {p : Program} {l : Launch} {e : Env} {s : State} {m : MethodId} {args : Array Value} {below : List Frame} {meth : Method} {c : Code} {D : va_G} {dA : Nat → ClassId} {ad : Nat → Nat} {σ0 : St} {sz : Nat} (C : CxM p s m meth c args (AM dA ad σ0 sz) RX10 cX10_belongs 6 (some .boolean)) {Qr : Int32 → St → Prop} {K112 : Int32 → Int32 → Int32 → St → Prop} (hK112 : ∀ (v1 : Int32) (v4 : Int32) (v5 : Int32) (σ : St) (H : Heap) (locs : List Loc) (ls : Array Slot), K112 v1 v4 v5 σ → wM D dA ad (AM dA ad σ0 sz) s σ H locs → lv_has ls 6 [(0, .ref (ad 0)), (1, .int v1), (4, .int v4), (5, .int v5)] → W p l e rm_belongs s m args below meth c H locs 0 0 (MQ below (va_Qi Qr (BM D dA ad (AM dA ad σ0 sz)) (AM dA ad σ0 sz)) args s 0 0 (AM dA ad σ0 sz)) (F0 m 112 ls [])) : ∀ (v1 : Int32) (v5 : Int32) (u0 : Int32) (σ : St) (H : Heap) (locs : List Loc) (ls : Array Slot), wp_belongs_160 Qr K112 v1 v5 u0 σ → wM D dA ad (AM dA ad σ0 sz) s σ H locs → lv_has ls 6 [(0, .ref (ad 0)), (1, .int v1), (5, .int v5)] → W p l e rm_belongs s m args below meth c H locs 0 0 (MQ below (va_Qi Qr (BM D dA ad (AM dA ad σ0 sz)) (AM dA ad σ0 sz)) args s 0 0 (AM dA ad σ0 sz)) (F0 m 160 ls [.int u0]) := by
  intro v1 v5 u0 σ H locs ls hw hM hl
  have hx := C.1
  have hb := C.2.1
  have hown := C.2.2.2.2.2.1
  have hts := C.2.2.2.2.2.2.1
  unfold wp_belongs_160 at hw
  refine lv_istore (lv' := [(4, .int u0), (0, .ref (ad 0)), (1, .int v1), (5, .int v5)]) hx hb dX10_belongs_160 hl (by decide) rfl (fun ls hl => ?_)
  obtain ⟨x1, ex1⟩ : ∃ y : Int32, y = v5 + 1 := ⟨_, rfl⟩
  have hw := hw x1 ex1
  refine lv_iinc (v := x1) (lv' := [(5, .int x1), (4, .int u0), (0, .ref (ad 0)), (1, .int v1)]) hx hb dX10_belongs_162 hl (k := 3) rfl (by rw [ex1]; rfl) (by decide) rfl (fun ls hl => ?_)
  refine lv_goto (tgt := 112) hx hb dX10_belongs_165 (by decide) ?_
  exact hK112 v1 u0 x1 σ _ _ ls hw hM (lv_sub hl [2, 3, 1, 0] rfl)
set_option maxHeartbeats 4000000 in
theorem wk_belongs_159 {p : Program} {l : Launch} {e : Env} {s : State} {m : MethodId} {args : Array Value} {below : List Frame} {meth : Method} {c : Code} {D : va_G} {dA : Nat → ClassId} {ad : Nat → Nat} {σ0 : St} {sz : Nat} (C : CxM p s m meth c args (AM dA ad σ0 sz) RX10 cX10_belongs 6 (some .boolean)) {Qr : Int32 → St → Prop} {K112 : Int32 → Int32 → Int32 → St → Prop} (hK112 : ∀ (v1 : Int32) (v4 : Int32) (v5 : Int32) (σ : St) (H : Heap) (locs : List Loc) (ls : Array Slot), K112 v1 v4 v5 σ → wM D dA ad (AM dA ad σ0 sz) s σ H locs → lv_has ls 6 [(0, .ref (ad 0)), (1, .int v1), (4, .int v4), (5, .int v5)] → W p l e rm_belongs s m args below meth c H locs 0 0 (MQ below (va_Qi Qr (BM D dA ad (AM dA ad σ0 sz)) (AM dA ad σ0 sz)) args s 0 0 (AM dA ad σ0 sz)) (F0 m 112 ls [])) : ∀ (v1 : Int32) (v5 : Int32) (σ : St) (H : Heap) (locs : List Loc) (ls : Array Slot), wp_belongs_159 Qr K112 v1 v5 σ → wM D dA ad (AM dA ad σ0 sz) s σ H locs → lv_has ls 6 [(0, .ref (ad 0)), (1, .int v1), (5, .int v5)] → W p l e rm_belongs s m args below meth c H locs 0 0 (MQ below (va_Qi Qr (BM D dA ad (AM dA ad σ0 sz)) (AM dA ad σ0 sz)) args s 0 0 (AM dA ad σ0 sz)) (F0 m 159 ls []) := by
  intro v1 v5 σ H locs ls hw hM hl
  have hx := C.1
  have hb := C.2.1
  have hown := C.2.2.2.2.2.1
  have hts := C.2.2.2.2.2.2.1
  unfold wp_belongs_159 at hw
  refine lv_iconst (v := 0) hx hb dX10_belongs_159 (by decide) ?_
  exact wk_belongs_160 C hK112 v1 v5 0 σ _ _ ls hw hM (lv_sub hl [0, 1, 2] rfl)
set_option maxHeartbeats 4000000 in
theorem wk_belongs_155 {p : Program} {l : Launch} {e : Env} {s : State} {m : MethodId} {args : Array Value} {below : List Frame} {meth : Method} {c : Code} {D : va_G} {dA : Nat → ClassId} {ad : Nat → Nat} {σ0 : St} {sz : Nat} (C : CxM p s m meth c args (AM dA ad σ0 sz) RX10 cX10_belongs 6 (some .boolean)) {Qr : Int32 → St → Prop} {K112 : Int32 → Int32 → Int32 → St → Prop} (hK112 : ∀ (v1 : Int32) (v4 : Int32) (v5 : Int32) (σ : St) (H : Heap) (locs : List Loc) (ls : Array Slot), K112 v1 v4 v5 σ → wM D dA ad (AM dA ad σ0 sz) s σ H locs → lv_has ls 6 [(0, .ref (ad 0)), (1, .int v1), (4, .int v4), (5, .int v5)] → W p l e rm_belongs s m args below meth c H locs 0 0 (MQ below (va_Qi Qr (BM D dA ad (AM dA ad σ0 sz)) (AM dA ad σ0 sz)) args s 0 0 (AM dA ad σ0 sz)) (F0 m 112 ls [])) : ∀ (v1 : Int32) (v5 : Int32) (σ : St) (H : Heap) (locs : List Loc) (ls : Array Slot), wp_belongs_155 Qr K112 v1 v5 σ → wM D dA ad (AM dA ad σ0 sz) s σ H locs → lv_has ls 6 [(0, .ref (ad 0)), (1, .int v1), (5, .int v5)] → W p l e rm_belongs s m args below meth c H locs 0 0 (MQ below (va_Qi Qr (BM D dA ad (AM dA ad σ0 sz)) (AM dA ad σ0 sz)) args s 0 0 (AM dA ad σ0 sz)) (F0 m 155 ls []) := by
  intro v1 v5 σ H locs ls hw hM hl
  have hx := C.1
  have hb := C.2.1
  have hown := C.2.2.2.2.2.1
  have hts := C.2.2.2.2.2.2.1
  unfold wp_belongs_155 at hw
  refine lv_iconst (v := 1) hx hb dX10_belongs_155 (by decide) ?_
  refine lv_goto (tgt := 160) hx hb dX10_belongs_156 (by decide) ?_
  exact wk_belongs_160 C hK112 v1 v5 1 σ _ _ ls hw hM (lv_sub hl [0, 1, 2] rfl)
set_option maxHeartbeats 4000000 in
theorem wk_belongs_112 {p : Program} {l : Launch} {e : Env} {s : State} {m : MethodId} {args : Array Value} {below : List Frame} {meth : Method} {c : Code} {D : va_G} {dA : Nat → ClassId} {ad : Nat → Nat} {σ0 : St} {sz : Nat} (C : CxM p s m meth c args (AM dA ad σ0 sz) RX10 cX10_belongs 6 (some .boolean)) {Qr : Int32 → St → Prop} : ∀ (n : Nat) (v1 : Int32) (v4 : Int32) (v5 : Int32) (σ : St) (H : Heap) (locs : List Loc) (ls : Array Slot), wp_belongs_112 Qr n v1 v4 v5 σ → wM D dA ad (AM dA ad σ0 sz) s σ H locs → lv_has ls 6 [(0, .ref (ad 0)), (1, .int v1), (4, .int v4), (5, .int v5)] → W p l e rm_belongs s m args below meth c H locs 0 0 (MQ below (va_Qi Qr (BM D dA ad (AM dA ad σ0 sz)) (AM dA ad σ0 sz)) args s 0 0 (AM dA ad σ0 sz)) (F0 m 112 ls []) := by
  intro n
  induction n with
  | zero => intro v1 v4 v5 σ H locs ls hw; exact hw.elim
  | succ n112 ih =>
    intro v1 v4 v5 σ H locs ls hw hM hl
    have hx := C.1
    have hb := C.2.1
    have hown := C.2.2.2.2.2.1
    have hts := C.2.2.2.2.2.2.1
    unfold wp_belongs_112 at hw
    refine lv_iload hx hb dX10_belongs_112 (lv_at hl 3 rfl) ?_
    refine lv_aload_n hx hb dX10_belongs_114 rfl (lv_at hl 0 rfl) ?_
    refine rM_get C hM 22 (by decide) (fM_22 ad σ) q1412 rfl dX10_belongs_115 ?_
    refine lv_iload_n hx hb dX10_belongs_118 rfl (lv_at hl 1 rfl) ?_
    refine rM_iald C hM 22 12 (wM_22 dA ad σ) hw.1 dX10_belongs_119 ?_
    have hw := hw.2
    refine lv_icmp_ge (tgt := 168) hx hb dX10_belongs_120 (by decide) (fun hc => ?_) (fun hc => ?_)
    · have hw := hw.1 hc
      exact wk_belongs_168 C  v4 σ _ _ ls hw hM (lv_sub hl [0, 2] rfl)
    · have hw := hw.2 hc
      refine lv_iload hx hb dX10_belongs_123 (lv_at hl 2 rfl) ?_
      refine lv_if_eq (tgt := 168) hx hb dX10_belongs_125 (by decide) (fun hc => ?_) (fun hc => ?_)
      · have hw := hw.1 hc
        exact wk_belongs_168 C  v4 σ _ _ ls hw hM (lv_sub hl [0, 2] rfl)
      · have hw := hw.2 hc
        refine lv_aload_n hx hb dX10_belongs_128 rfl (lv_at hl 0 rfl) ?_
        refine lv_iload_n hx hb dX10_belongs_129 rfl (lv_at hl 1 rfl) ?_
        refine lv_iload hx hb dX10_belongs_130 (lv_at hl 3 rfl) ?_
        refine lv_iconst (v := 1) hx hb dX10_belongs_132 (by decide) ?_
        refine rM_callVi (n := 3) (As := [.int v1, .int v5, .int 1]) C hM hl.1 (mt_isBelow l D dA ad _ σ v1 v5 1 _ hw) (lw_V q1638 q1640 qs68 q93 q1641) rfl rfl (by decide +kernel) ⟨Nat.le_of_ble_eq_true rfl, Nat.le_of_ble_eq_true rfl⟩ rfl (Nat.le_of_ble_eq_true rfl) ⟨Nat.zero_le _, Nat.zero_le _⟩ rfl dX10_belongs_133 (fun x2 σ1 H locs hw hM => ?_)
        refine lv_if_ne (tgt := 159) hx hb dX10_belongs_136 (by decide) (fun hc => ?_) (fun hc => ?_)
        · have hw := hw.1 hc
          exact wk_belongs_159 C ih v1 v5 σ1 _ _ ls hw hM (lv_sub hl [0, 1, 3] rfl)
        · have hw := hw.2 hc
          refine lv_iload_n hx hb dX10_belongs_139 rfl (lv_at hl 1 rfl) ?_
          refine lv_iconst (v := 2) hx hb dX10_belongs_140 (by decide) ?_
          refine lv_icmp_lt (tgt := 155) hx hb dX10_belongs_141 (by decide) (fun hc => ?_) (fun hc => ?_)
          · have hw := hw.1 hc
            exact wk_belongs_155 C ih v1 v5 σ1 _ _ ls hw hM (lv_sub hl [0, 1, 3] rfl)
          · have hw := hw.2 hc
            refine lv_aload_n hx hb dX10_belongs_144 rfl (lv_at hl 0 rfl) ?_
            refine lv_iload_n hx hb dX10_belongs_145 rfl (lv_at hl 1 rfl) ?_
            refine lv_iload hx hb dX10_belongs_146 (lv_at hl 3 rfl) ?_
            refine lv_iconst (v := (-1)) hx hb dX10_belongs_148 (by decide) ?_
            refine rM_callVi (n := 3) (As := [.int v1, .int v5, .int (-1)]) C hM hl.1 (mt_isBelow l D dA ad _ σ1 v1 v5 (-1) _ hw) (lw_V q1638 q1640 qs68 q93 q1641) rfl rfl (by decide +kernel) ⟨Nat.le_of_ble_eq_true rfl, Nat.le_of_ble_eq_true rfl⟩ rfl (Nat.le_of_ble_eq_true rfl) ⟨Nat.zero_le _, Nat.zero_le _⟩ rfl dX10_belongs_149 (fun x4 σ3 H locs hw hM => ?_)
            refine lv_if_ne (tgt := 159) hx hb dX10_belongs_152 (by decide) (fun hc => ?_) (fun hc => ?_)
            · have hw := hw.1 hc
              exact wk_belongs_159 C ih v1 v5 σ3 _ _ ls hw hM (lv_sub hl [0, 1, 3] rfl)
            · have hw := hw.2 hc
              exact wk_belongs_155 C ih v1 v5 σ3 _ _ ls hw hM (lv_sub hl [0, 1, 3] rfl)
set_option maxHeartbeats 4000000 in
theorem wk_belongs_98 {p : Program} {l : Launch} {e : Env} {s : State} {m : MethodId} {args : Array Value} {below : List Frame} {meth : Method} {c : Code} {D : va_G} {dA : Nat → ClassId} {ad : Nat → Nat} {σ0 : St} {sz : Nat} (C : CxM p s m meth c args (AM dA ad σ0 sz) RX10 cX10_belongs 6 (some .boolean)) {Qr : Int32 → St → Prop} : ∀ (v1 : Int32) (u2 : Int32) (σ : St) (H : Heap) (locs : List Loc) (ls : Array Slot), wp_belongs_98 Qr v1 u2 σ → wM D dA ad (AM dA ad σ0 sz) s σ H locs → lv_has ls 6 [(0, .ref (ad 0)), (1, .int v1)] → W p l e rm_belongs s m args below meth c H locs 0 0 (MQ below (va_Qi Qr (BM D dA ad (AM dA ad σ0 sz)) (AM dA ad σ0 sz)) args s 0 0 (AM dA ad σ0 sz)) (F0 m 98 ls [.int u2, .ref (ad 35), .ref (ad 0)]) := by
  intro v1 u2 σ H locs ls hw hM hl
  have hx := C.1
  have hb := C.2.1
  have hown := C.2.2.2.2.2.1
  have hts := C.2.2.2.2.2.2.1
  unfold wp_belongs_98 at hw
  refine rM_callVi (n := 2) (As := [.ref (ad 35), .int u2]) C hM hl.1 (mt_solves_35 l D dA ad _ σ u2 _ hw) (lw_V q1634 q1636 qs67 q93 q1637) rfl rfl (by decide +kernel) ⟨Nat.le_of_ble_eq_true rfl, Nat.le_of_ble_eq_true rfl⟩ rfl (Nat.le_of_ble_eq_true rfl) ⟨Nat.zero_le _, Nat.zero_le _⟩ rfl dX10_belongs_98 (fun x2 σ1 H locs hw hM => ?_)
  refine lv_if_ne (tgt := 106) hx hb dX10_belongs_101 (by decide) (fun hc => ?_) (fun hc => ?_)
  · have hw := hw.1 hc
    refine lv_iconst (v := 1) hx hb dX10_belongs_106 (by decide) ?_
    refine lv_istore (lv' := [(4, .int 1), (0, .ref (ad 0)), (1, .int v1)]) hx hb dX10_belongs_107 hl (by decide) rfl (fun ls hl => ?_)
    refine lv_iconst (v := 0) hx hb dX10_belongs_109 (by decide) ?_
    refine lv_istore (lv' := [(5, .int 0), (4, .int 1), (0, .ref (ad 0)), (1, .int v1)]) hx hb dX10_belongs_110 hl (by decide) rfl (fun ls hl => ?_)
    obtain ⟨n112, hw⟩ := hw
    exact wk_belongs_112 C  n112 v1 1 0 σ1 _ _ ls hw hM (lv_sub hl [2, 3, 1, 0] rfl)
  · have hw := hw.2 hc
    exact wk_belongs_104 C   σ1 _ _ ls hw hM (lv_sub hl [0] rfl)
set_option maxHeartbeats 4000000 in
theorem wk_belongs_83 {p : Program} {l : Launch} {e : Env} {s : State} {m : MethodId} {args : Array Value} {below : List Frame} {meth : Method} {c : Code} {D : va_G} {dA : Nat → ClassId} {ad : Nat → Nat} {σ0 : St} {sz : Nat} (C : CxM p s m meth c args (AM dA ad σ0 sz) RX10 cX10_belongs 6 (some .boolean)) {Qr : Int32 → St → Prop} : ∀ (v1 : Int32) (σ : St) (H : Heap) (locs : List Loc) (ls : Array Slot), wp_belongs_83 Qr v1 σ → wM D dA ad (AM dA ad σ0 sz) s σ H locs → lv_has ls 6 [(0, .ref (ad 0)), (1, .int v1)] → W p l e rm_belongs s m args below meth c H locs 0 0 (MQ below (va_Qi Qr (BM D dA ad (AM dA ad σ0 sz)) (AM dA ad σ0 sz)) args s 0 0 (AM dA ad σ0 sz)) (F0 m 83 ls []) := by
  intro v1 σ H locs ls hw hM hl
  have hx := C.1
  have hb := C.2.1
  have hown := C.2.2.2.2.2.1
  have hts := C.2.2.2.2.2.2.1
  unfold wp_belongs_83 at hw
  refine lv_aload_n hx hb dX10_belongs_83 rfl (lv_at hl 0 rfl) ?_
  refine lv_aload_n hx hb dX10_belongs_84 rfl (lv_at hl 0 rfl) ?_
  refine rM_get C hM 35 (by decide) (fM_35 ad σ) q1425 rfl dX10_belongs_85 ?_
  refine lv_iload_n hx hb dX10_belongs_88 rfl (lv_at hl 1 rfl) ?_
  refine lv_iconst (v := 1) hx hb dX10_belongs_89 (by decide) ?_
  refine lv_icmp_ne (tgt := 97) hx hb dX10_belongs_90 (by decide) (fun hc => ?_) (fun hc => ?_)
  · have hw := hw.1 hc
    refine lv_iconst (v := 0) hx hb dX10_belongs_97 (by decide) ?_
    exact wk_belongs_98 C  v1 0 σ _ _ ls hw hM (lv_sub hl [0, 1] rfl)
  · have hw := hw.2 hc
    refine lv_iconst (v := 1) hx hb dX10_belongs_93 (by decide) ?_
    refine lv_goto (tgt := 98) hx hb dX10_belongs_94 (by decide) ?_
    exact wk_belongs_98 C  v1 1 σ _ _ ls hw hM (lv_sub hl [0, 1] rfl)
set_option maxHeartbeats 4000000 in
theorem wk_belongs_74 {p : Program} {l : Launch} {e : Env} {s : State} {m : MethodId} {args : Array Value} {below : List Frame} {meth : Method} {c : Code} {D : va_G} {dA : Nat → ClassId} {ad : Nat → Nat} {σ0 : St} {sz : Nat} (C : CxM p s m meth c args (AM dA ad σ0 sz) RX10 cX10_belongs 6 (some .boolean)) {Qr : Int32 → St → Prop} : ∀ (v1 : Int32) (v3 : Int32) (σ : St) (H : Heap) (locs : List Loc) (ls : Array Slot), wp_belongs_74 Qr v1 v3 σ → wM D dA ad (AM dA ad σ0 sz) s σ H locs → lv_has ls 6 [(0, .ref (ad 0)), (1, .int v1), (3, .int v3)] → W p l e rm_belongs s m args below meth c H locs 0 0 (MQ below (va_Qi Qr (BM D dA ad (AM dA ad σ0 sz)) (AM dA ad σ0 sz)) args s 0 0 (AM dA ad σ0 sz)) (F0 m 74 ls []) := by
  intro v1 v3 σ H locs ls hw hM hl
  have hx := C.1
  have hb := C.2.1
  have hown := C.2.2.2.2.2.1
  have hts := C.2.2.2.2.2.2.1
  unfold wp_belongs_74 at hw
  refine lv_iload_n hx hb dX10_belongs_74 rfl (lv_at hl 1 rfl) ?_
  refine lv_iconst (v := 2) hx hb dX10_belongs_75 (by decide) ?_
  refine lv_icmp_ne (tgt := 83) hx hb dX10_belongs_76 (by decide) (fun hc => ?_) (fun hc => ?_)
  · have hw := hw.1 hc
    exact wk_belongs_83 C  v1 σ _ _ ls hw hM (lv_sub hl [0, 1] rfl)
  · have hw := hw.2 hc
    refine lv_iload_n hx hb dX10_belongs_79 rfl (lv_at hl 2 rfl) ?_
    refine lv_if_lt (tgt := 104) hx hb dX10_belongs_80 (by decide) (fun hc => ?_) (fun hc => ?_)
    · have hw := hw.1 hc
      exact wk_belongs_104 C   σ _ _ ls hw hM (lv_sub hl [0] rfl)
    · have hw := hw.2 hc
      exact wk_belongs_83 C  v1 σ _ _ ls hw hM (lv_sub hl [0, 1] rfl)
set_option maxHeartbeats 4000000 in
theorem wk_belongs_58 {p : Program} {l : Launch} {e : Env} {s : State} {m : MethodId} {args : Array Value} {below : List Frame} {meth : Method} {c : Code} {D : va_G} {dA : Nat → ClassId} {ad : Nat → Nat} {σ0 : St} {sz : Nat} (C : CxM p s m meth c args (AM dA ad σ0 sz) RX10 cX10_belongs 6 (some .boolean)) {Qr : Int32 → St → Prop} {K12 : Int32 → Int32 → Int32 → Int32 → St → Prop} (hK12 : ∀ (v1 : Int32) (v2 : Int32) (v3 : Int32) (v4 : Int32) (σ : St) (H : Heap) (locs : List Loc) (ls : Array Slot), K12 v1 v2 v3 v4 σ → wM D dA ad (AM dA ad σ0 sz) s σ H locs → lv_has ls 6 [(0, .ref (ad 0)), (1, .int v1), (2, .int v2), (3, .int v3), (4, .int v4)] → W p l e rm_belongs s m args below meth c H locs 0 0 (MQ below (va_Qi Qr (BM D dA ad (AM dA ad σ0 sz)) (AM dA ad σ0 sz)) args s 0 0 (AM dA ad σ0 sz)) (F0 m 12 ls [])) : ∀ (v1 : Int32) (v2 : Int32) (v4 : Int32) (u0 : Int32) (σ : St) (H : Heap) (locs : List Loc) (ls : Array Slot), wp_belongs_58 Qr K12 v1 v2 v4 u0 σ → wM D dA ad (AM dA ad σ0 sz) s σ H locs → lv_has ls 6 [(0, .ref (ad 0)), (1, .int v1), (2, .int v2), (4, .int v4)] → W p l e rm_belongs s m args below meth c H locs 0 0 (MQ below (va_Qi Qr (BM D dA ad (AM dA ad σ0 sz)) (AM dA ad σ0 sz)) args s 0 0 (AM dA ad σ0 sz)) (F0 m 58 ls [.int u0]) := by
  intro v1 v2 v4 u0 σ H locs ls hw hM hl
  have hx := C.1
  have hb := C.2.1
  have hown := C.2.2.2.2.2.1
  have hts := C.2.2.2.2.2.2.1
  unfold wp_belongs_58 at hw
  refine lv_istore_n (lv' := [(3, .int u0), (0, .ref (ad 0)), (1, .int v1), (2, .int v2), (4, .int v4)]) hx hb dX10_belongs_58 rfl hl (by decide) rfl (fun ls hl => ?_)
  obtain ⟨x1, ex1⟩ : ∃ y : Int32, y = v4 + (-1) := ⟨_, rfl⟩
  have hw := hw x1 ex1
  refine lv_iinc (v := x1) (lv' := [(4, .int x1), (3, .int u0), (0, .ref (ad 0)), (1, .int v1), (2, .int v2)]) hx hb dX10_belongs_59 hl (k := 4) rfl (by rw [ex1]; rfl) (by decide) rfl (fun ls hl => ?_)
  refine lv_goto (tgt := 12) hx hb dX10_belongs_62 (by decide) ?_
  exact hK12 v1 v2 u0 x1 σ _ _ ls hw hM (lv_sub hl [2, 3, 4, 1, 0] rfl)
set_option maxHeartbeats 4000000 in
theorem wk_belongs_36 {p : Program} {l : Launch} {e : Env} {s : State} {m : MethodId} {args : Array Value} {below : List Frame} {meth : Method} {c : Code} {D : va_G} {dA : Nat → ClassId} {ad : Nat → Nat} {σ0 : St} {sz : Nat} (C : CxM p s m meth c args (AM dA ad σ0 sz) RX10 cX10_belongs 6 (some .boolean)) {Qr : Int32 → St → Prop} {K12 : Int32 → Int32 → Int32 → Int32 → St → Prop} (hK12 : ∀ (v1 : Int32) (v2 : Int32) (v3 : Int32) (v4 : Int32) (σ : St) (H : Heap) (locs : List Loc) (ls : Array Slot), K12 v1 v2 v3 v4 σ → wM D dA ad (AM dA ad σ0 sz) s σ H locs → lv_has ls 6 [(0, .ref (ad 0)), (1, .int v1), (2, .int v2), (3, .int v3), (4, .int v4)] → W p l e rm_belongs s m args below meth c H locs 0 0 (MQ below (va_Qi Qr (BM D dA ad (AM dA ad σ0 sz)) (AM dA ad σ0 sz)) args s 0 0 (AM dA ad σ0 sz)) (F0 m 12 ls [])) : ∀ (v1 : Int32) (v3 : Int32) (v4 : Int32) (u0 : Int32) (σ : St) (H : Heap) (locs : List Loc) (ls : Array Slot), wp_belongs_36 Qr K12 v1 v3 v4 u0 σ → wM D dA ad (AM dA ad σ0 sz) s σ H locs → lv_has ls 6 [(0, .ref (ad 0)), (1, .int v1), (3, .int v3), (4, .int v4)] → W p l e rm_belongs s m args below meth c H locs 0 0 (MQ below (va_Qi Qr (BM D dA ad (AM dA ad σ0 sz)) (AM dA ad σ0 sz)) args s 0 0 (AM dA ad σ0 sz)) (F0 m 36 ls [.int u0]) := by
  intro v1 v3 v4 u0 σ H locs ls hw hM hl
  have hx := C.1
  have hb := C.2.1
  have hown := C.2.2.2.2.2.1
  have hts := C.2.2.2.2.2.2.1
  unfold wp_belongs_36 at hw
  refine lv_istore_n (lv' := [(2, .int u0), (0, .ref (ad 0)), (1, .int v1), (3, .int v3), (4, .int v4)]) hx hb dX10_belongs_36 rfl hl (by decide) rfl (fun ls hl => ?_)
  refine lv_aload_n hx hb dX10_belongs_37 rfl (lv_at hl 1 rfl) ?_
  refine rM_get C hM 35 (by decide) (fM_35 ad σ) q1425 rfl dX10_belongs_38 ?_
  refine lv_iload hx hb dX10_belongs_41 (lv_at hl 4 rfl) ?_
  refine rM_iald C hM 35 21 (wM_35 dA ad σ) hw.1 dX10_belongs_43 ?_
  have hw := hw.2
  refine lv_if_eq (tgt := 57) hx hb dX10_belongs_44 (by decide) (fun hc => ?_) (fun hc => ?_)
  · have hw := hw.1 hc
    refine lv_iload_n hx hb dX10_belongs_57 rfl (lv_at hl 3 rfl) ?_
    exact wk_belongs_58 C hK12 v1 u0 v4 v3 σ _ _ ls hw hM (lv_sub hl [1, 2, 0, 4] rfl)
  · have hw := hw.2 hc
    refine lv_aload_n hx hb dX10_belongs_47 rfl (lv_at hl 1 rfl) ?_
    refine rM_get C hM 35 (by decide) (fM_35 ad σ) q1425 rfl dX10_belongs_48 ?_
    refine lv_iload hx hb dX10_belongs_51 (lv_at hl 4 rfl) ?_
    refine rM_iald C hM 35 21 (wM_35 dA ad σ) hw.1 dX10_belongs_53 ?_
    have hw := hw.2
    refine lv_goto (tgt := 58) hx hb dX10_belongs_54 (by decide) ?_
    exact wk_belongs_58 C hK12 v1 u0 v4 ((gA σ 35 v4)) σ _ _ ls hw hM (lv_sub hl [1, 2, 0, 4] rfl)
set_option maxHeartbeats 4000000 in
theorem wk_belongs_35 {p : Program} {l : Launch} {e : Env} {s : State} {m : MethodId} {args : Array Value} {below : List Frame} {meth : Method} {c : Code} {D : va_G} {dA : Nat → ClassId} {ad : Nat → Nat} {σ0 : St} {sz : Nat} (C : CxM p s m meth c args (AM dA ad σ0 sz) RX10 cX10_belongs 6 (some .boolean)) {Qr : Int32 → St → Prop} {K12 : Int32 → Int32 → Int32 → Int32 → St → Prop} (hK12 : ∀ (v1 : Int32) (v2 : Int32) (v3 : Int32) (v4 : Int32) (σ : St) (H : Heap) (locs : List Loc) (ls : Array Slot), K12 v1 v2 v3 v4 σ → wM D dA ad (AM dA ad σ0 sz) s σ H locs → lv_has ls 6 [(0, .ref (ad 0)), (1, .int v1), (2, .int v2), (3, .int v3), (4, .int v4)] → W p l e rm_belongs s m args below meth c H locs 0 0 (MQ below (va_Qi Qr (BM D dA ad (AM dA ad σ0 sz)) (AM dA ad σ0 sz)) args s 0 0 (AM dA ad σ0 sz)) (F0 m 12 ls [])) : ∀ (v1 : Int32) (v3 : Int32) (v4 : Int32) (σ : St) (H : Heap) (locs : List Loc) (ls : Array Slot), wp_belongs_35 Qr K12 v1 v3 v4 σ → wM D dA ad (AM dA ad σ0 sz) s σ H locs → lv_has ls 6 [(0, .ref (ad 0)), (1, .int v1), (3, .int v3), (4, .int v4)] → W p l e rm_belongs s m args below meth c H locs 0 0 (MQ below (va_Qi Qr (BM D dA ad (AM dA ad σ0 sz)) (AM dA ad σ0 sz)) args s 0 0 (AM dA ad σ0 sz)) (F0 m 35 ls []) := by
  intro v1 v3 v4 σ H locs ls hw hM hl
  have hx := C.1
  have hb := C.2.1
  have hown := C.2.2.2.2.2.1
  have hts := C.2.2.2.2.2.2.1
  unfold wp_belongs_35 at hw
  refine lv_iconst (v := 0) hx hb dX10_belongs_35 (by decide) ?_
  exact wk_belongs_36 C hK12 v1 v3 v4 0 σ _ _ ls hw hM (lv_sub hl [0, 1, 2, 3] rfl)
set_option maxHeartbeats 4000000 in
theorem wk_belongs_12 {p : Program} {l : Launch} {e : Env} {s : State} {m : MethodId} {args : Array Value} {below : List Frame} {meth : Method} {c : Code} {D : va_G} {dA : Nat → ClassId} {ad : Nat → Nat} {σ0 : St} {sz : Nat} (C : CxM p s m meth c args (AM dA ad σ0 sz) RX10 cX10_belongs 6 (some .boolean)) {Qr : Int32 → St → Prop} : ∀ (n : Nat) (v1 : Int32) (v2 : Int32) (v3 : Int32) (v4 : Int32) (σ : St) (H : Heap) (locs : List Loc) (ls : Array Slot), wp_belongs_12 Qr n v1 v2 v3 v4 σ → wM D dA ad (AM dA ad σ0 sz) s σ H locs → lv_has ls 6 [(0, .ref (ad 0)), (1, .int v1), (2, .int v2), (3, .int v3), (4, .int v4)] → W p l e rm_belongs s m args below meth c H locs 0 0 (MQ below (va_Qi Qr (BM D dA ad (AM dA ad σ0 sz)) (AM dA ad σ0 sz)) args s 0 0 (AM dA ad σ0 sz)) (F0 m 12 ls []) := by
  intro n
  induction n with
  | zero => intro v1 v2 v3 v4 σ H locs ls hw; exact hw.elim
  | succ n12 ih =>
    intro v1 v2 v3 v4 σ H locs ls hw hM hl
    have hx := C.1
    have hb := C.2.1
    have hown := C.2.2.2.2.2.1
    have hts := C.2.2.2.2.2.2.1
    unfold wp_belongs_12 at hw
    refine lv_iload hx hb dX10_belongs_12 (lv_at hl 4 rfl) ?_
    refine lv_if_lt (tgt := 65) hx hb dX10_belongs_14 (by decide) (fun hc => ?_) (fun hc => ?_)
    · have hw := hw.1 hc
      refine lv_iload_n hx hb dX10_belongs_65 rfl (lv_at hl 1 rfl) ?_
      refine lv_iconst (v := 1) hx hb dX10_belongs_66 (by decide) ?_
      refine lv_icmp_eq (tgt := 74) hx hb dX10_belongs_67 (by decide) (fun hc => ?_) (fun hc => ?_)
      · have hw := hw.1 hc
        exact wk_belongs_74 C  v1 v3 σ _ _ ls hw hM (lv_sub hl [0, 1, 3] rfl)
      · have hw := hw.2 hc
        refine lv_iload_n hx hb dX10_belongs_70 rfl (lv_at hl 2 rfl) ?_
        refine lv_if_ne (tgt := 104) hx hb dX10_belongs_71 (by decide) (fun hc => ?_) (fun hc => ?_)
        · have hw := hw.1 hc
          exact wk_belongs_104 C   σ _ _ ls hw hM (lv_sub hl [0] rfl)
        · have hw := hw.2 hc
          exact wk_belongs_74 C  v1 v3 σ _ _ ls hw hM (lv_sub hl [0, 1, 3] rfl)
    · have hw := hw.2 hc
      refine lv_iload_n hx hb dX10_belongs_17 rfl (lv_at hl 2 rfl) ?_
      refine lv_if_eq (tgt := 35) hx hb dX10_belongs_18 (by decide) (fun hc => ?_) (fun hc => ?_)
      · have hw := hw.1 hc
        exact wk_belongs_35 C ih v1 v3 v4 σ _ _ ls hw hM (lv_sub hl [0, 1, 3, 4] rfl)
      · have hw := hw.2 hc
        refine lv_aload_n hx hb dX10_belongs_21 rfl (lv_at hl 0 rfl) ?_
        refine rM_get C hM 35 (by decide) (fM_35 ad σ) q1425 rfl dX10_belongs_22 ?_
        refine lv_iload hx hb dX10_belongs_25 (lv_at hl 4 rfl) ?_
        refine rM_iald C hM 35 21 (wM_35 dA ad σ) hw.1 dX10_belongs_27 ?_
        have hw := hw.2
        refine lv_if_ne (tgt := 35) hx hb dX10_belongs_28 (by decide) (fun hc => ?_) (fun hc => ?_)
        · have hw := hw.1 hc
          exact wk_belongs_35 C ih v1 v3 v4 σ _ _ ls hw hM (lv_sub hl [0, 1, 3, 4] rfl)
        · have hw := hw.2 hc
          refine lv_iconst (v := 1) hx hb dX10_belongs_31 (by decide) ?_
          refine lv_goto (tgt := 36) hx hb dX10_belongs_32 (by decide) ?_
          exact wk_belongs_36 C ih v1 v3 v4 1 σ _ _ ls hw hM (lv_sub hl [0, 1, 3, 4] rfl)
set_option maxHeartbeats 4000000 in
/-- private boolean belongs(int); -/
theorem mt_belongs (l : Launch) (D : va_G) (dA : Nat → ClassId) (ad : Nat → Nat) (sz : Nat) (σ : St) (p1 : Int32) (Qr : Int32 → St → Prop) (hw : wp_belongs p1 σ Qr) : Met l yX10_belongs (ws_ yX10_belongs cX10_belongs 6 (some .boolean)) rm_belongs (PcM D dA ad σ sz [.ref (ad 0), .int p1]) (va_Qi Qr (BM D dA ad (AM dA ad σ sz)) (AM dA ad σ sz)) 0 0 (AM dA ad σ sz) := by
  refine Met.ofW (cc := cX10_belongs) (maxL := 6) (ret := (some .boolean)) (by decide) rfl ?_
  intro p e s m args below meth c s₁ B hml hv
  obtain ⟨rfl, hsz, hP, hK, hD0⟩ := hv
  subst hsz
  have hts0 := atoms_spec (ws := ws_ yX10_belongs cX10_belongs 6 (some .boolean)) B.pre
  have C : CxM p s m meth c _ (AM dA ad σ s.heap.size) RX10 cX10_belongs 6 (some .boolean) := ⟨B.exec, B.bytes, B.returns, B.notSynchronized, hml, findClass_of_methodNamed B.named, fun w h => hts0 w (List.mem_cons_of_mem _ h), fun q h => Or.inr h⟩
  have hM : wM D dA ad (AM dA ad σ s.heap.size) s σ s.heap [] := ⟨hK, hP, hD0.self, va_S.rf⟩
  have hx := C.1
  have hb := C.2.1
  have hown := C.2.2.2.2.2.1
  have hts := C.2.2.2.2.2.2.1
  have hl := lv_entry ([.ref (ad 0), .int p1]) (n := 6) (Nat.le_of_ble_eq_true rfl)
  rw [lg_entry_eq]
  generalize (lg_sl ([.ref (ad 0), .int p1]) ++ List.replicate (6 - (lg_sl ([.ref (ad 0), .int p1])).length) Slot.unset).toArray = ls at hl ⊢
  have hl : lv_has ls 6 [(0, .ref (ad 0)), (1, .int p1)] := hl
  unfold wp_belongs at hw
  refine lv_iconst (v := 1) hx hb dX10_belongs_0 (by decide) ?_
  refine lv_istore_n (lv' := [(2, .int 1), (0, .ref (ad 0)), (1, .int p1)]) hx hb dX10_belongs_1 rfl hl (by decide) rfl (fun ls hl => ?_)
  refine lv_iconst (v := 0) hx hb dX10_belongs_2 (by decide) ?_
  refine lv_istore_n (lv' := [(3, .int 0), (2, .int 1), (0, .ref (ad 0)), (1, .int p1)]) hx hb dX10_belongs_3 rfl hl (by decide) rfl (fun ls hl => ?_)
  refine lv_aload_n hx hb dX10_belongs_4 rfl (lv_at hl 2 rfl) ?_
  refine rM_get C hM 17 (by decide) (fM_17 ad σ) q1407 rfl dX10_belongs_5 ?_
  refine lv_iconst (v := 1) hx hb dX10_belongs_8 (by decide) ?_
  refine lv_isub hx hb dX10_belongs_9 ?_
  refine lv_topi (fun x1 ex1 => ?_)
  have hw := hw x1 ex1
  refine lv_istore (lv' := [(4, .int x1), (3, .int 0), (2, .int 1), (0, .ref (ad 0)), (1, .int p1)]) hx hb dX10_belongs_10 hl (by decide) rfl (fun ls hl => ?_)
  obtain ⟨n12, hw⟩ := hw
  exact wk_belongs_12 C  n12 p1 1 0 x1 σ _ _ ls hw hM (lv_sub hl [3, 4, 2, 1, 0] rfl)
abbrev rm_put : Room := { frames := 0, cells := 0, slots := 0, locals := 0 }
set_option maxHeartbeats 4000000 in
theorem wk_put_2 {p : Program} {l : Launch} {e : Env} {s : State} {m : MethodId} {args : Array Value} {below : List Frame} {meth : Method} {c : Code} {D : va_G} {dA : Nat → ClassId} {ad : Nat → Nat} {σ0 : St} {sz : Nat} (C : CxM p s m meth c args (AM dA ad σ0 sz) RX10 cX10_put 3 none) {Qr : St → Prop} : ∀ (n : Nat) (v1 : Int32) (v2 : Int32) (σ : St) (H : Heap) (locs : List Loc) (ls : Array Slot), wp_put_2 Qr n v1 v2 σ → wM D dA ad (AM dA ad σ0 sz) s σ H locs → lv_has ls 3 [(0, .ref (ad 0)), (1, .int v1), (2, .int v2)] → W p l e rm_put s m args below meth c H locs 0 0 (MQ below (va_Qv Qr (BM D dA ad (AM dA ad σ0 sz)) (AM dA ad σ0 sz)) args s 0 0 (AM dA ad σ0 sz)) (F0 m 2 ls []) := by
  intro n
  induction n with
  | zero => intro v1 v2 σ H locs ls hw; exact hw.elim
  | succ n2 ih =>
    intro v1 v2 σ H locs ls hw hM hl
    have hx := C.1
    have hb := C.2.1
    have hown := C.2.2.2.2.2.1
    have hts := C.2.2.2.2.2.2.1
    unfold wp_put_2 at hw
    refine lv_iload_n hx hb dX10_put_2 rfl (lv_at hl 2 rfl) ?_
    refine lv_aload_n hx hb dX10_put_3 rfl (lv_at hl 0 rfl) ?_
    refine rM_get C hM 17 (by decide) (fM_17 ad σ) q1407 rfl dX10_put_4 ?_
    refine lv_icmp_ge (tgt := 45) hx hb dX10_put_7 (by decide) (fun hc => ?_) (fun hc => ?_)
    · have hw := hw.1 hc
      refine lv_aload_n hx hb dX10_put_45 rfl (lv_at hl 0 rfl) ?_
      refine rM_get C hM 22 (by decide) (fM_22 ad σ) q1412 rfl dX10_put_46 ?_
      refine lv_iload_n hx hb dX10_put_49 rfl (lv_at hl 1 rfl) ?_
      refine lv_aload_n hx hb dX10_put_50 rfl (lv_at hl 0 rfl) ?_
      refine rM_get C hM 22 (by decide) (fM_22 ad σ) q1412 rfl dX10_put_51 ?_
      refine lv_iload_n hx hb dX10_put_54 rfl (lv_at hl 1 rfl) ?_
      refine rM_iald C hM 22 12 (wM_22 dA ad σ) hw.1 dX10_put_55 ?_
      have hw := hw.2
      refine lv_iconst (v := 1) hx hb dX10_put_56 (by decide) ?_
      refine lv_iadd hx hb dX10_put_57 ?_
      refine rM_iast C hM 22 12 (wM_22 dA ad σ) (wM_s22 dA ad σ _ _) hw.1 dX10_put_58 (fun σ1 H locs eσ hM => ?_)
      have hw := hw.2 σ1 eσ
      clear eσ
      exact rM_vret C hM hw dX10_put_59
    · have hw := hw.2 hc
      refine lv_aload_n hx hb dX10_put_10 rfl (lv_at hl 0 rfl) ?_
      refine rM_get C hM 23 (by decide) (fM_23 ad σ) q1413 rfl dX10_put_11 ?_
      refine lv_sipush (v := 12000) hx hb dX10_put_14 (by decide) ?_
      refine lv_iload_n hx hb dX10_put_17 rfl (lv_at hl 1 rfl) ?_
      refine lv_imul hx hb dX10_put_18 ?_
      refine lv_bipush (v := 6) hx hb dX10_put_19 (by decide) ?_
      refine lv_aload_n hx hb dX10_put_21 rfl (lv_at hl 0 rfl) ?_
      refine rM_get C hM 22 (by decide) (fM_22 ad σ) q1412 rfl dX10_put_22 ?_
      refine lv_iload_n hx hb dX10_put_25 rfl (lv_at hl 1 rfl) ?_
      refine rM_iald C hM 22 12 (wM_22 dA ad σ) hw.1 dX10_put_26 ?_
      have hw := hw.2
      refine lv_imul hx hb dX10_put_27 ?_
      refine lv_iadd hx hb dX10_put_28 ?_
      refine lv_iload_n hx hb dX10_put_29 rfl (lv_at hl 2 rfl) ?_
      refine lv_iadd hx hb dX10_put_30 ?_
      refine lv_aload_n hx hb dX10_put_31 rfl (lv_at hl 0 rfl) ?_
      refine rM_get C hM 35 (by decide) (fM_35 ad σ) q1425 rfl dX10_put_32 ?_
      refine lv_iload_n hx hb dX10_put_35 rfl (lv_at hl 2 rfl) ?_
      refine rM_iald C hM 35 21 (wM_35 dA ad σ) hw.1 dX10_put_36 ?_
      have hw := hw.2
      refine lv_i2b hx hb dX10_put_37 rfl ?_
      refine rM_bast C hM 23 13 (wM_23 dA ad σ) (wM_s23 dA ad σ _ _) hw.1 dX10_put_38 (fun σ2 H locs eσ hM => ?_)
      have hw := hw.2 σ2 eσ
      clear eσ
      obtain ⟨x3, ex3⟩ : ∃ y : Int32, y = v2 + 1 := ⟨_, rfl⟩
      have hw := hw x3 ex3
      refine lv_iinc (v := x3) (lv' := [(2, .int x3), (0, .ref (ad 0)), (1, .int v1)]) hx hb dX10_put_39 hl (k := 2) rfl (by rw [ex3]; rfl) (by decide) rfl (fun ls hl => ?_)
      refine lv_goto (tgt := 2) hx hb dX10_put_42 (by decide) ?_
      exact ih v1 x3 σ2 _ _ ls hw hM (lv_sub hl [1, 2, 0] rfl)
set_option maxHeartbeats 4000000 in
/-- private void put(int); -/
theorem mt_put (l : Launch) (D : va_G) (dA : Nat → ClassId) (ad : Nat → Nat) (sz : Nat) (σ : St) (p1 : Int32) (Qr : St → Prop) (hw : wp_put p1 σ Qr) : Met l yX10_put (ws_ yX10_put cX10_put 3 none) rm_put (PcM D dA ad σ sz [.ref (ad 0), .int p1]) (va_Qv Qr (BM D dA ad (AM dA ad σ sz)) (AM dA ad σ sz)) 0 0 (AM dA ad σ sz) := by
  refine Met.ofW (cc := cX10_put) (maxL := 3) (ret := none) (by decide) rfl ?_
  intro p e s m args below meth c s₁ B hml hv
  obtain ⟨rfl, hsz, hP, hK, hD0⟩ := hv
  subst hsz
  have hts0 := atoms_spec (ws := ws_ yX10_put cX10_put 3 none) B.pre
  have C : CxM p s m meth c _ (AM dA ad σ s.heap.size) RX10 cX10_put 3 none := ⟨B.exec, B.bytes, B.returns, B.notSynchronized, hml, findClass_of_methodNamed B.named, fun w h => hts0 w (List.mem_cons_of_mem _ h), fun q h => Or.inr h⟩
  have hM : wM D dA ad (AM dA ad σ s.heap.size) s σ s.heap [] := ⟨hK, hP, hD0.self, va_S.rf⟩
  have hx := C.1
  have hb := C.2.1
  have hown := C.2.2.2.2.2.1
  have hts := C.2.2.2.2.2.2.1
  have hl := lv_entry ([.ref (ad 0), .int p1]) (n := 3) (Nat.le_of_ble_eq_true rfl)
  rw [lg_entry_eq]
  generalize (lg_sl ([.ref (ad 0), .int p1]) ++ List.replicate (3 - (lg_sl ([.ref (ad 0), .int p1])).length) Slot.unset).toArray = ls at hl ⊢
  have hl : lv_has ls 3 [(0, .ref (ad 0)), (1, .int p1)] := hl
  unfold wp_put at hw
  refine lv_iconst (v := 0) hx hb dX10_put_0 (by decide) ?_
  refine lv_istore_n (lv' := [(2, .int 0), (0, .ref (ad 0)), (1, .int p1)]) hx hb dX10_put_1 rfl hl (by decide) rfl (fun ls hl => ?_)
  obtain ⟨n2, hw⟩ := hw
  exact wk_put_2 C  n2 p1 0 σ _ _ ls hw hM (lv_sub hl [1, 2, 0] rfl)
abbrev rm_spread : Room := { frames := 0, cells := 0, slots := 0, locals := 0 }
set_option maxHeartbeats 4000000 in
theorem wk_spread_53 {p : Program} {l : Launch} {e : Env} {s : State} {m : MethodId} {args : Array Value} {below : List Frame} {meth : Method} {c : Code} {D : va_G} {dA : Nat → ClassId} {ad : Nat → Nat} {σ0 : St} {sz : Nat} (C : CxM p s m meth c args (AM dA ad σ0 sz) RX10 cX10_spread 5 none) {Qr : St → Prop} : ∀ (σ : St) (H : Heap) (locs : List Loc) (ls : Array Slot), wp_spread_53 Qr σ → wM D dA ad (AM dA ad σ0 sz) s σ H locs → lv_has ls 5 [(0, .ref (ad 0))] → W p l e rm_spread s m args below meth c H locs 0 0 (MQ below (va_Qv Qr (BM D dA ad (AM dA ad σ0 sz)) (AM dA ad σ0 sz)) args s 0 0 (AM dA ad σ0 sz)) (F0 m 53 ls []) := by
  intro σ H locs ls hw hM hl
  have hx := C.1
  have hb := C.2.1
  have hown := C.2.2.2.2.2.1
  have hts := C.2.2.2.2.2.2.1
  unfold wp_spread_53 at hw
  exact rM_vret C hM hw dX10_spread_53
set_option maxHeartbeats 4000000 in
theorem wk_spread_3 {p : Program} {l : Launch} {e : Env} {s : State} {m : MethodId} {args : Array Value} {below : List Frame} {meth : Method} {c : Code} {D : va_G} {dA : Nat → ClassId} {ad : Nat → Nat} {σ0 : St} {sz : Nat} (C : CxM p s m meth c args (AM dA ad σ0 sz) RX10 cX10_spread 5 none) {Qr : St → Prop} : ∀ (n : Nat) (v1 : Int32) (v2 : Int32) (v3 : Int32) (v4 : Int32) (σ : St) (H : Heap) (locs : List Loc) (ls : Array Slot), wp_spread_3 Qr n v1 v2 v3 v4 σ → wM D dA ad (AM dA ad σ0 sz) s σ H locs → lv_has ls 5 [(0, .ref (ad 0)), (1, .int v1), (2, .int v2), (3, .int v3), (4, .int v4)] → W p l e rm_spread s m args below meth c H locs 0 0 (MQ below (va_Qv Qr (BM D dA ad (AM dA ad σ0 sz)) (AM dA ad σ0 sz)) args s 0 0 (AM dA ad σ0 sz)) (F0 m 3 ls []) := by
  intro n
  induction n with
  | zero => intro v1 v2 v3 v4 σ H locs ls hw; exact hw.elim
  | succ n3 ih =>
    intro v1 v2 v3 v4 σ H locs ls hw hM hl
    have hx := C.1
    have hb := C.2.1
    have hown := C.2.2.2.2.2.1
    have hts := C.2.2.2.2.2.2.1
    unfold wp_spread_3 at hw
    refine lv_iload hx hb dX10_spread_3 (lv_at hl 4 rfl) ?_
    refine lv_aload_n hx hb dX10_spread_5 rfl (lv_at hl 0 rfl) ?_
    refine rM_get C hM 17 (by decide) (fM_17 ad σ) q1407 rfl dX10_spread_6 ?_
    refine lv_icmp_ge (tgt := 26) hx hb dX10_spread_9 (by decide) (fun hc => ?_) (fun hc => ?_)
    · have hw := hw.1 hc
      refine lv_iload_n hx hb dX10_spread_26 rfl (lv_at hl 3 rfl) ?_
      refine lv_if_eq (tgt := 41) hx hb dX10_spread_27 (by decide) (fun hc => ?_) (fun hc => ?_)
      · have hw := hw.1 hc
        refine lv_aload_n hx hb dX10_spread_41 rfl (lv_at hl 0 rfl) ?_
        refine rM_get C hM 35 (by decide) (fM_35 ad σ) q1425 rfl dX10_spread_42 ?_
        refine lv_aload_n hx hb dX10_spread_45 rfl (lv_at hl 0 rfl) ?_
        refine rM_get C hM 17 (by decide) (fM_17 ad σ) q1407 rfl dX10_spread_46 ?_
        refine lv_iconst (v := 1) hx hb dX10_spread_49 (by decide) ?_
        refine lv_isub hx hb dX10_spread_50 ?_
        refine lv_iload_n hx hb dX10_spread_51 rfl (lv_at hl 2 rfl) ?_
        refine rM_iast C hM 35 21 (wM_35 dA ad σ) (wM_s35 dA ad σ _ _) hw.1 dX10_spread_52 (fun σ1 H locs eσ hM => ?_)
        have hw := hw.2 σ1 eσ
        clear eσ
        exact wk_spread_53 C   σ1 _ _ ls hw hM (lv_sub hl [0] rfl)
      · have hw := hw.2 hc
        refine lv_aload_n hx hb dX10_spread_30 rfl (lv_at hl 0 rfl) ?_
        refine rM_get C hM 35 (by decide) (fM_35 ad σ) q1425 rfl dX10_spread_31 ?_
        refine lv_iload_n hx hb dX10_spread_34 rfl (lv_at hl 1 rfl) ?_
        refine lv_iload_n hx hb dX10_spread_35 rfl (lv_at hl 2 rfl) ?_
        refine lv_ineg hx hb dX10_spread_36 ?_
        refine rM_iast C hM 35 21 (wM_35 dA ad σ) (wM_s35 dA ad σ _ _) hw.1 dX10_spread_37 (fun σ2 H locs eσ hM => ?_)
        have hw := hw.2 σ2 eσ
        clear eσ
        refine lv_goto (tgt := 53) hx hb dX10_spread_38 (by decide) ?_
        exact wk_spread_53 C   σ2 _ _ ls hw hM (lv_sub hl [0] rfl)
    · have hw := hw.2 hc
      refine lv_aload_n hx hb dX10_spread_12 rfl (lv_at hl 0 rfl) ?_
      refine rM_get C hM 35 (by decide) (fM_35 ad σ) q1425 rfl dX10_spread_13 ?_
      refine lv_iload hx hb dX10_spread_16 (lv_at hl 4 rfl) ?_
      refine lv_iconst (v := 0) hx hb dX10_spread_18 (by decide) ?_
      refine rM_iast C hM 35 21 (wM_35 dA ad σ) (wM_s35 dA ad σ _ _) hw.1 dX10_spread_19 (fun σ3 H locs eσ hM => ?_)
      have hw := hw.2 σ3 eσ
      clear eσ
      obtain ⟨x4, ex4⟩ : ∃ y : Int32, y = v4 + 1 := ⟨_, rfl⟩
      have hw := hw x4 ex4
      refine lv_iinc (v := x4) (lv' := [(4, .int x4), (0, .ref (ad 0)), (1, .int v1), (2, .int v2), (3, .int v3)]) hx hb dX10_spread_20 hl (k := 4) rfl (by rw [ex4]; rfl) (by decide) rfl (fun ls hl => ?_)
      refine lv_goto (tgt := 3) hx hb dX10_spread_23 (by decide) ?_
      exact ih v1 v2 v3 x4 σ3 _ _ ls hw hM (lv_sub hl [1, 2, 3, 4, 0] rfl)
set_option maxHeartbeats 4000000 in
/-- private void spread(int, int, boolean); -/
theorem mt_spread (l : Launch) (D : va_G) (dA : Nat → ClassId) (ad : Nat → Nat) (sz : Nat) (σ : St) (p1 : Int32) (p2 : Int32) (p3 : Int32) (Qr : St → Prop) (hw : wp_spread p1 p2 p3 σ Qr) : Met l yX10_spread (ws_ yX10_spread cX10_spread 5 none) rm_spread (PcM D dA ad σ sz [.ref (ad 0), .int p1, .int p2, .int p3]) (va_Qv Qr (BM D dA ad (AM dA ad σ sz)) (AM dA ad σ sz)) 0 0 (AM dA ad σ sz) := by
  refine Met.ofW (cc := cX10_spread) (maxL := 5) (ret := none) (by decide) rfl ?_
  intro p e s m args below meth c s₁ B hml hv
  obtain ⟨rfl, hsz, hP, hK, hD0⟩ := hv
  subst hsz
  have hts0 := atoms_spec (ws := ws_ yX10_spread cX10_spread 5 none) B.pre
  have C : CxM p s m meth c _ (AM dA ad σ s.heap.size) RX10 cX10_spread 5 none := ⟨B.exec, B.bytes, B.returns, B.notSynchronized, hml, findClass_of_methodNamed B.named, fun w h => hts0 w (List.mem_cons_of_mem _ h), fun q h => Or.inr h⟩
  have hM : wM D dA ad (AM dA ad σ s.heap.size) s σ s.heap [] := ⟨hK, hP, hD0.self, va_S.rf⟩
  have hx := C.1
  have hb := C.2.1
  have hown := C.2.2.2.2.2.1
  have hts := C.2.2.2.2.2.2.1
  have hl := lv_entry ([.ref (ad 0), .int p1, .int p2, .int p3]) (n := 5) (Nat.le_of_ble_eq_true rfl)
  rw [lg_entry_eq]
  generalize (lg_sl ([.ref (ad 0), .int p1, .int p2, .int p3]) ++ List.replicate (5 - (lg_sl ([.ref (ad 0), .int p1, .int p2, .int p3])).length) Slot.unset).toArray = ls at hl ⊢
  have hl : lv_has ls 5 [(0, .ref (ad 0)), (1, .int p1), (2, .int p2), (3, .int p3)] := hl
  unfold wp_spread at hw
  refine lv_iload_n hx hb dX10_spread_0 rfl (lv_at hl 1 rfl) ?_
  refine lv_istore (lv' := [(4, .int p1), (0, .ref (ad 0)), (1, .int p1), (2, .int p2), (3, .int p3)]) hx hb dX10_spread_1 hl (by decide) rfl (fun ls hl => ?_)
  obtain ⟨n3, hw⟩ := hw
  exact wk_spread_3 C  n3 p1 p2 p3 p1 σ _ _ ls hw hM (lv_sub hl [1, 2, 3, 4, 0] rfl)
abbrev rm_next : Room := { frames := 1, cells := 0, slots := 0, locals := 24 }
set_option maxHeartbeats 4000000 in
theorem wk_next_136 {p : Program} {l : Launch} {e : Env} {s : State} {m : MethodId} {args : Array Value} {below : List Frame} {meth : Method} {c : Code} {D : va_G} {dA : Nat → ClassId} {ad : Nat → Nat} {σ0 : St} {sz : Nat} (C : CxM p s m meth c args (AM dA ad σ0 sz) RX10 cX10_next 9 (some .boolean)) {Qr : Int32 → St → Prop} {K9 : Int32 → Int32 → Int32 → St → Prop} (hK9 : ∀ (v1 : Int32) (v2 : Int32) (v3 : Int32) (σ : St) (H : Heap) (locs : List Loc) (ls : Array Slot), K9 v1 v2 v3 σ → wM D dA ad (AM dA ad σ0 sz) s σ H locs → lv_has ls 9 [(0, .ref (ad 0)), (1, .int v1), (2, .int v2), (3, .int v3)] → W p l e rm_next s m args below meth c H locs 0 0 (MQ below (va_Qi Qr (BM D dA ad (AM dA ad σ0 sz)) (AM dA ad σ0 sz)) args s 0 0 (AM dA ad σ0 sz)) (F0 m 9 ls [])) : ∀ (v1 : Int32) (v3 : Int32) (v5 : Int32) (σ : St) (H : Heap) (locs : List Loc) (ls : Array Slot), wp_next_136 Qr K9 v1 v3 v5 σ → wM D dA ad (AM dA ad σ0 sz) s σ H locs → lv_has ls 9 [(0, .ref (ad 0)), (1, .int v1), (3, .int v3), (5, .int v5)] → W p l e rm_next s m args below meth c H locs 0 0 (MQ below (va_Qi Qr (BM D dA ad (AM dA ad σ0 sz)) (AM dA ad σ0 sz)) args s 0 0 (AM dA ad σ0 sz)) (F0 m 136 ls []) := by
  intro v1 v3 v5 σ H locs ls hw hM hl
  have hx := C.1
  have hb := C.2.1
  have hown := C.2.2.2.2.2.1
  have hts := C.2.2.2.2.2.2.1
  unfold wp_next_136 at hw
  refine lv_iload hx hb dX10_next_136 (lv_at hl 3 rfl) ?_
  refine lv_istore_n (lv' := [(2, .int v5), (0, .ref (ad 0)), (1, .int v1), (3, .int v3), (5, .int v5)]) hx hb dX10_next_138 rfl hl (by decide) rfl (fun ls hl => ?_)
  obtain ⟨x1, ex1⟩ : ∃ y : Int32, y = v3 + (-1) := ⟨_, rfl⟩
  have hw := hw x1 ex1
  refine lv_iinc (v := x1) (lv' := [(3, .int x1), (2, .int v5), (0, .ref (ad 0)), (1, .int v1), (5, .int v5)]) hx hb dX10_next_139 hl (k := 3) rfl (by rw [ex1]; rfl) (by decide) rfl (fun ls hl => ?_)
  refine lv_goto (tgt := 9) hx hb dX10_next_142 (by decide) ?_
  exact hK9 v1 v5 x1 σ _ _ ls hw hM (lv_sub hl [2, 3, 1, 0] rfl)
set_option maxHeartbeats 4000000 in
theorem wk_next_101 {p : Program} {l : Launch} {e : Env} {s : State} {m : MethodId} {args : Array Value} {below : List Frame} {meth : Method} {c : Code} {D : va_G} {dA : Nat → ClassId} {ad : Nat → Nat} {σ0 : St} {sz : Nat} (C : CxM p s m meth c args (AM dA ad σ0 sz) RX10 cX10_next 9 (some .boolean)) {Qr : Int32 → St → Prop} {K9 : Int32 → Int32 → Int32 → St → Prop} (hK9 : ∀ (v1 : Int32) (v2 : Int32) (v3 : Int32) (σ : St) (H : Heap) (locs : List Loc) (ls : Array Slot), K9 v1 v2 v3 σ → wM D dA ad (AM dA ad σ0 sz) s σ H locs → lv_has ls 9 [(0, .ref (ad 0)), (1, .int v1), (2, .int v2), (3, .int v3)] → W p l e rm_next s m args below meth c H locs 0 0 (MQ below (va_Qi Qr (BM D dA ad (AM dA ad σ0 sz)) (AM dA ad σ0 sz)) args s 0 0 (AM dA ad σ0 sz)) (F0 m 9 ls [])) : ∀ (v1 : Int32) (v3 : Int32) (v5 : Int32) (v6 : Int32) (v7 : Int32) (v8 : Int32) (σ : St) (H : Heap) (locs : List Loc) (ls : Array Slot), wp_next_101 Qr K9 v1 v3 v5 v6 v7 v8 σ → wM D dA ad (AM dA ad σ0 sz) s σ H locs → lv_has ls 9 [(0, .ref (ad 0)), (1, .int v1), (3, .int v3), (5, .int v5), (6, .int v6), (7, .int v7), (8, .int v8)] → W p l e rm_next s m args below meth c H locs 0 0 (MQ below (va_Qi Qr (BM D dA ad (AM dA ad σ0 sz)) (AM dA ad σ0 sz)) args s 0 0 (AM dA ad σ0 sz)) (F0 m 101 ls []) := by
  intro v1 v3 v5 v6 v7 v8 σ H locs ls hw hM hl
  have hx := C.1
  have hb := C.2.1
  have hown := C.2.2.2.2.2.1
  have hts := C.2.2.2.2.2.2.1
  unfold wp_next_101 at hw
  refine lv_iload hx hb dX10_next_101 (lv_at hl 6 rfl) ?_
  refine lv_if_ne (tgt := 136) hx hb dX10_next_103 (by decide) (fun hc => ?_) (fun hc => ?_)
  · have hw := hw.1 hc
    exact wk_next_136 C hK9 v1 v3 v5 σ _ _ ls hw hM (lv_sub hl [0, 1, 2, 3] rfl)
  · have hw := hw.2 hc
    refine lv_iload hx hb dX10_next_106 (lv_at hl 5 rfl) ?_
    refine lv_iload hx hb dX10_next_108 (lv_at hl 3 rfl) ?_
    refine lv_icmp_gt (tgt := 136) hx hb dX10_next_110 (by decide) (fun hc => ?_) (fun hc => ?_)
    · have hw := hw.1 hc
      exact wk_next_136 C hK9 v1 v3 v5 σ _ _ ls hw hM (lv_sub hl [0, 1, 2, 3] rfl)
    · have hw := hw.2 hc
      refine lv_aload_n hx hb dX10_next_113 rfl (lv_at hl 0 rfl) ?_
      refine rM_get C hM 35 (by decide) (fM_35 ad σ) q1425 rfl dX10_next_114 ?_
      refine lv_iload_n hx hb dX10_next_117 rfl (lv_at hl 2 rfl) ?_
      refine lv_iload hx hb dX10_next_118 (lv_at hl 4 rfl) ?_
      refine rM_iast C hM 35 21 (wM_35 dA ad σ) (wM_s35 dA ad σ _ _) hw.1 dX10_next_120 (fun σ1 H locs eσ hM => ?_)
      have hw := hw.2 σ1 eσ
      clear eσ
      refine lv_aload_n hx hb dX10_next_121 rfl (lv_at hl 0 rfl) ?_
      refine lv_iload_n hx hb dX10_next_122 rfl (lv_at hl 2 rfl) ?_
      refine lv_iconst (v := 1) hx hb dX10_next_123 (by decide) ?_
      refine lv_iadd hx hb dX10_next_124 ?_
      refine lv_iload hx hb dX10_next_125 (lv_at hl 3 rfl) ?_
      refine lv_iload hx hb dX10_next_127 (lv_at hl 5 rfl) ?_
      refine lv_isub hx hb dX10_next_129 ?_
      refine lv_iload_n hx hb dX10_next_130 rfl (lv_at hl 1 rfl) ?_
      refine rM_callVv (n := 3) (As := [.int (v3 + 1), .int (v5 - v7), .int v1]) C hM hl.1 (mt_spread l D dA ad _ σ1 (v3 + 1) (v5 - v7) v1 _ hw) (lw_V q1650 q1652 qs71 q93 q1653) rfl rfl (by decide +kernel) ⟨Nat.le_of_ble_eq_true rfl, Nat.le_of_ble_eq_true rfl⟩ rfl (Nat.le_of_ble_eq_true rfl) ⟨Nat.zero_le _, Nat.zero_le _⟩ rfl dX10_next_131 (fun σ2 H locs hw hM => ?_)
      refine lv_iconst (v := 1) hx hb dX10_next_134 (by decide) ?_
      exact rM_zret C hM hw dX10_next_135
set_option maxHeartbeats 4000000 in
theorem wk_next_74 {p : Program} {l : Launch} {e : Env} {s : State} {m : MethodId} {args : Array Value} {below : List Frame} {meth : Method} {c : Code} {D : va_G} {dA : Nat → ClassId} {ad : Nat → Nat} {σ0 : St} {sz : Nat} (C : CxM p s m meth c args (AM dA ad σ0 sz) RX10 cX10_next 9 (some .boolean)) {Qr : Int32 → St → Prop} {K9 : Int32 → Int32 → Int32 → St → Prop} (hK9 : ∀ (v1 : Int32) (v2 : Int32) (v3 : Int32) (σ : St) (H : Heap) (locs : List Loc) (ls : Array Slot), K9 v1 v2 v3 σ → wM D dA ad (AM dA ad σ0 sz) s σ H locs → lv_has ls 9 [(0, .ref (ad 0)), (1, .int v1), (2, .int v2), (3, .int v3)] → W p l e rm_next s m args below meth c H locs 0 0 (MQ below (va_Qi Qr (BM D dA ad (AM dA ad σ0 sz)) (AM dA ad σ0 sz)) args s 0 0 (AM dA ad σ0 sz)) (F0 m 9 ls [])) : ∀ (v1 : Int32) (v3 : Int32) (v4 : Int32) (v5 : Int32) (v6 : Int32) (v7 : Int32) (u0 : Int32) (σ : St) (H : Heap) (locs : List Loc) (ls : Array Slot), wp_next_74 Qr K9 v1 v3 v4 v5 v6 v7 u0 σ → wM D dA ad (AM dA ad σ0 sz) s σ H locs → lv_has ls 9 [(0, .ref (ad 0)), (1, .int v1), (3, .int v3), (4, .int v4), (5, .int v5), (6, .int v6), (7, .int v7)] → W p l e rm_next s m args below meth c H locs 0 0 (MQ below (va_Qi Qr (BM D dA ad (AM dA ad σ0 sz)) (AM dA ad σ0 sz)) args s 0 0 (AM dA ad σ0 sz)) (F0 m 74 ls [.int u0]) := by
  intro v1 v3 v4 v5 v6 v7 u0 σ H locs ls hw hM hl
  have hx := C.1
  have hb := C.2.1
  have hown := C.2.2.2.2.2.1
  have hts := C.2.2.2.2.2.2.1
  unfold wp_next_74 at hw
  refine lv_istore (lv' := [(8, .int u0), (0, .ref (ad 0)), (1, .int v1), (3, .int v3), (4, .int v4), (5, .int v5), (6, .int v6), (7, .int v7)]) hx hb dX10_next_74 hl (by decide) rfl (fun ls hl => ?_)
  refine lv_iload hx hb dX10_next_76 (lv_at hl 0 rfl) ?_
  refine lv_if_eq (tgt := 101) hx hb dX10_next_78 (by decide) (fun hc => ?_) (fun hc => ?_)
  · have hw := hw.1 hc
    exact wk_next_101 C hK9 v1 v3 v5 v6 v7 u0 σ _ _ ls hw hM (lv_sub hl [1, 2, 3, 5, 6, 7, 0] rfl)
  · have hw := hw.2 hc
    refine lv_iload_n hx hb dX10_next_81 rfl (lv_at hl 2 rfl) ?_
    refine lv_if_eq (tgt := 101) hx hb dX10_next_82 (by decide) (fun hc => ?_) (fun hc => ?_)
    · have hw := hw.1 hc
      exact wk_next_101 C hK9 v1 v3 v5 v6 v7 u0 σ _ _ ls hw hM (lv_sub hl [1, 2, 3, 5, 6, 7, 0] rfl)
    · have hw := hw.2 hc
      refine lv_iload hx hb dX10_next_85 (lv_at hl 4 rfl) ?_
      refine lv_if_ge (tgt := 101) hx hb dX10_next_87 (by decide) (fun hc => ?_) (fun hc => ?_)
      · have hw := hw.1 hc
        exact wk_next_101 C hK9 v1 v3 v5 v6 v7 u0 σ _ _ ls hw hM (lv_sub hl [1, 2, 3, 5, 6, 7, 0] rfl)
      · have hw := hw.2 hc
        refine lv_aload_n hx hb dX10_next_90 rfl (lv_at hl 1 rfl) ?_
        refine rM_get C hM 35 (by decide) (fM_35 ad σ) q1425 rfl dX10_next_91 ?_
        refine lv_iload_n hx hb dX10_next_94 rfl (lv_at hl 3 rfl) ?_
        refine lv_iload hx hb dX10_next_95 (lv_at hl 4 rfl) ?_
        refine lv_ineg hx hb dX10_next_97 ?_
        refine rM_iast C hM 35 21 (wM_35 dA ad σ) (wM_s35 dA ad σ _ _) hw.1 dX10_next_98 (fun σ1 H locs eσ hM => ?_)
        have hw := hw.2 σ1 eσ
        clear eσ
        refine lv_iconst (v := 1) hx hb dX10_next_99 (by decide) ?_
        exact rM_zret C hM hw dX10_next_100
set_option maxHeartbeats 4000000 in
theorem wk_next_57 {p : Program} {l : Launch} {e : Env} {s : State} {m : MethodId} {args : Array Value} {below : List Frame} {meth : Method} {c : Code} {D : va_G} {dA : Nat → ClassId} {ad : Nat → Nat} {σ0 : St} {sz : Nat} (C : CxM p s m meth c args (AM dA ad σ0 sz) RX10 cX10_next 9 (some .boolean)) {Qr : Int32 → St → Prop} {K9 : Int32 → Int32 → Int32 → St → Prop} (hK9 : ∀ (v1 : Int32) (v2 : Int32) (v3 : Int32) (σ : St) (H : Heap) (locs : List Loc) (ls : Array Slot), K9 v1 v2 v3 σ → wM D dA ad (AM dA ad σ0 sz) s σ H locs → lv_has ls 9 [(0, .ref (ad 0)), (1, .int v1), (2, .int v2), (3, .int v3)] → W p l e rm_next s m args below meth c H locs 0 0 (MQ below (va_Qi Qr (BM D dA ad (AM dA ad σ0 sz)) (AM dA ad σ0 sz)) args s 0 0 (AM dA ad σ0 sz)) (F0 m 9 ls [])) : ∀ (v1 : Int32) (v3 : Int32) (v4 : Int32) (v5 : Int32) (v6 : Int32) (u0 : Int32) (σ : St) (H : Heap) (locs : List Loc) (ls : Array Slot), wp_next_57 Qr K9 v1 v3 v4 v5 v6 u0 σ → wM D dA ad (AM dA ad σ0 sz) s σ H locs → lv_has ls 9 [(0, .ref (ad 0)), (1, .int v1), (3, .int v3), (4, .int v4), (5, .int v5), (6, .int v6)] → W p l e rm_next s m args below meth c H locs 0 0 (MQ below (va_Qi Qr (BM D dA ad (AM dA ad σ0 sz)) (AM dA ad σ0 sz)) args s 0 0 (AM dA ad σ0 sz)) (F0 m 57 ls [.int u0]) := by
  intro v1 v3 v4 v5 v6 u0 σ H locs ls hw hM hl
  have hx := C.1
  have hb := C.2.1
  have hown := C.2.2.2.2.2.1
  have hts := C.2.2.2.2.2.2.1
  unfold wp_next_57 at hw
  refine lv_istore (lv' := [(7, .int u0), (0, .ref (ad 0)), (1, .int v1), (3, .int v3), (4, .int v4), (5, .int v5), (6, .int v6)]) hx hb dX10_next_57 hl (by decide) rfl (fun ls hl => ?_)
  refine lv_iload_n hx hb dX10_next_59 rfl (lv_at hl 3 rfl) ?_
  refine lv_aload_n hx hb dX10_next_60 rfl (lv_at hl 1 rfl) ?_
  refine rM_get C hM 17 (by decide) (fM_17 ad σ) q1407 rfl dX10_next_61 ?_
  refine lv_iconst (v := 1) hx hb dX10_next_64 (by decide) ?_
  refine lv_isub hx hb dX10_next_65 ?_
  refine lv_icmp_ne (tgt := 73) hx hb dX10_next_66 (by decide) (fun hc => ?_) (fun hc => ?_)
  · have hw := hw.1 hc
    refine lv_iconst (v := 0) hx hb dX10_next_73 (by decide) ?_
    exact wk_next_74 C hK9 v1 v3 v4 v5 v6 u0 0 σ _ _ ls hw hM (lv_sub hl [1, 2, 3, 4, 5, 6, 0] rfl)
  · have hw := hw.2 hc
    refine lv_iconst (v := 1) hx hb dX10_next_69 (by decide) ?_
    refine lv_goto (tgt := 74) hx hb dX10_next_70 (by decide) ?_
    exact wk_next_74 C hK9 v1 v3 v4 v5 v6 u0 1 σ _ _ ls hw hM (lv_sub hl [1, 2, 3, 4, 5, 6, 0] rfl)
set_option maxHeartbeats 4000000 in
theorem wk_next_35 {p : Program} {l : Launch} {e : Env} {s : State} {m : MethodId} {args : Array Value} {below : List Frame} {meth : Method} {c : Code} {D : va_G} {dA : Nat → ClassId} {ad : Nat → Nat} {σ0 : St} {sz : Nat} (C : CxM p s m meth c args (AM dA ad σ0 sz) RX10 cX10_next 9 (some .boolean)) {Qr : Int32 → St → Prop} {K9 : Int32 → Int32 → Int32 → St → Prop} (hK9 : ∀ (v1 : Int32) (v2 : Int32) (v3 : Int32) (σ : St) (H : Heap) (locs : List Loc) (ls : Array Slot), K9 v1 v2 v3 σ → wM D dA ad (AM dA ad σ0 sz) s σ H locs → lv_has ls 9 [(0, .ref (ad 0)), (1, .int v1), (2, .int v2), (3, .int v3)] → W p l e rm_next s m args below meth c H locs 0 0 (MQ below (va_Qi Qr (BM D dA ad (AM dA ad σ0 sz)) (AM dA ad σ0 sz)) args s 0 0 (AM dA ad σ0 sz)) (F0 m 9 ls [])) : ∀ (v1 : Int32) (v3 : Int32) (v4 : Int32) (u0 : Int32) (u1 : Int32) (σ : St) (H : Heap) (locs : List Loc) (ls : Array Slot), wp_next_35 Qr K9 v1 v3 v4 u0 u1 σ → wM D dA ad (AM dA ad σ0 sz) s σ H locs → lv_has ls 9 [(0, .ref (ad 0)), (1, .int v1), (3, .int v3), (4, .int v4)] → W p l e rm_next s m args below meth c H locs 0 0 (MQ below (va_Qi Qr (BM D dA ad (AM dA ad σ0 sz)) (AM dA ad σ0 sz)) args s 0 0 (AM dA ad σ0 sz)) (F0 m 35 ls [.int u1, .int u0]) := by
  intro v1 v3 v4 u0 u1 σ H locs ls hw hM hl
  have hx := C.1
  have hb := C.2.1
  have hown := C.2.2.2.2.2.1
  have hts := C.2.2.2.2.2.2.1
  unfold wp_next_35 at hw
  refine lv_iadd hx hb dX10_next_35 ?_
  refine lv_topi (fun x1 ex1 => ?_)
  have hw := hw x1 ex1
  refine lv_istore (lv' := [(5, .int x1), (0, .ref (ad 0)), (1, .int v1), (3, .int v3), (4, .int v4)]) hx hb dX10_next_36 hl (by decide) rfl (fun ls hl => ?_)
  refine lv_iload hx hb dX10_next_38 (lv_at hl 4 rfl) ?_
  refine lv_iconst (v := 1) hx hb dX10_next_40 (by decide) ?_
  refine lv_iadd hx hb dX10_next_41 ?_
  refine lv_topi (fun x2 ex2 => ?_)
  have hw := hw x2 ex2
  refine lv_istore (lv' := [(6, .int x2), (5, .int x1), (0, .ref (ad 0)), (1, .int v1), (3, .int v3), (4, .int v4)]) hx hb dX10_next_42 hl (by decide) rfl (fun ls hl => ?_)
  refine lv_iload hx hb dX10_next_44 (lv_at hl 0 rfl) ?_
  refine lv_if_ge (tgt := 55) hx hb dX10_next_46 (by decide) (fun hc => ?_) (fun hc => ?_)
  · have hw := hw.1 hc
    refine lv_iload hx hb dX10_next_55 (lv_at hl 0 rfl) ?_
    exact wk_next_57 C hK9 v1 v3 v4 x1 x2 x2 σ _ _ ls hw hM (lv_sub hl [2, 3, 4, 5, 1, 0] rfl)
  · have hw := hw.2 hc
    refine lv_iload hx hb dX10_next_49 (lv_at hl 0 rfl) ?_
    refine lv_ineg hx hb dX10_next_51 ?_
    refine lv_goto (tgt := 57) hx hb dX10_next_52 (by decide) ?_
    exact wk_next_57 C hK9 v1 v3 v4 x1 x2 ((-x2)) σ _ _ ls hw hM (lv_sub hl [2, 3, 4, 5, 1, 0] rfl)
set_option maxHeartbeats 4000000 in
theorem wk_next_9 {p : Program} {l : Launch} {e : Env} {s : State} {m : MethodId} {args : Array Value} {below : List Frame} {meth : Method} {c : Code} {D : va_G} {dA : Nat → ClassId} {ad : Nat → Nat} {σ0 : St} {sz : Nat} (C : CxM p s m meth c args (AM dA ad σ0 sz) RX10 cX10_next 9 (some .boolean)) {Qr : Int32 → St → Prop} : ∀ (n : Nat) (v1 : Int32) (v2 : Int32) (v3 : Int32) (σ : St) (H : Heap) (locs : List Loc) (ls : Array Slot), wp_next_9 Qr n v1 v2 v3 σ → wM D dA ad (AM dA ad σ0 sz) s σ H locs → lv_has ls 9 [(0, .ref (ad 0)), (1, .int v1), (2, .int v2), (3, .int v3)] → W p l e rm_next s m args below meth c H locs 0 0 (MQ below (va_Qi Qr (BM D dA ad (AM dA ad σ0 sz)) (AM dA ad σ0 sz)) args s 0 0 (AM dA ad σ0 sz)) (F0 m 9 ls []) := by
  intro n
  induction n with
  | zero => intro v1 v2 v3 σ H locs ls hw; exact hw.elim
  | succ n9 ih =>
    intro v1 v2 v3 σ H locs ls hw hM hl
    have hx := C.1
    have hb := C.2.1
    have hown := C.2.2.2.2.2.1
    have hts := C.2.2.2.2.2.2.1
    unfold wp_next_9 at hw
    refine lv_iload_n hx hb dX10_next_9 rfl (lv_at hl 3 rfl) ?_
    refine lv_if_lt (tgt := 145) hx hb dX10_next_10 (by decide) (fun hc => ?_) (fun hc => ?_)
    · have hw := hw.1 hc
      refine lv_iconst (v := 0) hx hb dX10_next_145 (by decide) ?_
      exact rM_zret C hM hw dX10_next_146
    · have hw := hw.2 hc
      refine lv_aload_n hx hb dX10_next_13 rfl (lv_at hl 0 rfl) ?_
      refine rM_get C hM 35 (by decide) (fM_35 ad σ) q1425 rfl dX10_next_14 ?_
      refine lv_iload_n hx hb dX10_next_17 rfl (lv_at hl 3 rfl) ?_
      refine rM_iald C hM 35 21 (wM_35 dA ad σ) hw.1 dX10_next_18 ?_
      have hw := hw.2
      refine lv_topi (fun x1 ex1 => ?_)
      have hw := hw x1 ex1
      refine lv_istore (lv' := [(4, .int x1), (0, .ref (ad 0)), (1, .int v1), (2, .int v2), (3, .int v3)]) hx hb dX10_next_19 hl (by decide) rfl (fun ls hl => ?_)
      refine lv_iload_n hx hb dX10_next_21 rfl (lv_at hl 3 rfl) ?_
      refine lv_iload hx hb dX10_next_22 (lv_at hl 0 rfl) ?_
      refine lv_if_ge (tgt := 33) hx hb dX10_next_24 (by decide) (fun hc => ?_) (fun hc => ?_)
      · have hw := hw.1 hc
        refine lv_iload hx hb dX10_next_33 (lv_at hl 0 rfl) ?_
        exact wk_next_35 C ih v1 v3 x1 v2 x1 σ _ _ ls hw hM (lv_sub hl [1, 2, 4, 0] rfl)
      · have hw := hw.2 hc
        refine lv_iload hx hb dX10_next_27 (lv_at hl 0 rfl) ?_
        refine lv_ineg hx hb dX10_next_29 ?_
        refine lv_goto (tgt := 35) hx hb dX10_next_30 (by decide) ?_
        exact wk_next_35 C ih v1 v3 x1 v2 ((-x1)) σ _ _ ls hw hM (lv_sub hl [1, 2, 4, 0] rfl)
set_option maxHeartbeats 4000000 in
/-- private boolean next(boolean); -/
theorem mt_next (l : Launch) (D : va_G) (dA : Nat → ClassId) (ad : Nat → Nat) (sz : Nat) (σ : St) (p1 : Int32) (Qr : Int32 → St → Prop) (hw : wp_next p1 σ Qr) : Met l yX10_next (ws_ yX10_next cX10_next 9 (some .boolean)) rm_next (PcM D dA ad σ sz [.ref (ad 0), .int p1]) (va_Qi Qr (BM D dA ad (AM dA ad σ sz)) (AM dA ad σ sz)) 0 0 (AM dA ad σ sz) := by
  refine Met.ofW (cc := cX10_next) (maxL := 9) (ret := (some .boolean)) (by decide) rfl ?_
  intro p e s m args below meth c s₁ B hml hv
  obtain ⟨rfl, hsz, hP, hK, hD0⟩ := hv
  subst hsz
  have hts0 := atoms_spec (ws := ws_ yX10_next cX10_next 9 (some .boolean)) B.pre
  have C : CxM p s m meth c _ (AM dA ad σ s.heap.size) RX10 cX10_next 9 (some .boolean) := ⟨B.exec, B.bytes, B.returns, B.notSynchronized, hml, findClass_of_methodNamed B.named, fun w h => hts0 w (List.mem_cons_of_mem _ h), fun q h => Or.inr h⟩
  have hM : wM D dA ad (AM dA ad σ s.heap.size) s σ s.heap [] := ⟨hK, hP, hD0.self, va_S.rf⟩
  have hx := C.1
  have hb := C.2.1
  have hown := C.2.2.2.2.2.1
  have hts := C.2.2.2.2.2.2.1
  have hl := lv_entry ([.ref (ad 0), .int p1]) (n := 9) (Nat.le_of_ble_eq_true rfl)
  rw [lg_entry_eq]
  generalize (lg_sl ([.ref (ad 0), .int p1]) ++ List.replicate (9 - (lg_sl ([.ref (ad 0), .int p1])).length) Slot.unset).toArray = ls at hl ⊢
  have hl : lv_has ls 9 [(0, .ref (ad 0)), (1, .int p1)] := hl
  unfold wp_next at hw
  refine lv_iconst (v := 0) hx hb dX10_next_0 (by decide) ?_
  refine lv_istore_n (lv' := [(2, .int 0), (0, .ref (ad 0)), (1, .int p1)]) hx hb dX10_next_1 rfl hl (by decide) rfl (fun ls hl => ?_)
  refine lv_aload_n hx hb dX10_next_2 rfl (lv_at hl 1 rfl) ?_
  refine rM_get C hM 17 (by decide) (fM_17 ad σ) q1407 rfl dX10_next_3 ?_
  refine lv_iconst (v := 1) hx hb dX10_next_6 (by decide) ?_
  refine lv_isub hx hb dX10_next_7 ?_
  refine lv_topi (fun x1 ex1 => ?_)
  have hw := hw x1 ex1
  refine lv_istore_n (lv' := [(3, .int x1), (2, .int 0), (0, .ref (ad 0)), (1, .int p1)]) hx hb dX10_next_8 rfl hl (by decide) rfl (fun ls hl => ?_)
  obtain ⟨n9, hw⟩ := hw
  exact wk_next_9 C  n9 p1 0 x1 σ _ _ ls hw hM (lv_sub hl [2, 3, 1, 0] rfl)
abbrev rm_work : Room := { frames := 2, cells := 0, slots := 0, locals := 52 }
set_option maxHeartbeats 4000000 in
theorem wk_work_213 {p : Program} {l : Launch} {e : Env} {s : State} {m : MethodId} {args : Array Value} {below : List Frame} {meth : Method} {c : Code} {D : va_G} {dA : Nat → ClassId} {ad : Nat → Nat} {σ0 : St} {sz : Nat} (C : CxM p s m meth c args (AM dA ad σ0 sz) RX10 cX10_work 6 (some .int)) {Qr : Int32 → St → Prop} : ∀ (v1 : Int32) (v2 : Int32) (v3 : Int32) (σ : St) (H : Heap) (locs : List Loc) (ls : Array Slot), wp_work_213 Qr v1 v2 v3 σ → wM D dA ad (AM dA ad σ0 sz) s σ H locs → lv_has ls 6 [(0, .ref (ad 0)), (1, .int v1), (2, .int v2), (3, .int v3)] → W p l e rm_work s m args below meth c H locs 0 0 (MQ below (va_Qi Qr (BM D dA ad (AM dA ad σ0 sz)) (AM dA ad σ0 sz)) args s 0 0 (AM dA ad σ0 sz)) (F0 m 213 ls []) := by
  intro v1 v2 v3 σ H locs ls hw hM hl
  have hx := C.1
  have hb := C.2.1
  have hown := C.2.2.2.2.2.1
  have hts := C.2.2.2.2.2.2.1
  unfold wp_work_213 at hw
  refine lv_iload_n hx hb dX10_work_213 rfl (lv_at hl 3 rfl) ?_
  refine lv_if_ne (tgt := 226) hx hb dX10_work_214 (by decide) (fun hc => ?_) (fun hc => ?_)
  · have hw := hw.1 hc
    refine lv_aload_n hx hb dX10_work_226 rfl (lv_at hl 0 rfl) ?_
    refine rM_get C hM 20 (by decide) (fM_20 ad σ) q1410 rfl dX10_work_227 ?_
    refine lv_iload_n hx hb dX10_work_230 rfl (lv_at hl 1 rfl) ?_
    refine lv_iconst (v := 1) hx hb dX10_work_231 (by decide) ?_
    refine rM_zast C hM 20 10 (wM_20 dA ad σ) (wM_s20 dA ad σ _ _) hw.1 dX10_work_232 (fun σ1 H locs eσ hM => ?_)
    have hw := hw.2 σ1 eσ
    clear eσ
    refine lv_aload_n hx hb dX10_work_233 rfl (lv_at hl 0 rfl) ?_
    refine rM_get C hM 21 (by decide) (fM_21 ad σ1) q1411 rfl dX10_work_234 ?_
    refine lv_iload_n hx hb dX10_work_237 rfl (lv_at hl 1 rfl) ?_
    refine lv_iload_n hx hb dX10_work_238 rfl (lv_at hl 2 rfl) ?_
    refine rM_iast C hM 21 11 (wM_21 dA ad σ1) (wM_s21 dA ad σ1 _ _) hw.1 dX10_work_239 (fun σ2 H locs eσ hM => ?_)
    have hw := hw.2 σ2 eσ
    clear eσ
    refine lv_aload_n hx hb dX10_work_240 rfl (lv_at hl 0 rfl) ?_
    refine rM_get C hM 22 (by decide) (fM_22 ad σ2) q1412 rfl dX10_work_241 ?_
    refine lv_iload_n hx hb dX10_work_244 rfl (lv_at hl 1 rfl) ?_
    refine rM_iald C hM 22 12 (wM_22 dA ad σ2) hw.1 dX10_work_245 ?_
    have hw := hw.2
    exact rM_iret C hM hw dX10_work_246
  · have hw := hw.2 hc
    refine lv_aload_n hx hb dX10_work_217 rfl (lv_at hl 0 rfl) ?_
    refine rM_get C hM 22 (by decide) (fM_22 ad σ) q1412 rfl dX10_work_218 ?_
    refine lv_iload_n hx hb dX10_work_221 rfl (lv_at hl 1 rfl) ?_
    refine lv_iconst (v := 0) hx hb dX10_work_222 (by decide) ?_
    refine rM_iast C hM 22 12 (wM_22 dA ad σ) (wM_s22 dA ad σ _ _) hw.1 dX10_work_223 (fun σ3 H locs eσ hM => ?_)
    have hw := hw.2 σ3 eσ
    clear eσ
    refine lv_iconst (v := (-1)) hx hb dX10_work_224 (by decide) ?_
    exact rM_iret C hM hw dX10_work_225
set_option maxHeartbeats 4000000 in
theorem wk_work_207 {p : Program} {l : Launch} {e : Env} {s : State} {m : MethodId} {args : Array Value} {below : List Frame} {meth : Method} {c : Code} {D : va_G} {dA : Nat → ClassId} {ad : Nat → Nat} {σ0 : St} {sz : Nat} (C : CxM p s m meth c args (AM dA ad σ0 sz) RX10 cX10_work 6 (some .int)) {Qr : Int32 → St → Prop} {K98 : Int32 → Int32 → Int32 → Int32 → St → Prop} (hK98 : ∀ (v1 : Int32) (v2 : Int32) (v3 : Int32) (v4 : Int32) (σ : St) (H : Heap) (locs : List Loc) (ls : Array Slot), K98 v1 v2 v3 v4 σ → wM D dA ad (AM dA ad σ0 sz) s σ H locs → lv_has ls 6 [(0, .ref (ad 0)), (1, .int v1), (2, .int v2), (3, .int v3), (4, .int v4)] → W p l e rm_work s m args below meth c H locs 0 0 (MQ below (va_Qi Qr (BM D dA ad (AM dA ad σ0 sz)) (AM dA ad σ0 sz)) args s 0 0 (AM dA ad σ0 sz)) (F0 m 98 ls [])) : ∀ (v1 : Int32) (v2 : Int32) (v3 : Int32) (v4 : Int32) (σ : St) (H : Heap) (locs : List Loc) (ls : Array Slot), wp_work_207 Qr K98 v1 v2 v3 v4 σ → wM D dA ad (AM dA ad σ0 sz) s σ H locs → lv_has ls 6 [(0, .ref (ad 0)), (1, .int v1), (2, .int v2), (3, .int v3), (4, .int v4)] → W p l e rm_work s m args below meth c H locs 0 0 (MQ below (va_Qi Qr (BM D dA ad (AM dA ad σ0 sz)) (AM dA ad σ0 sz)) args s 0 0 (AM dA ad σ0 sz)) (F0 m 207 ls []) := by
  intro v1 v2 v3 v4 σ H locs ls hw hM hl
  have hx := C.1
  have hb := C.2.1
  have hown := C.2.2.2.2.2.1
  have hts := C.2.2.2.2.2.2.1
  unfold wp_work_207 at hw
  obtain ⟨x1, ex1⟩ : ∃ y : Int32, y = v4 + 1 := ⟨_, rfl⟩
  have hw := hw x1 ex1
  refine lv_iinc (v := x1) (lv' := [(4, .int x1), (0, .ref (ad 0)), (1, .int v1), (2, .int v2), (3, .int v3)]) hx hb dX10_work_207 hl (k := 4) rfl (by rw [ex1]; rfl) (by decide) rfl (fun ls hl => ?_)
  refine lv_goto (tgt := 98) hx hb dX10_work_210 (by decide) ?_
  exact hK98 v1 v2 v3 x1 σ _ _ ls hw hM (lv_sub hl [1, 2, 3, 4, 0] rfl)
set_option maxHeartbeats 4000000 in
theorem wk_work_202 {p : Program} {l : Launch} {e : Env} {s : State} {m : MethodId} {args : Array Value} {below : List Frame} {meth : Method} {c : Code} {D : va_G} {dA : Nat → ClassId} {ad : Nat → Nat} {σ0 : St} {sz : Nat} (C : CxM p s m meth c args (AM dA ad σ0 sz) RX10 cX10_work 6 (some .int)) {Qr : Int32 → St → Prop} {K98 : Int32 → Int32 → Int32 → Int32 → St → Prop} (hK98 : ∀ (v1 : Int32) (v2 : Int32) (v3 : Int32) (v4 : Int32) (σ : St) (H : Heap) (locs : List Loc) (ls : Array Slot), K98 v1 v2 v3 v4 σ → wM D dA ad (AM dA ad σ0 sz) s σ H locs → lv_has ls 6 [(0, .ref (ad 0)), (1, .int v1), (2, .int v2), (3, .int v3), (4, .int v4)] → W p l e rm_work s m args below meth c H locs 0 0 (MQ below (va_Qi Qr (BM D dA ad (AM dA ad σ0 sz)) (AM dA ad σ0 sz)) args s 0 0 (AM dA ad σ0 sz)) (F0 m 98 ls [])) {K131 : Int32 → Int32 → Int32 → Int32 → Int32 → St → Prop} (hK131 : ∀ (v1 : Int32) (v2 : Int32) (v3 : Int32) (v4 : Int32) (v5 : Int32) (σ : St) (H : Heap) (locs : List Loc) (ls : Array Slot), K131 v1 v2 v3 v4 v5 σ → wM D dA ad (AM dA ad σ0 sz) s σ H locs → lv_has ls 6 [(0, .ref (ad 0)), (1, .int v1), (2, .int v2), (3, .int v3), (4, .int v4), (5, .int v5)] → W p l e rm_work s m args below meth c H locs 0 0 (MQ below (va_Qi Qr (BM D dA ad (AM dA ad σ0 sz)) (AM dA ad σ0 sz)) args s 0 0 (AM dA ad σ0 sz)) (F0 m 131 ls [])) : ∀ (v1 : Int32) (v2 : Int32) (v3 : Int32) (v4 : Int32) (u0 : Int32) (σ : St) (H : Heap) (locs : List Loc) (ls : Array Slot), wp_work_202 Qr K98 K131 v1 v2 v3 v4 u0 σ → wM D dA ad (AM dA ad σ0 sz) s σ H locs → lv_has ls 6 [(0, .ref (ad 0)), (1, .int v1), (2, .int v2), (3, .int v3), (4, .int v4)] → W p l e rm_work s m args below meth c H locs 0 0 (MQ below (va_Qi Qr (BM D dA ad (AM dA ad σ0 sz)) (AM dA ad σ0 sz)) args s 0 0 (AM dA ad σ0 sz)) (F0 m 202 ls [.int u0]) := by
  intro v1 v2 v3 v4 u0 σ H locs ls hw hM hl
  have hx := C.1
  have hb := C.2.1
  have hown := C.2.2.2.2.2.1
  have hts := C.2.2.2.2.2.2.1
  unfold wp_work_202 at hw
  refine lv_istore (lv' := [(5, .int u0), (0, .ref (ad 0)), (1, .int v1), (2, .int v2), (3, .int v3), (4, .int v4)]) hx hb dX10_work_202 hl (by decide) rfl (fun ls hl => ?_)
  refine lv_goto (tgt := 131) hx hb dX10_work_204 (by decide) ?_
  exact hK131 v1 v2 v3 v4 u0 σ _ _ ls hw hM (lv_sub hl [1, 2, 3, 4, 5, 0] rfl)
set_option maxHeartbeats 4000000 in
theorem wk_work_201 {p : Program} {l : Launch} {e : Env} {s : State} {m : MethodId} {args : Array Value} {below : List Frame} {meth : Method} {c : Code} {D : va_G} {dA : Nat → ClassId} {ad : Nat → Nat} {σ0 : St} {sz : Nat} (C : CxM p s m meth c args (AM dA ad σ0 sz) RX10 cX10_work 6 (some .int)) {Qr : Int32 → St → Prop} {K98 : Int32 → Int32 → Int32 → Int32 → St → Prop} (hK98 : ∀ (v1 : Int32) (v2 : Int32) (v3 : Int32) (v4 : Int32) (σ : St) (H : Heap) (locs : List Loc) (ls : Array Slot), K98 v1 v2 v3 v4 σ → wM D dA ad (AM dA ad σ0 sz) s σ H locs → lv_has ls 6 [(0, .ref (ad 0)), (1, .int v1), (2, .int v2), (3, .int v3), (4, .int v4)] → W p l e rm_work s m args below meth c H locs 0 0 (MQ below (va_Qi Qr (BM D dA ad (AM dA ad σ0 sz)) (AM dA ad σ0 sz)) args s 0 0 (AM dA ad σ0 sz)) (F0 m 98 ls [])) {K131 : Int32 → Int32 → Int32 → Int32 → Int32 → St → Prop} (hK131 : ∀ (v1 : Int32) (v2 : Int32) (v3 : Int32) (v4 : Int32) (v5 : Int32) (σ : St) (H : Heap) (locs : List Loc) (ls : Array Slot), K131 v1 v2 v3 v4 v5 σ → wM D dA ad (AM dA ad σ0 sz) s σ H locs → lv_has ls 6 [(0, .ref (ad 0)), (1, .int v1), (2, .int v2), (3, .int v3), (4, .int v4), (5, .int v5)] → W p l e rm_work s m args below meth c H locs 0 0 (MQ below (va_Qi Qr (BM D dA ad (AM dA ad σ0 sz)) (AM dA ad σ0 sz)) args s 0 0 (AM dA ad σ0 sz)) (F0 m 131 ls [])) : ∀ (v1 : Int32) (v2 : Int32) (v3 : Int32) (v4 : Int32) (σ : St) (H : Heap) (locs : List Loc) (ls : Array Slot), wp_work_201 Qr K98 K131 v1 v2 v3 v4 σ → wM D dA ad (AM dA ad σ0 sz) s σ H locs → lv_has ls 6 [(0, .ref (ad 0)), (1, .int v1), (2, .int v2), (3, .int v3), (4, .int v4)] → W p l e rm_work s m args below meth c H locs 0 0 (MQ below (va_Qi Qr (BM D dA ad (AM dA ad σ0 sz)) (AM dA ad σ0 sz)) args s 0 0 (AM dA ad σ0 sz)) (F0 m 201 ls []) := by
  intro v1 v2 v3 v4 σ H locs ls hw hM hl
  have hx := C.1
  have hb := C.2.1
  have hown := C.2.2.2.2.2.1
  have hts := C.2.2.2.2.2.2.1
  unfold wp_work_201 at hw
  refine lv_iconst (v := 0) hx hb dX10_work_201 (by decide) ?_
  exact wk_work_202 C hK98 hK131 v1 v2 v3 v4 0 σ _ _ ls hw hM (lv_sub hl [0, 1, 2, 3, 4] rfl)
set_option maxHeartbeats 4000000 in
theorem wk_work_191 {p : Program} {l : Launch} {e : Env} {s : State} {m : MethodId} {args : Array Value} {below : List Frame} {meth : Method} {c : Code} {D : va_G} {dA : Nat → ClassId} {ad : Nat → Nat} {σ0 : St} {sz : Nat} (C : CxM p s m meth c args (AM dA ad σ0 sz) RX10 cX10_work 6 (some .int)) {Qr : Int32 → St → Prop} {K98 : Int32 → Int32 → Int32 → Int32 → St → Prop} (hK98 : ∀ (v1 : Int32) (v2 : Int32) (v3 : Int32) (v4 : Int32) (σ : St) (H : Heap) (locs : List Loc) (ls : Array Slot), K98 v1 v2 v3 v4 σ → wM D dA ad (AM dA ad σ0 sz) s σ H locs → lv_has ls 6 [(0, .ref (ad 0)), (1, .int v1), (2, .int v2), (3, .int v3), (4, .int v4)] → W p l e rm_work s m args below meth c H locs 0 0 (MQ below (va_Qi Qr (BM D dA ad (AM dA ad σ0 sz)) (AM dA ad σ0 sz)) args s 0 0 (AM dA ad σ0 sz)) (F0 m 98 ls [])) {K131 : Int32 → Int32 → Int32 → Int32 → Int32 → St → Prop} (hK131 : ∀ (v1 : Int32) (v2 : Int32) (v3 : Int32) (v4 : Int32) (v5 : Int32) (σ : St) (H : Heap) (locs : List Loc) (ls : Array Slot), K131 v1 v2 v3 v4 v5 σ → wM D dA ad (AM dA ad σ0 sz) s σ H locs → lv_has ls 6 [(0, .ref (ad 0)), (1, .int v1), (2, .int v2), (3, .int v3), (4, .int v4), (5, .int v5)] → W p l e rm_work s m args below meth c H locs 0 0 (MQ below (va_Qi Qr (BM D dA ad (AM dA ad σ0 sz)) (AM dA ad σ0 sz)) args s 0 0 (AM dA ad σ0 sz)) (F0 m 131 ls [])) : ∀ (v1 : Int32) (v2 : Int32) (v3 : Int32) (v4 : Int32) (u1 : Int32) (σ : St) (H : Heap) (locs : List Loc) (ls : Array Slot), wp_work_191 Qr K98 K131 v1 v2 v3 v4 u1 σ → wM D dA ad (AM dA ad σ0 sz) s σ H locs → lv_has ls 6 [(0, .ref (ad 0)), (1, .int v1), (2, .int v2), (3, .int v3), (4, .int v4)] → W p l e rm_work s m args below meth c H locs 0 0 (MQ below (va_Qi Qr (BM D dA ad (AM dA ad σ0 sz)) (AM dA ad σ0 sz)) args s 0 0 (AM dA ad σ0 sz)) (F0 m 191 ls [.int u1, .ref (ad 0)]) := by
  intro v1 v2 v3 v4 u1 σ H locs ls hw hM hl
  have hx := C.1
  have hb := C.2.1
  have hown := C.2.2.2.2.2.1
  have hts := C.2.2.2.2.2.2.1
  unfold wp_work_191 at hw
  refine rM_callVi (n := 1) (As := [.int u1]) C hM hl.1 (mt_next l D dA ad _ σ u1 _ hw) (lw_V q1646 q1648 qs70 q93 q1649) rfl rfl (by decide +kernel) ⟨Nat.le_of_ble_eq_true rfl, Nat.le_of_ble_eq_true rfl⟩ rfl (Nat.le_of_ble_eq_true rfl) ⟨Nat.zero_le _, Nat.zero_le _⟩ rfl dX10_work_191 (fun x2 σ1 H locs hw hM => ?_)
  refine lv_if_eq (tgt := 201) hx hb dX10_work_194 (by decide) (fun hc => ?_) (fun hc => ?_)
  · have hw := hw.1 hc
    exact wk_work_201 C hK98 hK131 v1 v2 v3 v4 σ1 _ _ ls hw hM (lv_sub hl [0, 1, 2, 3, 4] rfl)
  · have hw := hw.2 hc
    refine lv_iconst (v := 1) hx hb dX10_work_197 (by decide) ?_
    refine lv_goto (tgt := 202) hx hb dX10_work_198 (by decide) ?_
    exact wk_work_202 C hK98 hK131 v1 v2 v3 v4 1 σ1 _ _ ls hw hM (lv_sub hl [0, 1, 2, 3, 4] rfl)
set_option maxHeartbeats 4000000 in
theorem wk_work_175 {p : Program} {l : Launch} {e : Env} {s : State} {m : MethodId} {args : Array Value} {below : List Frame} {meth : Method} {c : Code} {D : va_G} {dA : Nat → ClassId} {ad : Nat → Nat} {σ0 : St} {sz : Nat} (C : CxM p s m meth c args (AM dA ad σ0 sz) RX10 cX10_work 6 (some .int)) {Qr : Int32 → St → Prop} {K98 : Int32 → Int32 → Int32 → Int32 → St → Prop} (hK98 : ∀ (v1 : Int32) (v2 : Int32) (v3 : Int32) (v4 : Int32) (σ : St) (H : Heap) (locs : List Loc) (ls : Array Slot), K98 v1 v2 v3 v4 σ → wM D dA ad (AM dA ad σ0 sz) s σ H locs → lv_has ls 6 [(0, .ref (ad 0)), (1, .int v1), (2, .int v2), (3, .int v3), (4, .int v4)] → W p l e rm_work s m args below meth c H locs 0 0 (MQ below (va_Qi Qr (BM D dA ad (AM dA ad σ0 sz)) (AM dA ad σ0 sz)) args s 0 0 (AM dA ad σ0 sz)) (F0 m 98 ls [])) {K131 : Int32 → Int32 → Int32 → Int32 → Int32 → St → Prop} (hK131 : ∀ (v1 : Int32) (v2 : Int32) (v3 : Int32) (v4 : Int32) (v5 : Int32) (σ : St) (H : Heap) (locs : List Loc) (ls : Array Slot), K131 v1 v2 v3 v4 v5 σ → wM D dA ad (AM dA ad σ0 sz) s σ H locs → lv_has ls 6 [(0, .ref (ad 0)), (1, .int v1), (2, .int v2), (3, .int v3), (4, .int v4), (5, .int v5)] → W p l e rm_work s m args below meth c H locs 0 0 (MQ below (va_Qi Qr (BM D dA ad (AM dA ad σ0 sz)) (AM dA ad σ0 sz)) args s 0 0 (AM dA ad σ0 sz)) (F0 m 131 ls [])) : ∀ (v1 : Int32) (v2 : Int32) (v3 : Int32) (v4 : Int32) (σ : St) (H : Heap) (locs : List Loc) (ls : Array Slot), wp_work_175 Qr K98 K131 v1 v2 v3 v4 σ → wM D dA ad (AM dA ad σ0 sz) s σ H locs → lv_has ls 6 [(0, .ref (ad 0)), (1, .int v1), (2, .int v2), (3, .int v3), (4, .int v4)] → W p l e rm_work s m args below meth c H locs 0 0 (MQ below (va_Qi Qr (BM D dA ad (AM dA ad σ0 sz)) (AM dA ad σ0 sz)) args s 0 0 (AM dA ad σ0 sz)) (F0 m 175 ls []) := by
  intro v1 v2 v3 v4 σ H locs ls hw hM hl
  have hx := C.1
  have hb := C.2.1
  have hown := C.2.2.2.2.2.1
  have hts := C.2.2.2.2.2.2.1
  unfold wp_work_175 at hw
  refine lv_iload hx hb dX10_work_175 (lv_at hl 4 rfl) ?_
  refine lv_if_le (tgt := 201) hx hb dX10_work_177 (by decide) (fun hc => ?_) (fun hc => ?_)
  · have hw := hw.1 hc
    exact wk_work_201 C hK98 hK131 v1 v2 v3 v4 σ _ _ ls hw hM (lv_sub hl [0, 1, 2, 3, 4] rfl)
  · have hw := hw.2 hc
    refine lv_aload_n hx hb dX10_work_180 rfl (lv_at hl 0 rfl) ?_
    refine lv_iload_n hx hb dX10_work_181 rfl (lv_at hl 1 rfl) ?_
    refine lv_iconst (v := 2) hx hb dX10_work_182 (by decide) ?_
    refine lv_icmp_ne (tgt := 190) hx hb dX10_work_183 (by decide) (fun hc => ?_) (fun hc => ?_)
    · have hw := hw.1 hc
      refine lv_iconst (v := 0) hx hb dX10_work_190 (by decide) ?_
      exact wk_work_191 C hK98 hK131 v1 v2 v3 v4 0 σ _ _ ls hw hM (lv_sub hl [0, 1, 2, 3, 4] rfl)
    · have hw := hw.2 hc
      refine lv_iconst (v := 1) hx hb dX10_work_186 (by decide) ?_
      refine lv_goto (tgt := 191) hx hb dX10_work_187 (by decide) ?_
      exact wk_work_191 C hK98 hK131 v1 v2 v3 v4 1 σ _ _ ls hw hM (lv_sub hl [0, 1, 2, 3, 4] rfl)
set_option maxHeartbeats 4000000 in
theorem wk_work_165 {p : Program} {l : Launch} {e : Env} {s : State} {m : MethodId} {args : Array Value} {below : List Frame} {meth : Method} {c : Code} {D : va_G} {dA : Nat → ClassId} {ad : Nat → Nat} {σ0 : St} {sz : Nat} (C : CxM p s m meth c args (AM dA ad σ0 sz) RX10 cX10_work 6 (some .int)) {Qr : Int32 → St → Prop} {K98 : Int32 → Int32 → Int32 → Int32 → St → Prop} (hK98 : ∀ (v1 : Int32) (v2 : Int32) (v3 : Int32) (v4 : Int32) (σ : St) (H : Heap) (locs : List Loc) (ls : Array Slot), K98 v1 v2 v3 v4 σ → wM D dA ad (AM dA ad σ0 sz) s σ H locs → lv_has ls 6 [(0, .ref (ad 0)), (1, .int v1), (2, .int v2), (3, .int v3), (4, .int v4)] → W p l e rm_work s m args below meth c H locs 0 0 (MQ below (va_Qi Qr (BM D dA ad (AM dA ad σ0 sz)) (AM dA ad σ0 sz)) args s 0 0 (AM dA ad σ0 sz)) (F0 m 98 ls [])) {K131 : Int32 → Int32 → Int32 → Int32 → Int32 → St → Prop} (hK131 : ∀ (v1 : Int32) (v2 : Int32) (v3 : Int32) (v4 : Int32) (v5 : Int32) (σ : St) (H : Heap) (locs : List Loc) (ls : Array Slot), K131 v1 v2 v3 v4 v5 σ → wM D dA ad (AM dA ad σ0 sz) s σ H locs → lv_has ls 6 [(0, .ref (ad 0)), (1, .int v1), (2, .int v2), (3, .int v3), (4, .int v4), (5, .int v5)] → W p l e rm_work s m args below meth c H locs 0 0 (MQ below (va_Qi Qr (BM D dA ad (AM dA ad σ0 sz)) (AM dA ad σ0 sz)) args s 0 0 (AM dA ad σ0 sz)) (F0 m 131 ls [])) : ∀ (v1 : Int32) (v2 : Int32) (v4 : Int32) (u0 : Int32) (σ : St) (H : Heap) (locs : List Loc) (ls : Array Slot), wp_work_165 Qr K98 K131 v1 v2 v4 u0 σ → wM D dA ad (AM dA ad σ0 sz) s σ H locs → lv_has ls 6 [(0, .ref (ad 0)), (1, .int v1), (2, .int v2), (4, .int v4)] → W p l e rm_work s m args below meth c H locs 0 0 (MQ below (va_Qi Qr (BM D dA ad (AM dA ad σ0 sz)) (AM dA ad σ0 sz)) args s 0 0 (AM dA ad σ0 sz)) (F0 m 165 ls [.int u0]) := by
  intro v1 v2 v4 u0 σ H locs ls hw hM hl
  have hx := C.1
  have hb := C.2.1
  have hown := C.2.2.2.2.2.1
  have hts := C.2.2.2.2.2.2.1
  unfold wp_work_165 at hw
  refine lv_istore_n (lv' := [(3, .int u0), (0, .ref (ad 0)), (1, .int v1), (2, .int v2), (4, .int v4)]) hx hb dX10_work_165 rfl hl (by decide) rfl (fun ls hl => ?_)
  refine lv_iload_n hx hb dX10_work_166 rfl (lv_at hl 0 rfl) ?_
  refine lv_if_eq (tgt := 175) hx hb dX10_work_167 (by decide) (fun hc => ?_) (fun hc => ?_)
  · have hw := hw.1 hc
    exact wk_work_175 C hK98 hK131 v1 v2 u0 v4 σ _ _ ls hw hM (lv_sub hl [1, 2, 3, 0, 4] rfl)
  · have hw := hw.2 hc
    refine lv_aload_n hx hb dX10_work_170 rfl (lv_at hl 1 rfl) ?_
    refine lv_iload_n hx hb dX10_work_171 rfl (lv_at hl 2 rfl) ?_
    refine rM_callVv (n := 1) (As := [.int v1]) C hM hl.1 (mt_put l D dA ad _ σ v1 _ hw) (lw_V q1642 q1644 qs69 q93 q1645) rfl rfl (by decide +kernel) ⟨Nat.le_of_ble_eq_true rfl, Nat.le_of_ble_eq_true rfl⟩ rfl (Nat.le_of_ble_eq_true rfl) ⟨Nat.zero_le _, Nat.zero_le _⟩ rfl dX10_work_172 (fun σ1 H locs hw hM => ?_)
    exact wk_work_175 C hK98 hK131 v1 v2 u0 v4 σ1 _ _ ls hw hM (lv_sub hl [1, 2, 3, 0, 4] rfl)
set_option maxHeartbeats 4000000 in
theorem wk_work_131 {p : Program} {l : Launch} {e : Env} {s : State} {m : MethodId} {args : Array Value} {below : List Frame} {meth : Method} {c : Code} {D : va_G} {dA : Nat → ClassId} {ad : Nat → Nat} {σ0 : St} {sz : Nat} (C : CxM p s m meth c args (AM dA ad σ0 sz) RX10 cX10_work 6 (some .int)) {Qr : Int32 → St → Prop} {K98 : Int32 → Int32 → Int32 → Int32 → St → Prop} (hK98 : ∀ (v1 : Int32) (v2 : Int32) (v3 : Int32) (v4 : Int32) (σ : St) (H : Heap) (locs : List Loc) (ls : Array Slot), K98 v1 v2 v3 v4 σ → wM D dA ad (AM dA ad σ0 sz) s σ H locs → lv_has ls 6 [(0, .ref (ad 0)), (1, .int v1), (2, .int v2), (3, .int v3), (4, .int v4)] → W p l e rm_work s m args below meth c H locs 0 0 (MQ below (va_Qi Qr (BM D dA ad (AM dA ad σ0 sz)) (AM dA ad σ0 sz)) args s 0 0 (AM dA ad σ0 sz)) (F0 m 98 ls [])) : ∀ (n : Nat) (v1 : Int32) (v2 : Int32) (v3 : Int32) (v4 : Int32) (v5 : Int32) (σ : St) (H : Heap) (locs : List Loc) (ls : Array Slot), wp_work_131 Qr K98 n v1 v2 v3 v4 v5 σ → wM D dA ad (AM dA ad σ0 sz) s σ H locs → lv_has ls 6 [(0, .ref (ad 0)), (1, .int v1), (2, .int v2), (3, .int v3), (4, .int v4), (5, .int v5)] → W p l e rm_work s m args below meth c H locs 0 0 (MQ below (va_Qi Qr (BM D dA ad (AM dA ad σ0 sz)) (AM dA ad σ0 sz)) args s 0 0 (AM dA ad σ0 sz)) (F0 m 131 ls []) := by
  intro n
  induction n with
  | zero => intro v1 v2 v3 v4 v5 σ H locs ls hw; exact hw.elim
  | succ n131 ih =>
    intro v1 v2 v3 v4 v5 σ H locs ls hw hM hl
    have hx := C.1
    have hb := C.2.1
    have hown := C.2.2.2.2.2.1
    have hts := C.2.2.2.2.2.2.1
    unfold wp_work_131 at hw
    refine lv_iload hx hb dX10_work_131 (lv_at hl 5 rfl) ?_
    refine lv_if_eq (tgt := 207) hx hb dX10_work_133 (by decide) (fun hc => ?_) (fun hc => ?_)
    · have hw := hw.1 hc
      exact wk_work_207 C hK98 v1 v2 v3 v4 σ _ _ ls hw hM (lv_sub hl [0, 1, 2, 3, 4] rfl)
    · have hw := hw.2 hc
      refine lv_iload_n hx hb dX10_work_136 rfl (lv_at hl 3 rfl) ?_
      refine lv_if_eq (tgt := 207) hx hb dX10_work_137 (by decide) (fun hc => ?_) (fun hc => ?_)
      · have hw := hw.1 hc
        exact wk_work_207 C hK98 v1 v2 v3 v4 σ _ _ ls hw hM (lv_sub hl [0, 1, 2, 3, 4] rfl)
      · have hw := hw.2 hc
        refine lv_aload_n hx hb dX10_work_140 rfl (lv_at hl 0 rfl) ?_
        refine lv_iload_n hx hb dX10_work_141 rfl (lv_at hl 1 rfl) ?_
        refine rM_callVi (n := 1) (As := [.int v1]) C hM hl.1 (mt_belongs l D dA ad _ σ v1 _ hw) (lw_V q1630 q1632 qs66 q93 q1633) rfl rfl (by decide +kernel) ⟨Nat.le_of_ble_eq_true rfl, Nat.le_of_ble_eq_true rfl⟩ rfl (Nat.le_of_ble_eq_true rfl) ⟨Nat.zero_le _, Nat.zero_le _⟩ rfl dX10_work_142 (fun x2 σ1 H locs hw hM => ?_)
        refine lv_if_eq (tgt := 175) hx hb dX10_work_145 (by decide) (fun hc => ?_) (fun hc => ?_)
        · have hw := hw.1 hc
          exact wk_work_175 C hK98 ih v1 v2 v3 v4 σ1 _ _ ls hw hM (lv_sub hl [0, 1, 2, 3, 4] rfl)
        · have hw := hw.2 hc
          refine lv_aload_n hx hb dX10_work_148 rfl (lv_at hl 0 rfl) ?_
          refine rM_get C hM 22 (by decide) (fM_22 ad σ1) q1412 rfl dX10_work_149 ?_
          refine lv_iload_n hx hb dX10_work_152 rfl (lv_at hl 1 rfl) ?_
          refine rM_iald C hM 22 12 (wM_22 dA ad σ1) hw.1 dX10_work_153 ?_
          have hw := hw.2
          refine lv_sipush (v := 2000) hx hb dX10_work_154 (by decide) ?_
          refine lv_icmp_ge (tgt := 164) hx hb dX10_work_157 (by decide) (fun hc => ?_) (fun hc => ?_)
          · have hw := hw.1 hc
            refine lv_iconst (v := 0) hx hb dX10_work_164 (by decide) ?_
            exact wk_work_165 C hK98 ih v1 v2 v4 0 σ1 _ _ ls hw hM (lv_sub hl [0, 1, 2, 4] rfl)
          · have hw := hw.2 hc
            refine lv_iconst (v := 1) hx hb dX10_work_160 (by decide) ?_
            refine lv_goto (tgt := 165) hx hb dX10_work_161 (by decide) ?_
            exact wk_work_165 C hK98 ih v1 v2 v4 1 σ1 _ _ ls hw hM (lv_sub hl [0, 1, 2, 4] rfl)
set_option maxHeartbeats 4000000 in
theorem wk_work_125 {p : Program} {l : Launch} {e : Env} {s : State} {m : MethodId} {args : Array Value} {below : List Frame} {meth : Method} {c : Code} {D : va_G} {dA : Nat → ClassId} {ad : Nat → Nat} {σ0 : St} {sz : Nat} (C : CxM p s m meth c args (AM dA ad σ0 sz) RX10 cX10_work 6 (some .int)) {Qr : Int32 → St → Prop} {K98 : Int32 → Int32 → Int32 → Int32 → St → Prop} (hK98 : ∀ (v1 : Int32) (v2 : Int32) (v3 : Int32) (v4 : Int32) (σ : St) (H : Heap) (locs : List Loc) (ls : Array Slot), K98 v1 v2 v3 v4 σ → wM D dA ad (AM dA ad σ0 sz) s σ H locs → lv_has ls 6 [(0, .ref (ad 0)), (1, .int v1), (2, .int v2), (3, .int v3), (4, .int v4)] → W p l e rm_work s m args below meth c H locs 0 0 (MQ below (va_Qi Qr (BM D dA ad (AM dA ad σ0 sz)) (AM dA ad σ0 sz)) args s 0 0 (AM dA ad σ0 sz)) (F0 m 98 ls [])) : ∀ (v1 : Int32) (v2 : Int32) (v3 : Int32) (v4 : Int32) (u1 : Int32) (u2 : Int32) (σ : St) (H : Heap) (locs : List Loc) (ls : Array Slot), wp_work_125 Qr K98 v1 v2 v3 v4 u1 u2 σ → wM D dA ad (AM dA ad σ0 sz) s σ H locs → lv_has ls 6 [(0, .ref (ad 0)), (1, .int v1), (2, .int v2), (3, .int v3), (4, .int v4)] → W p l e rm_work s m args below meth c H locs 0 0 (MQ below (va_Qi Qr (BM D dA ad (AM dA ad σ0 sz)) (AM dA ad σ0 sz)) args s 0 0 (AM dA ad σ0 sz)) (F0 m 125 ls [.int u2, .int u1, .ref (ad 0)]) := by
  intro v1 v2 v3 v4 u1 u2 σ H locs ls hw hM hl
  have hx := C.1
  have hb := C.2.1
  have hown := C.2.2.2.2.2.1
  have hts := C.2.2.2.2.2.2.1
  unfold wp_work_125 at hw
  refine rM_callVv (n := 2) (As := [.int u1, .int u2]) C hM hl.1 (mt_begin l D dA ad _ σ u1 u2 _ hw) (lw_V q1626 q1628 qs65 q93 q1629) rfl rfl (by decide +kernel) ⟨Nat.le_of_ble_eq_true rfl, Nat.le_of_ble_eq_true rfl⟩ rfl (Nat.le_of_ble_eq_true rfl) ⟨Nat.zero_le _, Nat.zero_le _⟩ rfl dX10_work_125 (fun σ1 H locs hw hM => ?_)
  refine lv_iconst (v := 1) hx hb dX10_work_128 (by decide) ?_
  refine lv_istore (lv' := [(5, .int 1), (0, .ref (ad 0)), (1, .int v1), (2, .int v2), (3, .int v3), (4, .int v4)]) hx hb dX10_work_129 hl (by decide) rfl (fun ls hl => ?_)
  obtain ⟨n131, hw⟩ := hw
  exact wk_work_131 C hK98 n131 v1 v2 v3 v4 1 σ1 _ _ ls hw hM (lv_sub hl [1, 2, 3, 4, 5, 0] rfl)
set_option maxHeartbeats 4000000 in
theorem wk_work_98 {p : Program} {l : Launch} {e : Env} {s : State} {m : MethodId} {args : Array Value} {below : List Frame} {meth : Method} {c : Code} {D : va_G} {dA : Nat → ClassId} {ad : Nat → Nat} {σ0 : St} {sz : Nat} (C : CxM p s m meth c args (AM dA ad σ0 sz) RX10 cX10_work 6 (some .int)) {Qr : Int32 → St → Prop} : ∀ (n : Nat) (v1 : Int32) (v2 : Int32) (v3 : Int32) (v4 : Int32) (σ : St) (H : Heap) (locs : List Loc) (ls : Array Slot), wp_work_98 Qr n v1 v2 v3 v4 σ → wM D dA ad (AM dA ad σ0 sz) s σ H locs → lv_has ls 6 [(0, .ref (ad 0)), (1, .int v1), (2, .int v2), (3, .int v3), (4, .int v4)] → W p l e rm_work s m args below meth c H locs 0 0 (MQ below (va_Qi Qr (BM D dA ad (AM dA ad σ0 sz)) (AM dA ad σ0 sz)) args s 0 0 (AM dA ad σ0 sz)) (F0 m 98 ls []) := by
  intro n
  induction n with
  | zero => intro v1 v2 v3 v4 σ H locs ls hw; exact hw.elim
  | succ n98 ih =>
    intro v1 v2 v3 v4 σ H locs ls hw hM hl
    have hx := C.1
    have hb := C.2.1
    have hown := C.2.2.2.2.2.1
    have hts := C.2.2.2.2.2.2.1
    unfold wp_work_98 at hw
    refine lv_iload hx hb dX10_work_98 (lv_at hl 4 rfl) ?_
    refine lv_aload_n hx hb dX10_work_100 rfl (lv_at hl 0 rfl) ?_
    refine lv_iload_n hx hb dX10_work_101 rfl (lv_at hl 2 rfl) ?_
    refine rM_callVi (n := 1) (As := [.int v2]) C hM hl.1 (mt_most l D dA ad _ σ v2 _ hw) (lw_V q1622 q1624 qs64 q93 q1625) rfl rfl (by decide +kernel) ⟨Nat.le_of_ble_eq_true rfl, Nat.le_of_ble_eq_true rfl⟩ rfl (Nat.le_of_ble_eq_true rfl) ⟨Nat.zero_le _, Nat.zero_le _⟩ rfl dX10_work_102 (fun x2 σ1 H locs hw hM => ?_)
    refine lv_icmp_gt (tgt := 213) hx hb dX10_work_105 (by decide) (fun hc => ?_) (fun hc => ?_)
    · have hw := hw.1 hc
      exact wk_work_213 C  v1 v2 v3 σ1 _ _ ls hw hM (lv_sub hl [0, 1, 2, 3] rfl)
    · have hw := hw.2 hc
      refine lv_iload_n hx hb dX10_work_108 rfl (lv_at hl 3 rfl) ?_
      refine lv_if_eq (tgt := 213) hx hb dX10_work_109 (by decide) (fun hc => ?_) (fun hc => ?_)
      · have hw := hw.1 hc
        exact wk_work_213 C  v1 v2 v3 σ1 _ _ ls hw hM (lv_sub hl [0, 1, 2, 3] rfl)
      · have hw := hw.2 hc
        refine lv_aload_n hx hb dX10_work_112 rfl (lv_at hl 0 rfl) ?_
        refine lv_iload hx hb dX10_work_113 (lv_at hl 4 rfl) ?_
        refine lv_iload_n hx hb dX10_work_115 rfl (lv_at hl 1 rfl) ?_
        refine lv_iconst (v := 2) hx hb dX10_work_116 (by decide) ?_
        refine lv_icmp_ne (tgt := 124) hx hb dX10_work_117 (by decide) (fun hc => ?_) (fun hc => ?_)
        · have hw := hw.1 hc
          refine lv_iconst (v := 0) hx hb dX10_work_124 (by decide) ?_
          exact wk_work_125 C ih v1 v2 v3 v4 v4 0 σ1 _ _ ls hw hM (lv_sub hl [0, 1, 2, 3, 4] rfl)
        · have hw := hw.2 hc
          refine lv_iconst (v := 1) hx hb dX10_work_120 (by decide) ?_
          refine lv_goto (tgt := 125) hx hb dX10_work_121 (by decide) ?_
          exact wk_work_125 C ih v1 v2 v3 v4 v4 1 σ1 _ _ ls hw hM (lv_sub hl [0, 1, 2, 3, 4] rfl)
set_option maxHeartbeats 4000000 in
theorem wk_work_90 {p : Program} {l : Launch} {e : Env} {s : State} {m : MethodId} {args : Array Value} {below : List Frame} {meth : Method} {c : Code} {D : va_G} {dA : Nat → ClassId} {ad : Nat → Nat} {σ0 : St} {sz : Nat} (C : CxM p s m meth c args (AM dA ad σ0 sz) RX10 cX10_work 6 (some .int)) {Qr : Int32 → St → Prop} : ∀ (v1 : Int32) (v2 : Int32) (u1 : Int32) (σ : St) (H : Heap) (locs : List Loc) (ls : Array Slot), wp_work_90 Qr v1 v2 u1 σ → wM D dA ad (AM dA ad σ0 sz) s σ H locs → lv_has ls 6 [(0, .ref (ad 0)), (1, .int v1), (2, .int v2)] → W p l e rm_work s m args below meth c H locs 0 0 (MQ below (va_Qi Qr (BM D dA ad (AM dA ad σ0 sz)) (AM dA ad σ0 sz)) args s 0 0 (AM dA ad σ0 sz)) (F0 m 90 ls [.int u1, .ref (ad 0)]) := by
  intro v1 v2 u1 σ H locs ls hw hM hl
  have hx := C.1
  have hb := C.2.1
  have hown := C.2.2.2.2.2.1
  have hts := C.2.2.2.2.2.2.1
  unfold wp_work_90 at hw
  refine rM_putI C hM 26 (by decide) (fM_s26 dA ad σ _) q1416 rfl rfl (tyX10_ok 26 (by decide)) (isB_n hw.1) (isB_f hw.1) dX10_work_90 (fun σ1 H locs eσ hM => ?_)
  have hw := hw.2
  have hw := hw σ1 eσ
  clear eσ
  refine lv_iconst (v := 1) hx hb dX10_work_93 (by decide) ?_
  refine lv_istore_n (lv' := [(3, .int 1), (0, .ref (ad 0)), (1, .int v1), (2, .int v2)]) hx hb dX10_work_94 rfl hl (by decide) rfl (fun ls hl => ?_)
  refine lv_iconst (v := 0) hx hb dX10_work_95 (by decide) ?_
  refine lv_istore (lv' := [(4, .int 0), (3, .int 1), (0, .ref (ad 0)), (1, .int v1), (2, .int v2)]) hx hb dX10_work_96 hl (by decide) rfl (fun ls hl => ?_)
  obtain ⟨n98, hw⟩ := hw
  exact wk_work_98 C  n98 v1 v2 1 0 σ1 _ _ ls hw hM (lv_sub hl [2, 3, 4, 1, 0] rfl)
set_option maxHeartbeats 4000000 in
theorem wk_work_89 {p : Program} {l : Launch} {e : Env} {s : State} {m : MethodId} {args : Array Value} {below : List Frame} {meth : Method} {c : Code} {D : va_G} {dA : Nat → ClassId} {ad : Nat → Nat} {σ0 : St} {sz : Nat} (C : CxM p s m meth c args (AM dA ad σ0 sz) RX10 cX10_work 6 (some .int)) {Qr : Int32 → St → Prop} : ∀ (v1 : Int32) (v2 : Int32) (σ : St) (H : Heap) (locs : List Loc) (ls : Array Slot), wp_work_89 Qr v1 v2 σ → wM D dA ad (AM dA ad σ0 sz) s σ H locs → lv_has ls 6 [(0, .ref (ad 0)), (1, .int v1), (2, .int v2)] → W p l e rm_work s m args below meth c H locs 0 0 (MQ below (va_Qi Qr (BM D dA ad (AM dA ad σ0 sz)) (AM dA ad σ0 sz)) args s 0 0 (AM dA ad σ0 sz)) (F0 m 89 ls [.ref (ad 0)]) := by
  intro v1 v2 σ H locs ls hw hM hl
  have hx := C.1
  have hb := C.2.1
  have hown := C.2.2.2.2.2.1
  have hts := C.2.2.2.2.2.2.1
  unfold wp_work_89 at hw
  refine lv_iconst (v := 0) hx hb dX10_work_89 (by decide) ?_
  exact wk_work_90 C  v1 v2 0 σ _ _ ls hw hM (lv_sub hl [0, 1, 2] rfl)
set_option maxHeartbeats 4000000 in
theorem wk_work_46 {p : Program} {l : Launch} {e : Env} {s : State} {m : MethodId} {args : Array Value} {below : List Frame} {meth : Method} {c : Code} {D : va_G} {dA : Nat → ClassId} {ad : Nat → Nat} {σ0 : St} {sz : Nat} (C : CxM p s m meth c args (AM dA ad σ0 sz) RX10 cX10_work 6 (some .int)) {Qr : Int32 → St → Prop} : ∀ (v1 : Int32) (v2 : Int32) (u1 : Int32) (σ : St) (H : Heap) (locs : List Loc) (ls : Array Slot), wp_work_46 Qr v1 v2 u1 σ → wM D dA ad (AM dA ad σ0 sz) s σ H locs → lv_has ls 6 [(0, .ref (ad 0)), (1, .int v1), (2, .int v2)] → W p l e rm_work s m args below meth c H locs 0 0 (MQ below (va_Qi Qr (BM D dA ad (AM dA ad σ0 sz)) (AM dA ad σ0 sz)) args s 0 0 (AM dA ad σ0 sz)) (F0 m 46 ls [.int u1, .ref (ad 0)]) := by
  intro v1 v2 u1 σ H locs ls hw hM hl
  have hx := C.1
  have hb := C.2.1
  have hown := C.2.2.2.2.2.1
  have hts := C.2.2.2.2.2.2.1
  unfold wp_work_46 at hw
  refine rM_putI C hM 0 (by decide) (fM_s0 dA ad σ _) q1390 rfl rfl (tyX10_ok 0 (by decide)) rfl rfl dX10_work_46 (fun σ1 H locs eσ hM => ?_)
  have hw := hw σ1 eσ
  clear eσ
  refine lv_aload_n hx hb dX10_work_49 rfl (lv_at hl 0 rfl) ?_
  refine rM_get C hM 0 (by decide) (fM_0 ad σ1) q1390 rfl dX10_work_50 ?_
  refine lv_if_le (tgt := 58) hx hb dX10_work_53 (by decide) (fun hc => ?_) (fun hc => ?_)
  · have hw := hw.1 hc
    refine lv_aload_n hx hb dX10_work_58 rfl (lv_at hl 0 rfl) ?_
    refine rM_get C hM 20 (by decide) (fM_20 ad σ1) q1410 rfl dX10_work_59 ?_
    refine lv_iload_n hx hb dX10_work_62 rfl (lv_at hl 1 rfl) ?_
    refine lv_iconst (v := 0) hx hb dX10_work_63 (by decide) ?_
    refine rM_zast C hM 20 10 (wM_20 dA ad σ1) (wM_s20 dA ad σ1 _ _) hw.1 dX10_work_64 (fun σ2 H locs eσ hM => ?_)
    have hw := hw.2 σ2 eσ
    clear eσ
    refine lv_aload_n hx hb dX10_work_65 rfl (lv_at hl 0 rfl) ?_
    refine rM_get C hM 22 (by decide) (fM_22 ad σ2) q1412 rfl dX10_work_66 ?_
    refine lv_iload_n hx hb dX10_work_69 rfl (lv_at hl 1 rfl) ?_
    refine lv_iconst (v := 0) hx hb dX10_work_70 (by decide) ?_
    refine rM_iast C hM 22 12 (wM_22 dA ad σ2) (wM_s22 dA ad σ2 _ _) hw.1 dX10_work_71 (fun σ3 H locs eσ hM => ?_)
    have hw := hw.2 σ3 eσ
    clear eσ
    refine lv_aload_n hx hb dX10_work_72 rfl (lv_at hl 0 rfl) ?_
    refine lv_aload_n hx hb dX10_work_73 rfl (lv_at hl 0 rfl) ?_
    refine rM_get C hM 26 (by decide) (fM_26 ad σ3) q1416 rfl dX10_work_74 ?_
    refine lv_if_eq (tgt := 89) hx hb dX10_work_77 (by decide) (fun hc => ?_) (fun hc => ?_)
    · have hw := hw.1 hc
      exact wk_work_89 C  v1 v2 σ3 _ _ ls hw hM (lv_sub hl [0, 1, 2] rfl)
    · have hw := hw.2 hc
      refine lv_iload_n hx hb dX10_work_80 rfl (lv_at hl 1 rfl) ?_
      refine lv_iconst (v := 2) hx hb dX10_work_81 (by decide) ?_
      refine lv_icmp_ne (tgt := 89) hx hb dX10_work_82 (by decide) (fun hc => ?_) (fun hc => ?_)
      · have hw := hw.1 hc
        exact wk_work_89 C  v1 v2 σ3 _ _ ls hw hM (lv_sub hl [0, 1, 2] rfl)
      · have hw := hw.2 hc
        refine lv_iconst (v := 1) hx hb dX10_work_85 (by decide) ?_
        refine lv_goto (tgt := 90) hx hb dX10_work_86 (by decide) ?_
        exact wk_work_90 C  v1 v2 1 σ3 _ _ ls hw hM (lv_sub hl [0, 1, 2] rfl)
  · have hw := hw.2 hc
    refine lv_iconst (v := 0) hx hb dX10_work_56 (by decide) ?_
    exact rM_iret C hM hw dX10_work_57
set_option maxHeartbeats 4000000 in
theorem wk_work_30 {p : Program} {l : Launch} {e : Env} {s : State} {m : MethodId} {args : Array Value} {below : List Frame} {meth : Method} {c : Code} {D : va_G} {dA : Nat → ClassId} {ad : Nat → Nat} {σ0 : St} {sz : Nat} (C : CxM p s m meth c args (AM dA ad σ0 sz) RX10 cX10_work 6 (some .int)) {Qr : Int32 → St → Prop} : ∀ (v1 : Int32) (v2 : Int32) (σ : St) (H : Heap) (locs : List Loc) (ls : Array Slot), wp_work_30 Qr v1 v2 σ → wM D dA ad (AM dA ad σ0 sz) s σ H locs → lv_has ls 6 [(0, .ref (ad 0)), (1, .int v1), (2, .int v2)] → W p l e rm_work s m args below meth c H locs 0 0 (MQ below (va_Qi Qr (BM D dA ad (AM dA ad σ0 sz)) (AM dA ad σ0 sz)) args s 0 0 (AM dA ad σ0 sz)) (F0 m 30 ls [.ref (ad 0)]) := by
  intro v1 v2 σ H locs ls hw hM hl
  have hx := C.1
  have hb := C.2.1
  have hown := C.2.2.2.2.2.1
  have hts := C.2.2.2.2.2.2.1
  unfold wp_work_30 at hw
  refine lv_iconst (v := 1) hx hb dX10_work_30 (by decide) ?_
  refine lv_goto (tgt := 46) hx hb dX10_work_31 (by decide) ?_
  exact wk_work_46 C  v1 v2 1 σ _ _ ls hw hM (lv_sub hl [0, 1, 2] rfl)
set_option maxHeartbeats 4000000 in
theorem wk_work_27 {p : Program} {l : Launch} {e : Env} {s : State} {m : MethodId} {args : Array Value} {below : List Frame} {meth : Method} {c : Code} {D : va_G} {dA : Nat → ClassId} {ad : Nat → Nat} {σ0 : St} {sz : Nat} (C : CxM p s m meth c args (AM dA ad σ0 sz) RX10 cX10_work 6 (some .int)) {Qr : Int32 → St → Prop} : ∀ (v1 : Int32) (v2 : Int32) (u1 : Int32) (u2 : Int32) (σ : St) (H : Heap) (locs : List Loc) (ls : Array Slot), wp_work_27 Qr v1 v2 u1 u2 σ → wM D dA ad (AM dA ad σ0 sz) s σ H locs → lv_has ls 6 [(0, .ref (ad 0)), (1, .int v1), (2, .int v2)] → W p l e rm_work s m args below meth c H locs 0 0 (MQ below (va_Qi Qr (BM D dA ad (AM dA ad σ0 sz)) (AM dA ad σ0 sz)) args s 0 0 (AM dA ad σ0 sz)) (F0 m 27 ls [.int u2, .int u1, .ref (ad 0)]) := by
  intro v1 v2 u1 u2 σ H locs ls hw hM hl
  have hx := C.1
  have hb := C.2.1
  have hown := C.2.2.2.2.2.1
  have hts := C.2.2.2.2.2.2.1
  unfold wp_work_27 at hw
  refine lv_icmp_le (tgt := 34) hx hb dX10_work_27 (by decide) (fun hc => ?_) (fun hc => ?_)
  · have hw := hw.1 hc
    refine lv_aload_n hx hb dX10_work_34 rfl (lv_at hl 0 rfl) ?_
    refine rM_get C hM 14 (by decide) (fM_14 ad σ) q1404 rfl dX10_work_35 ?_
    refine lv_if_eq (tgt := 45) hx hb dX10_work_38 (by decide) (fun hc => ?_) (fun hc => ?_)
    · have hw := hw.1 hc
      refine lv_iconst (v := 2) hx hb dX10_work_45 (by decide) ?_
      exact wk_work_46 C  v1 v2 2 σ _ _ ls hw hM (lv_sub hl [0, 1, 2] rfl)
    · have hw := hw.2 hc
      refine lv_iconst (v := 0) hx hb dX10_work_41 (by decide) ?_
      refine lv_goto (tgt := 46) hx hb dX10_work_42 (by decide) ?_
      exact wk_work_46 C  v1 v2 0 σ _ _ ls hw hM (lv_sub hl [0, 1, 2] rfl)
  · have hw := hw.2 hc
    exact wk_work_30 C  v1 v2 σ _ _ ls hw hM (lv_sub hl [0, 1, 2] rfl)
set_option maxHeartbeats 4000000 in
/-- public int work(int, int); -/
theorem mt_work (l : Launch) (D : va_G) (dA : Nat → ClassId) (ad : Nat → Nat) (sz : Nat) (σ : St) (p1 : Int32) (p2 : Int32) (Qr : Int32 → St → Prop) (hw : wp_work p1 p2 σ Qr) : Met l yX10_work (ws_ yX10_work cX10_work 6 (some .int)) rm_work (PcM D dA ad σ sz [.ref (ad 0), .int p1, .int p2]) (va_Qi Qr (BM D dA ad (AM dA ad σ sz)) (AM dA ad σ sz)) 0 0 (AM dA ad σ sz) := by
  refine Met.ofW (cc := cX10_work) (maxL := 6) (ret := (some .int)) (by decide) rfl ?_
  intro p e s m args below meth c s₁ B hml hv
  obtain ⟨rfl, hsz, hP, hK, hD0⟩ := hv
  subst hsz
  have hts0 := atoms_spec (ws := ws_ yX10_work cX10_work 6 (some .int)) B.pre
  have C : CxM p s m meth c _ (AM dA ad σ s.heap.size) RX10 cX10_work 6 (some .int) := ⟨B.exec, B.bytes, B.returns, B.notSynchronized, hml, findClass_of_methodNamed B.named, fun w h => hts0 w (List.mem_cons_of_mem _ h), fun q h => Or.inr h⟩
  have hM : wM D dA ad (AM dA ad σ s.heap.size) s σ s.heap [] := ⟨hK, hP, hD0.self, va_S.rf⟩
  have hx := C.1
  have hb := C.2.1
  have hown := C.2.2.2.2.2.1
  have hts := C.2.2.2.2.2.2.1
  have hl := lv_entry ([.ref (ad 0), .int p1, .int p2]) (n := 6) (Nat.le_of_ble_eq_true rfl)
  rw [lg_entry_eq]
  generalize (lg_sl ([.ref (ad 0), .int p1, .int p2]) ++ List.replicate (6 - (lg_sl ([.ref (ad 0), .int p1, .int p2])).length) Slot.unset).toArray = ls at hl ⊢
  have hl : lv_has ls 6 [(0, .ref (ad 0)), (1, .int p1), (2, .int p2)] := hl
  unfold wp_work at hw
  refine lv_aload_n hx hb dX10_work_0 rfl (lv_at hl 0 rfl) ?_
  refine lv_iload_n hx hb dX10_work_1 rfl (lv_at hl 1 rfl) ?_
  refine lv_if_lt (tgt := 30) hx hb dX10_work_2 (by decide) (fun hc => ?_) (fun hc => ?_)
  · have hw := hw.1 hc
    exact wk_work_30 C  p1 p2 σ _ _ ls hw hM (lv_sub hl [0, 1, 2] rfl)
  · have hw := hw.2 hc
    refine lv_iload_n hx hb dX10_work_5 rfl (lv_at hl 1 rfl) ?_
    refine lv_iconst (v := 2) hx hb dX10_work_6 (by decide) ?_
    refine lv_icmp_gt (tgt := 30) hx hb dX10_work_7 (by decide) (fun hc => ?_) (fun hc => ?_)
    · have hw := hw.1 hc
      exact wk_work_30 C  p1 p2 σ _ _ ls hw hM (lv_sub hl [0, 1, 2] rfl)
    · have hw := hw.2 hc
      refine lv_iload_n hx hb dX10_work_10 rfl (lv_at hl 2 rfl) ?_
      refine lv_if_lt (tgt := 30) hx hb dX10_work_11 (by decide) (fun hc => ?_) (fun hc => ?_)
      · have hw := hw.1 hc
        exact wk_work_30 C  p1 p2 σ _ _ ls hw hM (lv_sub hl [0, 1, 2] rfl)
      · have hw := hw.2 hc
        refine lv_iload_n hx hb dX10_work_14 rfl (lv_at hl 2 rfl) ?_
        refine lv_iload_n hx hb dX10_work_15 rfl (lv_at hl 1 rfl) ?_
        refine lv_iconst (v := 2) hx hb dX10_work_16 (by decide) ?_
        refine lv_icmp_ne (tgt := 25) hx hb dX10_work_17 (by decide) (fun hc => ?_) (fun hc => ?_)
        · have hw := hw.1 hc
          refine lv_bipush (v := 16) hx hb dX10_work_25 (by decide) ?_
          exact wk_work_27 C  p1 p2 p2 16 σ _ _ ls hw hM (lv_sub hl [0, 1, 2] rfl)
        · have hw := hw.2 hc
          refine lv_bipush (v := 10) hx hb dX10_work_20 (by decide) ?_
          refine lv_goto (tgt := 27) hx hb dX10_work_22 (by decide) ?_
          exact wk_work_27 C  p1 p2 p2 10 σ _ _ ls hw hM (lv_sub hl [0, 1, 2] rfl)
abbrev rm_at : Room := { frames := 1, cells := 0, slots := 0, locals := 21 }
set_option maxHeartbeats 4000000 in
theorem wk_at_87 {p : Program} {l : Launch} {e : Env} {s : State} {m : MethodId} {args : Array Value} {below : List Frame} {meth : Method} {c : Code} {D : va_G} {dA : Nat → ClassId} {ad : Nat → Nat} {σ0 : St} {sz : Nat} (C : CxM p s m meth c args (AM dA ad σ0 sz) RX10 cX10_at 5 (some .int)) {Qr : Int32 → St → Prop} : ∀ (u0 : Int32) (σ : St) (H : Heap) (locs : List Loc) (ls : Array Slot), wp_at_87 Qr u0 σ → wM D dA ad (AM dA ad σ0 sz) s σ H locs → lv_has ls 5 [(0, .ref (ad 0))] → W p l e rm_at s m args below meth c H locs 0 0 (MQ below (va_Qi Qr (BM D dA ad (AM dA ad σ0 sz)) (AM dA ad σ0 sz)) args s 0 0 (AM dA ad σ0 sz)) (F0 m 87 ls [.int u0]) := by
  intro u0 σ H locs ls hw hM hl
  have hx := C.1
  have hb := C.2.1
  have hown := C.2.2.2.2.2.1
  have hts := C.2.2.2.2.2.2.1
  unfold wp_at_87 at hw
  exact rM_iret C hM hw dX10_at_87
set_option maxHeartbeats 4000000 in
theorem wk_at_58 {p : Program} {l : Launch} {e : Env} {s : State} {m : MethodId} {args : Array Value} {below : List Frame} {meth : Method} {c : Code} {D : va_G} {dA : Nat → ClassId} {ad : Nat → Nat} {σ0 : St} {sz : Nat} (C : CxM p s m meth c args (AM dA ad σ0 sz) RX10 cX10_at 5 (some .int)) {Qr : Int32 → St → Prop} : ∀ (v1 : Int32) (v2 : Int32) (v3 : Int32) (v4 : Int32) (u1 : Int32) (σ : St) (H : Heap) (locs : List Loc) (ls : Array Slot), wp_at_58 Qr v1 v2 v3 v4 u1 σ → wM D dA ad (AM dA ad σ0 sz) s σ H locs → lv_has ls 5 [(0, .ref (ad 0)), (1, .int v1), (2, .int v2), (3, .int v3), (4, .int v4)] → W p l e rm_at s m args below meth c H locs 0 0 (MQ below (va_Qi Qr (BM D dA ad (AM dA ad σ0 sz)) (AM dA ad σ0 sz)) args s 0 0 (AM dA ad σ0 sz)) (F0 m 58 ls [.int u1, .ref (ad 0)]) := by
  intro v1 v2 v3 v4 u1 σ H locs ls hw hM hl
  have hx := C.1
  have hb := C.2.1
  have hown := C.2.2.2.2.2.1
  have hts := C.2.2.2.2.2.2.1
  unfold wp_at_58 at hw
  refine rM_putI C hM 0 (by decide) (fM_s0 dA ad σ _) q1390 rfl rfl (tyX10_ok 0 (by decide)) rfl rfl dX10_at_58 (fun σ1 H locs eσ hM => ?_)
  have hw := hw σ1 eσ
  clear eσ
  refine lv_iload hx hb dX10_at_61 (lv_at hl 4 rfl) ?_
  refine lv_if_eq (tgt := 86) hx hb dX10_at_63 (by decide) (fun hc => ?_) (fun hc => ?_)
  · have hw := hw.1 hc
    refine lv_iconst (v := 0) hx hb dX10_at_86 (by decide) ?_
    exact wk_at_87 C  0 σ1 _ _ ls hw hM (lv_sub hl [0] rfl)
  · have hw := hw.2 hc
    refine lv_aload_n hx hb dX10_at_66 rfl (lv_at hl 0 rfl) ?_
    refine rM_get C hM 23 (by decide) (fM_23 ad σ1) q1413 rfl dX10_at_67 ?_
    refine lv_sipush (v := 12000) hx hb dX10_at_70 (by decide) ?_
    refine lv_iload_n hx hb dX10_at_73 rfl (lv_at hl 1 rfl) ?_
    refine lv_imul hx hb dX10_at_74 ?_
    refine lv_bipush (v := 6) hx hb dX10_at_75 (by decide) ?_
    refine lv_iload_n hx hb dX10_at_77 rfl (lv_at hl 2 rfl) ?_
    refine lv_imul hx hb dX10_at_78 ?_
    refine lv_iadd hx hb dX10_at_79 ?_
    refine lv_iload_n hx hb dX10_at_80 rfl (lv_at hl 3 rfl) ?_
    refine lv_iadd hx hb dX10_at_81 ?_
    refine rM_bald C hM 23 13 (wM_23 dA ad σ1) hw.1 dX10_at_82 ?_
    have hw := hw.2
    refine lv_goto (tgt := 87) hx hb dX10_at_83 (by decide) ?_
    exact wk_at_87 C  ((gA σ1 23 (((12000 * v1) + (6 * v2)) + v3))) σ1 _ _ ls hw hM (lv_sub hl [0] rfl)
set_option maxHeartbeats 4000000 in
theorem wk_at_45 {p : Program} {l : Launch} {e : Env} {s : State} {m : MethodId} {args : Array Value} {below : List Frame} {meth : Method} {c : Code} {D : va_G} {dA : Nat → ClassId} {ad : Nat → Nat} {σ0 : St} {sz : Nat} (C : CxM p s m meth c args (AM dA ad σ0 sz) RX10 cX10_at 5 (some .int)) {Qr : Int32 → St → Prop} : ∀ (v1 : Int32) (v2 : Int32) (v3 : Int32) (u0 : Int32) (σ : St) (H : Heap) (locs : List Loc) (ls : Array Slot), wp_at_45 Qr v1 v2 v3 u0 σ → wM D dA ad (AM dA ad σ0 sz) s σ H locs → lv_has ls 5 [(0, .ref (ad 0)), (1, .int v1), (2, .int v2), (3, .int v3)] → W p l e rm_at s m args below meth c H locs 0 0 (MQ below (va_Qi Qr (BM D dA ad (AM dA ad σ0 sz)) (AM dA ad σ0 sz)) args s 0 0 (AM dA ad σ0 sz)) (F0 m 45 ls [.int u0]) := by
  intro v1 v2 v3 u0 σ H locs ls hw hM hl
  have hx := C.1
  have hb := C.2.1
  have hown := C.2.2.2.2.2.1
  have hts := C.2.2.2.2.2.2.1
  unfold wp_at_45 at hw
  refine lv_istore (lv' := [(4, .int u0), (0, .ref (ad 0)), (1, .int v1), (2, .int v2), (3, .int v3)]) hx hb dX10_at_45 hl (by decide) rfl (fun ls hl => ?_)
  refine lv_aload_n hx hb dX10_at_47 rfl (lv_at hl 1 rfl) ?_
  refine lv_iload hx hb dX10_at_48 (lv_at hl 0 rfl) ?_
  refine lv_if_eq (tgt := 57) hx hb dX10_at_50 (by decide) (fun hc => ?_) (fun hc => ?_)
  · have hw := hw.1 hc
    refine lv_iconst (v := 1) hx hb dX10_at_57 (by decide) ?_
    exact wk_at_58 C  v1 v2 v3 u0 1 σ _ _ ls hw hM (lv_sub hl [1, 2, 3, 4, 0] rfl)
  · have hw := hw.2 hc
    refine lv_iconst (v := 0) hx hb dX10_at_53 (by decide) ?_
    refine lv_goto (tgt := 58) hx hb dX10_at_54 (by decide) ?_
    exact wk_at_58 C  v1 v2 v3 u0 0 σ _ _ ls hw hM (lv_sub hl [1, 2, 3, 4, 0] rfl)
set_option maxHeartbeats 4000000 in
theorem wk_at_44 {p : Program} {l : Launch} {e : Env} {s : State} {m : MethodId} {args : Array Value} {below : List Frame} {meth : Method} {c : Code} {D : va_G} {dA : Nat → ClassId} {ad : Nat → Nat} {σ0 : St} {sz : Nat} (C : CxM p s m meth c args (AM dA ad σ0 sz) RX10 cX10_at 5 (some .int)) {Qr : Int32 → St → Prop} : ∀ (v1 : Int32) (v2 : Int32) (v3 : Int32) (σ : St) (H : Heap) (locs : List Loc) (ls : Array Slot), wp_at_44 Qr v1 v2 v3 σ → wM D dA ad (AM dA ad σ0 sz) s σ H locs → lv_has ls 5 [(0, .ref (ad 0)), (1, .int v1), (2, .int v2), (3, .int v3)] → W p l e rm_at s m args below meth c H locs 0 0 (MQ below (va_Qi Qr (BM D dA ad (AM dA ad σ0 sz)) (AM dA ad σ0 sz)) args s 0 0 (AM dA ad σ0 sz)) (F0 m 44 ls []) := by
  intro v1 v2 v3 σ H locs ls hw hM hl
  have hx := C.1
  have hb := C.2.1
  have hown := C.2.2.2.2.2.1
  have hts := C.2.2.2.2.2.2.1
  unfold wp_at_44 at hw
  refine lv_iconst (v := 0) hx hb dX10_at_44 (by decide) ?_
  exact wk_at_45 C  v1 v2 v3 0 σ _ _ ls hw hM (lv_sub hl [0, 1, 2, 3] rfl)
set_option maxHeartbeats 4000000 in
/-- public int at(int, int, int); -/
theorem mt_at (l : Launch) (D : va_G) (dA : Nat → ClassId) (ad : Nat → Nat) (sz : Nat) (σ : St) (p1 : Int32) (p2 : Int32) (p3 : Int32) (Qr : Int32 → St → Prop) (hw : wp_at p1 p2 p3 σ Qr) : Met l yX10_at (ws_ yX10_at cX10_at 5 (some .int)) rm_at (PcM D dA ad σ sz [.ref (ad 0), .int p1, .int p2, .int p3]) (va_Qi Qr (BM D dA ad (AM dA ad σ sz)) (AM dA ad σ sz)) 0 0 (AM dA ad σ sz) := by
  refine Met.ofW (cc := cX10_at) (maxL := 5) (ret := (some .int)) (by decide) rfl ?_
  intro p e s m args below meth c s₁ B hml hv
  obtain ⟨rfl, hsz, hP, hK, hD0⟩ := hv
  subst hsz
  have hts0 := atoms_spec (ws := ws_ yX10_at cX10_at 5 (some .int)) B.pre
  have C : CxM p s m meth c _ (AM dA ad σ s.heap.size) RX10 cX10_at 5 (some .int) := ⟨B.exec, B.bytes, B.returns, B.notSynchronized, hml, findClass_of_methodNamed B.named, fun w h => hts0 w (List.mem_cons_of_mem _ h), fun q h => Or.inr h⟩
  have hM : wM D dA ad (AM dA ad σ s.heap.size) s σ s.heap [] := ⟨hK, hP, hD0.self, va_S.rf⟩
  have hx := C.1
  have hb := C.2.1
  have hown := C.2.2.2.2.2.1
  have hts := C.2.2.2.2.2.2.1
  have hl := lv_entry ([.ref (ad 0), .int p1, .int p2, .int p3]) (n := 5) (Nat.le_of_ble_eq_true rfl)
  rw [lg_entry_eq]
  generalize (lg_sl ([.ref (ad 0), .int p1, .int p2, .int p3]) ++ List.replicate (5 - (lg_sl ([.ref (ad 0), .int p1, .int p2, .int p3])).length) Slot.unset).toArray = ls at hl ⊢
  have hl : lv_has ls 5 [(0, .ref (ad 0)), (1, .int p1), (2, .int p2), (3, .int p3)] := hl
  unfold wp_at at hw
  refine lv_iload_n hx hb dX10_at_0 rfl (lv_at hl 1 rfl) ?_
  refine lv_if_lt (tgt := 44) hx hb dX10_at_1 (by decide) (fun hc => ?_) (fun hc => ?_)
  · have hw := hw.1 hc
    exact wk_at_44 C  p1 p2 p3 σ _ _ ls hw hM (lv_sub hl [0, 1, 2, 3] rfl)
  · have hw := hw.2 hc
    refine lv_iload_n hx hb dX10_at_4 rfl (lv_at hl 1 rfl) ?_
    refine lv_iconst (v := 2) hx hb dX10_at_5 (by decide) ?_
    refine lv_icmp_gt (tgt := 44) hx hb dX10_at_6 (by decide) (fun hc => ?_) (fun hc => ?_)
    · have hw := hw.1 hc
      exact wk_at_44 C  p1 p2 p3 σ _ _ ls hw hM (lv_sub hl [0, 1, 2, 3] rfl)
    · have hw := hw.2 hc
      refine lv_aload_n hx hb dX10_at_9 rfl (lv_at hl 0 rfl) ?_
      refine lv_iload_n hx hb dX10_at_10 rfl (lv_at hl 3 rfl) ?_
      refine rM_callVi (n := 1) (As := [.int p3]) C hM hl.1 (mt_isColumn l D dA ad _ σ p3 _ hw) (lw_V q1614 q1616 qs63 q93 q1617) rfl rfl (by decide +kernel) ⟨Nat.le_of_ble_eq_true rfl, Nat.le_of_ble_eq_true rfl⟩ rfl (Nat.le_of_ble_eq_true rfl) ⟨Nat.zero_le _, Nat.zero_le _⟩ rfl dX10_at_11 (fun x2 σ1 H locs hw hM => ?_)
      refine lv_if_eq (tgt := 44) hx hb dX10_at_14 (by decide) (fun hc => ?_) (fun hc => ?_)
      · have hw := hw.1 hc
        exact wk_at_44 C  p1 p2 p3 σ1 _ _ ls hw hM (lv_sub hl [0, 1, 2, 3] rfl)
      · have hw := hw.2 hc
        refine lv_aload_n hx hb dX10_at_17 rfl (lv_at hl 0 rfl) ?_
        refine rM_get C hM 20 (by decide) (fM_20 ad σ1) q1410 rfl dX10_at_18 ?_
        refine lv_iload_n hx hb dX10_at_21 rfl (lv_at hl 1 rfl) ?_
        refine rM_zald C hM 20 10 (wM_20 dA ad σ1) hw.1 dX10_at_22 ?_
        have hw := hw.2
        refine lv_if_eq (tgt := 44) hx hb dX10_at_23 (by decide) (fun hc => ?_) (fun hc => ?_)
        · have hw := hw.1 hc
          exact wk_at_44 C  p1 p2 p3 σ1 _ _ ls hw hM (lv_sub hl [0, 1, 2, 3] rfl)
        · have hw := hw.2 hc
          refine lv_iload_n hx hb dX10_at_26 rfl (lv_at hl 2 rfl) ?_
          refine lv_if_lt (tgt := 44) hx hb dX10_at_27 (by decide) (fun hc => ?_) (fun hc => ?_)
          · have hw := hw.1 hc
            exact wk_at_44 C  p1 p2 p3 σ1 _ _ ls hw hM (lv_sub hl [0, 1, 2, 3] rfl)
          · have hw := hw.2 hc
            refine lv_iload_n hx hb dX10_at_30 rfl (lv_at hl 2 rfl) ?_
            refine lv_aload_n hx hb dX10_at_31 rfl (lv_at hl 0 rfl) ?_
            refine rM_get C hM 22 (by decide) (fM_22 ad σ1) q1412 rfl dX10_at_32 ?_
            refine lv_iload_n hx hb dX10_at_35 rfl (lv_at hl 1 rfl) ?_
            refine rM_iald C hM 22 12 (wM_22 dA ad σ1) hw.1 dX10_at_36 ?_
            have hw := hw.2
            refine lv_icmp_ge (tgt := 44) hx hb dX10_at_37 (by decide) (fun hc => ?_) (fun hc => ?_)
            · have hw := hw.1 hc
              exact wk_at_44 C  p1 p2 p3 σ1 _ _ ls hw hM (lv_sub hl [0, 1, 2, 3] rfl)
            · have hw := hw.2 hc
              refine lv_iconst (v := 1) hx hb dX10_at_40 (by decide) ?_
              refine lv_goto (tgt := 45) hx hb dX10_at_41 (by decide) ?_
              exact wk_at_45 C  p1 p2 p3 1 σ1 _ _ ls hw hM (lv_sub hl [0, 1, 2, 3] rfl)
abbrev rm_tell : Room := { frames := 1, cells := 0, slots := 0, locals := 21 }
set_option maxHeartbeats 4000000 in
theorem wk_tell_47 {p : Program} {l : Launch} {e : Env} {s : State} {m : MethodId} {args : Array Value} {below : List Frame} {meth : Method} {c : Code} {D : va_G} {dA : Nat → ClassId} {ad : Nat → Nat} {σ0 : St} {sz : Nat} (C : CxM p s m meth c args (AM dA ad σ0 sz) RX10 cX10_tell 3 none) {Qr : St → Prop} : ∀ (σ : St) (H : Heap) (locs : List Loc) (ls : Array Slot), wp_tell_47 Qr σ → wM D dA ad (AM dA ad σ0 sz) s σ H locs → lv_has ls 3 [(0, .ref (ad 0))] → W p l e rm_tell s m args below meth c H locs 0 0 (MQ below (va_Qv Qr (BM D dA ad (AM dA ad σ0 sz)) (AM dA ad σ0 sz)) args s 0 0 (AM dA ad σ0 sz)) (F0 m 47 ls []) := by
  intro σ H locs ls hw hM hl
  have hx := C.1
  have hb := C.2.1
  have hown := C.2.2.2.2.2.1
  have hts := C.2.2.2.2.2.2.1
  unfold wp_tell_47 at hw
  exact rM_vret C hM hw dX10_tell_47
set_option maxHeartbeats 4000000 in
theorem wk_tell_30 {p : Program} {l : Launch} {e : Env} {s : State} {m : MethodId} {args : Array Value} {below : List Frame} {meth : Method} {c : Code} {D : va_G} {dA : Nat → ClassId} {ad : Nat → Nat} {σ0 : St} {sz : Nat} (C : CxM p s m meth c args (AM dA ad σ0 sz) RX10 cX10_tell 3 none) {Qr : St → Prop} : ∀ (v1 : Int32) (v2 : Int32) (u1 : Int32) (σ : St) (H : Heap) (locs : List Loc) (ls : Array Slot), wp_tell_30 Qr v1 v2 u1 σ → wM D dA ad (AM dA ad σ0 sz) s σ H locs → lv_has ls 3 [(0, .ref (ad 0)), (1, .int v1), (2, .int v2)] → W p l e rm_tell s m args below meth c H locs 0 0 (MQ below (va_Qv Qr (BM D dA ad (AM dA ad σ0 sz)) (AM dA ad σ0 sz)) args s 0 0 (AM dA ad σ0 sz)) (F0 m 30 ls [.int u1, .ref (ad 0)]) := by
  intro v1 v2 u1 σ H locs ls hw hM hl
  have hx := C.1
  have hb := C.2.1
  have hown := C.2.2.2.2.2.1
  have hts := C.2.2.2.2.2.2.1
  unfold wp_tell_30 at hw
  refine rM_putI C hM 0 (by decide) (fM_s0 dA ad σ _) q1390 rfl rfl (tyX10_ok 0 (by decide)) rfl rfl dX10_tell_30 (fun σ1 H locs eσ hM => ?_)
  have hw := hw σ1 eσ
  clear eσ
  refine lv_aload_n hx hb dX10_tell_33 rfl (lv_at hl 0 rfl) ?_
  refine rM_get C hM 0 (by decide) (fM_0 ad σ1) q1390 rfl dX10_tell_34 ?_
  refine lv_if_ne (tgt := 47) hx hb dX10_tell_37 (by decide) (fun hc => ?_) (fun hc => ?_)
  · have hw := hw.1 hc
    exact wk_tell_47 C   σ1 _ _ ls hw hM (lv_sub hl [0] rfl)
  · have hw := hw.2 hc
    refine lv_aload_n hx hb dX10_tell_40 rfl (lv_at hl 0 rfl) ?_
    refine rM_get C hM 24 (by decide) (fM_24 ad σ1) q1414 rfl dX10_tell_41 ?_
    refine lv_iload_n hx hb dX10_tell_44 rfl (lv_at hl 1 rfl) ?_
    refine lv_iload_n hx hb dX10_tell_45 rfl (lv_at hl 2 rfl) ?_
    refine rM_iast C hM 24 14 (wM_24 dA ad σ1) (wM_s24 dA ad σ1 _ _) hw.1 dX10_tell_46 (fun σ2 H locs eσ hM => ?_)
    have hw := hw.2 σ2 eσ
    clear eσ
    exact wk_tell_47 C   σ2 _ _ ls hw hM (lv_sub hl [0] rfl)
set_option maxHeartbeats 4000000 in
theorem wk_tell_25 {p : Program} {l : Launch} {e : Env} {s : State} {m : MethodId} {args : Array Value} {below : List Frame} {meth : Method} {c : Code} {D : va_G} {dA : Nat → ClassId} {ad : Nat → Nat} {σ0 : St} {sz : Nat} (C : CxM p s m meth c args (AM dA ad σ0 sz) RX10 cX10_tell 3 none) {Qr : St → Prop} : ∀ (v1 : Int32) (v2 : Int32) (σ : St) (H : Heap) (locs : List Loc) (ls : Array Slot), wp_tell_25 Qr v1 v2 σ → wM D dA ad (AM dA ad σ0 sz) s σ H locs → lv_has ls 3 [(0, .ref (ad 0)), (1, .int v1), (2, .int v2)] → W p l e rm_tell s m args below meth c H locs 0 0 (MQ below (va_Qv Qr (BM D dA ad (AM dA ad σ0 sz)) (AM dA ad σ0 sz)) args s 0 0 (AM dA ad σ0 sz)) (F0 m 25 ls [.ref (ad 0)]) := by
  intro v1 v2 σ H locs ls hw hM hl
  have hx := C.1
  have hb := C.2.1
  have hown := C.2.2.2.2.2.1
  have hts := C.2.2.2.2.2.2.1
  unfold wp_tell_25 at hw
  refine lv_iconst (v := 2) hx hb dX10_tell_25 (by decide) ?_
  refine lv_goto (tgt := 30) hx hb dX10_tell_26 (by decide) ?_
  exact wk_tell_30 C  v1 v2 2 σ _ _ ls hw hM (lv_sub hl [0, 1, 2] rfl)
set_option maxHeartbeats 4000000 in
/-- public void tell(int, int); -/
theorem mt_tell (l : Launch) (D : va_G) (dA : Nat → ClassId) (ad : Nat → Nat) (sz : Nat) (σ : St) (p1 : Int32) (p2 : Int32) (Qr : St → Prop) (hw : wp_tell p1 p2 σ Qr) : Met l yX10_tell (ws_ yX10_tell cX10_tell 3 none) rm_tell (PcM D dA ad σ sz [.ref (ad 0), .int p1, .int p2]) (va_Qv Qr (BM D dA ad (AM dA ad σ sz)) (AM dA ad σ sz)) 0 0 (AM dA ad σ sz) := by
  refine Met.ofW (cc := cX10_tell) (maxL := 3) (ret := none) (by decide) rfl ?_
  intro p e s m args below meth c s₁ B hml hv
  obtain ⟨rfl, hsz, hP, hK, hD0⟩ := hv
  subst hsz
  have hts0 := atoms_spec (ws := ws_ yX10_tell cX10_tell 3 none) B.pre
  have C : CxM p s m meth c _ (AM dA ad σ s.heap.size) RX10 cX10_tell 3 none := ⟨B.exec, B.bytes, B.returns, B.notSynchronized, hml, findClass_of_methodNamed B.named, fun w h => hts0 w (List.mem_cons_of_mem _ h), fun q h => Or.inr h⟩
  have hM : wM D dA ad (AM dA ad σ s.heap.size) s σ s.heap [] := ⟨hK, hP, hD0.self, va_S.rf⟩
  have hx := C.1
  have hb := C.2.1
  have hown := C.2.2.2.2.2.1
  have hts := C.2.2.2.2.2.2.1
  have hl := lv_entry ([.ref (ad 0), .int p1, .int p2]) (n := 3) (Nat.le_of_ble_eq_true rfl)
  rw [lg_entry_eq]
  generalize (lg_sl ([.ref (ad 0), .int p1, .int p2]) ++ List.replicate (3 - (lg_sl ([.ref (ad 0), .int p1, .int p2])).length) Slot.unset).toArray = ls at hl ⊢
  have hl : lv_has ls 3 [(0, .ref (ad 0)), (1, .int p1), (2, .int p2)] := hl
  unfold wp_tell at hw
  refine lv_aload_n hx hb dX10_tell_0 rfl (lv_at hl 0 rfl) ?_
  refine lv_aload_n hx hb dX10_tell_1 rfl (lv_at hl 0 rfl) ?_
  refine lv_iload_n hx hb dX10_tell_2 rfl (lv_at hl 1 rfl) ?_
  refine rM_callVi (n := 1) (As := [.int p1]) C hM hl.1 (mt_isColumn l D dA ad _ σ p1 _ hw) (lw_V q1614 q1616 qs63 q93 q1617) rfl rfl (by decide +kernel) ⟨Nat.le_of_ble_eq_true rfl, Nat.le_of_ble_eq_true rfl⟩ rfl (Nat.le_of_ble_eq_true rfl) ⟨Nat.zero_le _, Nat.zero_le _⟩ rfl dX10_tell_3 (fun x2 σ1 H locs hw hM => ?_)
  refine lv_if_ne (tgt := 13) hx hb dX10_tell_6 (by decide) (fun hc => ?_) (fun hc => ?_)
  · have hw := hw.1 hc
    refine lv_iload_n hx hb dX10_tell_13 rfl (lv_at hl 2 rfl) ?_
    refine lv_bipush (v := (-99)) hx hb dX10_tell_14 (by decide) ?_
    refine lv_icmp_lt (tgt := 25) hx hb dX10_tell_16 (by decide) (fun hc => ?_) (fun hc => ?_)
    · have hw := hw.1 hc
      exact wk_tell_25 C  p1 p2 σ1 _ _ ls hw hM (lv_sub hl [0, 1, 2] rfl)
    · have hw := hw.2 hc
      refine lv_iload_n hx hb dX10_tell_19 rfl (lv_at hl 2 rfl) ?_
      refine lv_bipush (v := 99) hx hb dX10_tell_20 (by decide) ?_
      refine lv_icmp_le (tgt := 29) hx hb dX10_tell_22 (by decide) (fun hc => ?_) (fun hc => ?_)
      · have hw := hw.1 hc
        refine lv_iconst (v := 0) hx hb dX10_tell_29 (by decide) ?_
        exact wk_tell_30 C  p1 p2 0 σ1 _ _ ls hw hM (lv_sub hl [0, 1, 2] rfl)
      · have hw := hw.2 hc
        exact wk_tell_25 C  p1 p2 σ1 _ _ ls hw hM (lv_sub hl [0, 1, 2] rfl)
  · have hw := hw.2 hc
    refine lv_iconst (v := 1) hx hb dX10_tell_9 (by decide) ?_
    refine lv_goto (tgt := 30) hx hb dX10_tell_10 (by decide) ?_
    exact wk_tell_30 C  p1 p2 1 σ1 _ _ ls hw hM (lv_sub hl [0, 1, 2] rfl)
abbrev rm_solves_24 : Room := { frames := 0, cells := 0, slots := 0, locals := 0 }
set_option maxHeartbeats 4000000 in
theorem wk_solves_24_102 {p : Program} {l : Launch} {e : Env} {s : State} {m : MethodId} {args : Array Value} {below : List Frame} {meth : Method} {c : Code} {D : va_G} {dA : Nat → ClassId} {ad : Nat → Nat} {σ0 : St} {sz : Nat} (C : CxM p s m meth c args (AM dA ad σ0 sz) RX10 cX10_solves 7 (some .boolean)) {Qr : Int32 → St → Prop} : ∀ (v3 : Int32) (σ : St) (H : Heap) (locs : List Loc) (ls : Array Slot), wp_solves_24_102 Qr v3 σ → wM D dA ad (AM dA ad σ0 sz) s σ H locs → lv_has ls 7 [(0, .ref (ad 0)), (3, .int v3)] → W p l e rm_solves_24 s m args below meth c H locs 0 0 (MQ below (va_Qi Qr (BM D dA ad (AM dA ad σ0 sz)) (AM dA ad σ0 sz)) args s 0 0 (AM dA ad σ0 sz)) (F0 m 102 ls []) := by
  intro v3 σ H locs ls hw hM hl
  have hx := C.1
  have hb := C.2.1
  have hown := C.2.2.2.2.2.1
  have hts := C.2.2.2.2.2.2.1
  unfold wp_solves_24_102 at hw
  refine lv_iload_n hx hb dX10_solves_102 rfl (lv_at hl 1 rfl) ?_
  exact rM_zret C hM hw dX10_solves_103
set_option maxHeartbeats 4000000 in
theorem wk_solves_24_95 {p : Program} {l : Launch} {e : Env} {s : State} {m : MethodId} {args : Array Value} {below : List Frame} {meth : Method} {c : Code} {D : va_G} {dA : Nat → ClassId} {ad : Nat → Nat} {σ0 : St} {sz : Nat} (C : CxM p s m meth c args (AM dA ad σ0 sz) RX10 cX10_solves 7 (some .boolean)) {Qr : Int32 → St → Prop} {K5 : Int32 → Int32 → Int32 → St → Prop} (hK5 : ∀ (v2 : Int32) (v3 : Int32) (v4 : Int32) (σ : St) (H : Heap) (locs : List Loc) (ls : Array Slot), K5 v2 v3 v4 σ → wM D dA ad (AM dA ad σ0 sz) s σ H locs → lv_has ls 7 [(0, .ref (ad 0)), (1, .ref (ad 24)), (2, .int v2), (3, .int v3), (4, .int v4)] → W p l e rm_solves_24 s m args below meth c H locs 0 0 (MQ below (va_Qi Qr (BM D dA ad (AM dA ad σ0 sz)) (AM dA ad σ0 sz)) args s 0 0 (AM dA ad σ0 sz)) (F0 m 5 ls [])) : ∀ (v2 : Int32) (v4 : Int32) (u0 : Int32) (σ : St) (H : Heap) (locs : List Loc) (ls : Array Slot), wp_solves_24_95 Qr K5 v2 v4 u0 σ → wM D dA ad (AM dA ad σ0 sz) s σ H locs → lv_has ls 7 [(0, .ref (ad 0)), (1, .ref (ad 24)), (2, .int v2), (4, .int v4)] → W p l e rm_solves_24 s m args below meth c H locs 0 0 (MQ below (va_Qi Qr (BM D dA ad (AM dA ad σ0 sz)) (AM dA ad σ0 sz)) args s 0 0 (AM dA ad σ0 sz)) (F0 m 95 ls [.int u0]) := by
  intro v2 v4 u0 σ H locs ls hw hM hl
  have hx := C.1
  have hb := C.2.1
  have hown := C.2.2.2.2.2.1
  have hts := C.2.2.2.2.2.2.1
  unfold wp_solves_24_95 at hw
  refine lv_istore_n (lv' := [(3, .int u0), (0, .ref (ad 0)), (1, .ref (ad 24)), (2, .int v2), (4, .int v4)]) hx hb dX10_solves_95 rfl hl (by decide) rfl (fun ls hl => ?_)
  obtain ⟨x1, ex1⟩ : ∃ y : Int32, y = v4 + 1 := ⟨_, rfl⟩
  have hw := hw x1 ex1
  refine lv_iinc (v := x1) (lv' := [(4, .int x1), (3, .int u0), (0, .ref (ad 0)), (1, .ref (ad 24)), (2, .int v2)]) hx hb dX10_solves_96 hl (k := 4) rfl (by rw [ex1]; rfl) (by decide) rfl (fun ls hl => ?_)
  refine lv_goto (tgt := 5) hx hb dX10_solves_99 (by decide) ?_
  exact hK5 v2 u0 x1 σ _ _ ls hw hM (lv_sub hl [2, 3, 4, 1, 0] rfl)
set_option maxHeartbeats 4000000 in
theorem wk_solves_24_87 {p : Program} {l : Launch} {e : Env} {s : State} {m : MethodId} {args : Array Value} {below : List Frame} {meth : Method} {c : Code} {D : va_G} {dA : Nat → ClassId} {ad : Nat → Nat} {σ0 : St} {sz : Nat} (C : CxM p s m meth c args (AM dA ad σ0 sz) RX10 cX10_solves 7 (some .boolean)) {Qr : Int32 → St → Prop} {K5 : Int32 → Int32 → Int32 → St → Prop} (hK5 : ∀ (v2 : Int32) (v3 : Int32) (v4 : Int32) (σ : St) (H : Heap) (locs : List Loc) (ls : Array Slot), K5 v2 v3 v4 σ → wM D dA ad (AM dA ad σ0 sz) s σ H locs → lv_has ls 7 [(0, .ref (ad 0)), (1, .ref (ad 24)), (2, .int v2), (3, .int v3), (4, .int v4)] → W p l e rm_solves_24 s m args below meth c H locs 0 0 (MQ below (va_Qi Qr (BM D dA ad (AM dA ad σ0 sz)) (AM dA ad σ0 sz)) args s 0 0 (AM dA ad σ0 sz)) (F0 m 5 ls [])) : ∀ (v2 : Int32) (v4 : Int32) (u0 : Int32) (u1 : Int32) (σ : St) (H : Heap) (locs : List Loc) (ls : Array Slot), wp_solves_24_87 Qr K5 v2 v4 u0 u1 σ → wM D dA ad (AM dA ad σ0 sz) s σ H locs → lv_has ls 7 [(0, .ref (ad 0)), (1, .ref (ad 24)), (2, .int v2), (4, .int v4)] → W p l e rm_solves_24 s m args below meth c H locs 0 0 (MQ below (va_Qi Qr (BM D dA ad (AM dA ad σ0 sz)) (AM dA ad σ0 sz)) args s 0 0 (AM dA ad σ0 sz)) (F0 m 87 ls [.int u1, .int u0]) := by
  intro v2 v4 u0 u1 σ H locs ls hw hM hl
  have hx := C.1
  have hb := C.2.1
  have hown := C.2.2.2.2.2.1
  have hts := C.2.2.2.2.2.2.1
  unfold wp_solves_24_87 at hw
  refine lv_icmp_ne (tgt := 94) hx hb dX10_solves_87 (by decide) (fun hc => ?_) (fun hc => ?_)
  · have hw := hw.1 hc
    refine lv_iconst (v := 0) hx hb dX10_solves_94 (by decide) ?_
    exact wk_solves_24_95 C hK5 v2 v4 0 σ _ _ ls hw hM (lv_sub hl [0, 1, 2, 3] rfl)
  · have hw := hw.2 hc
    refine lv_iconst (v := 1) hx hb dX10_solves_90 (by decide) ?_
    refine lv_goto (tgt := 95) hx hb dX10_solves_91 (by decide) ?_
    exact wk_solves_24_95 C hK5 v2 v4 1 σ _ _ ls hw hM (lv_sub hl [0, 1, 2, 3] rfl)
set_option maxHeartbeats 4000000 in
theorem wk_solves_24_24 {p : Program} {l : Launch} {e : Env} {s : State} {m : MethodId} {args : Array Value} {below : List Frame} {meth : Method} {c : Code} {D : va_G} {dA : Nat → ClassId} {ad : Nat → Nat} {σ0 : St} {sz : Nat} (C : CxM p s m meth c args (AM dA ad σ0 sz) RX10 cX10_solves 7 (some .boolean)) {Qr : Int32 → St → Prop} {K5 : Int32 → Int32 → Int32 → St → Prop} (hK5 : ∀ (v2 : Int32) (v3 : Int32) (v4 : Int32) (σ : St) (H : Heap) (locs : List Loc) (ls : Array Slot), K5 v2 v3 v4 σ → wM D dA ad (AM dA ad σ0 sz) s σ H locs → lv_has ls 7 [(0, .ref (ad 0)), (1, .ref (ad 24)), (2, .int v2), (3, .int v3), (4, .int v4)] → W p l e rm_solves_24 s m args below meth c H locs 0 0 (MQ below (va_Qi Qr (BM D dA ad (AM dA ad σ0 sz)) (AM dA ad σ0 sz)) args s 0 0 (AM dA ad σ0 sz)) (F0 m 5 ls [])) : ∀ (n : Nat) (v2 : Int32) (v4 : Int32) (v5 : Int32) (v6 : Int32) (σ : St) (H : Heap) (locs : List Loc) (ls : Array Slot), wp_solves_24_24 Qr K5 n v2 v4 v5 v6 σ → wM D dA ad (AM dA ad σ0 sz) s σ H locs → lv_has ls 7 [(0, .ref (ad 0)), (1, .ref (ad 24)), (2, .int v2), (4, .int v4), (5, .int v5), (6, .int v6)] → W p l e rm_solves_24 s m args below meth c H locs 0 0 (MQ below (va_Qi Qr (BM D dA ad (AM dA ad σ0 sz)) (AM dA ad σ0 sz)) args s 0 0 (AM dA ad σ0 sz)) (F0 m 24 ls []) := by
  intro n
  induction n with
  | zero => intro v2 v4 v5 v6 σ H locs ls hw; exact hw.elim
  | succ n24 ih =>
    intro v2 v4 v5 v6 σ H locs ls hw hM hl
    have hx := C.1
    have hb := C.2.1
    have hown := C.2.2.2.2.2.1
    have hts := C.2.2.2.2.2.2.1
    unfold wp_solves_24_24 at hw
    refine lv_iload hx hb dX10_solves_24 (lv_at hl 5 rfl) ?_
    refine lv_aload_n hx hb dX10_solves_26 rfl (lv_at hl 0 rfl) ?_
    refine rM_get C hM 17 (by decide) (fM_17 ad σ) q1407 rfl dX10_solves_27 ?_
    refine lv_icmp_ge (tgt := 62) hx hb dX10_solves_30 (by decide) (fun hc => ?_) (fun hc => ?_)
    · have hw := hw.1 hc
      refine lv_iload hx hb dX10_solves_62 (lv_at hl 4 rfl) ?_
      refine lv_iload_n hx hb dX10_solves_64 rfl (lv_at hl 2 rfl) ?_
      refine lv_if_eq (tgt := 86) hx hb dX10_solves_65 (by decide) (fun hc => ?_) (fun hc => ?_)
      · have hw := hw.1 hc
        refine lv_iconst (v := 0) hx hb dX10_solves_86 (by decide) ?_
        exact wk_solves_24_87 C hK5 v2 v4 v5 0 σ _ _ ls hw hM (lv_sub hl [0, 1, 2, 3] rfl)
      · have hw := hw.2 hc
        refine lv_aload_n hx hb dX10_solves_68 rfl (lv_at hl 0 rfl) ?_
        refine rM_get C hM 19 (by decide) (fM_19 ad σ) q1409 rfl dX10_solves_69 ?_
        refine lv_bipush (v := 7) hx hb dX10_solves_72 (by decide) ?_
        refine lv_iload hx hb dX10_solves_74 (lv_at hl 3 rfl) ?_
        refine lv_imul hx hb dX10_solves_76 ?_
        refine lv_aload_n hx hb dX10_solves_77 rfl (lv_at hl 0 rfl) ?_
        refine rM_get C hM 17 (by decide) (fM_17 ad σ) q1407 rfl dX10_solves_78 ?_
        refine lv_iadd hx hb dX10_solves_81 ?_
        refine rM_iald C hM 19 9 (wM_19 dA ad σ) hw.1 dX10_solves_82 ?_
        have hw := hw.2
        refine lv_goto (tgt := 87) hx hb dX10_solves_83 (by decide) ?_
        exact wk_solves_24_87 C hK5 v2 v4 v5 ((gA σ 19 ((7 * v4) + (gI σ 17)))) σ _ _ ls hw hM (lv_sub hl [0, 1, 2, 3] rfl)
    · have hw := hw.2 hc
      refine lv_iload hx hb dX10_solves_33 (lv_at hl 4 rfl) ?_
      refine lv_aload_n hx hb dX10_solves_35 rfl (lv_at hl 0 rfl) ?_
      refine rM_get C hM 19 (by decide) (fM_19 ad σ) q1409 rfl dX10_solves_36 ?_
      refine lv_bipush (v := 7) hx hb dX10_solves_39 (by decide) ?_
      refine lv_iload hx hb dX10_solves_41 (lv_at hl 3 rfl) ?_
      refine lv_imul hx hb dX10_solves_43 ?_
      refine lv_iload hx hb dX10_solves_44 (lv_at hl 5 rfl) ?_
      refine lv_iadd hx hb dX10_solves_46 ?_
      refine rM_iald C hM 19 9 (wM_19 dA ad σ) hw.1 dX10_solves_47 ?_
      have hw := hw.2
      refine lv_aload_n hx hb dX10_solves_48 rfl (lv_at hl 1 rfl) ?_
      refine lv_iload hx hb dX10_solves_49 (lv_at hl 5 rfl) ?_
      refine rM_iald C hM 24 14 (wM_24 dA ad σ) hw.1 dX10_solves_51 ?_
      have hw := hw.2
      refine lv_imul hx hb dX10_solves_52 ?_
      refine lv_iadd hx hb dX10_solves_53 ?_
      refine lv_topi (fun x1 ex1 => ?_)
      have hw := hw x1 ex1
      refine lv_istore (lv' := [(5, .int x1), (0, .ref (ad 0)), (1, .ref (ad 24)), (2, .int v2), (4, .int v4), (6, .int v6)]) hx hb dX10_solves_54 hl (by decide) rfl (fun ls hl => ?_)
      obtain ⟨x2, ex2⟩ : ∃ y : Int32, y = v6 + 1 := ⟨_, rfl⟩
      have hw := hw x2 ex2
      refine lv_iinc (v := x2) (lv' := [(6, .int x2), (5, .int x1), (0, .ref (ad 0)), (1, .ref (ad 24)), (2, .int v2), (4, .int v4)]) hx hb dX10_solves_56 hl (k := 5) rfl (by rw [ex2]; rfl) (by decide) rfl (fun ls hl => ?_)
      refine lv_goto (tgt := 24) hx hb dX10_solves_59 (by decide) ?_
      exact ih v2 v4 x1 x2 σ _ _ ls hw hM (lv_sub hl [2, 3, 4, 5, 1, 0] rfl)
set_option maxHeartbeats 4000000 in
theorem wk_solves_24_5 {p : Program} {l : Launch} {e : Env} {s : State} {m : MethodId} {args : Array Value} {below : List Frame} {meth : Method} {c : Code} {D : va_G} {dA : Nat → ClassId} {ad : Nat → Nat} {σ0 : St} {sz : Nat} (C : CxM p s m meth c args (AM dA ad σ0 sz) RX10 cX10_solves 7 (some .boolean)) {Qr : Int32 → St → Prop} : ∀ (n : Nat) (v2 : Int32) (v3 : Int32) (v4 : Int32) (σ : St) (H : Heap) (locs : List Loc) (ls : Array Slot), wp_solves_24_5 Qr n v2 v3 v4 σ → wM D dA ad (AM dA ad σ0 sz) s σ H locs → lv_has ls 7 [(0, .ref (ad 0)), (1, .ref (ad 24)), (2, .int v2), (3, .int v3), (4, .int v4)] → W p l e rm_solves_24 s m args below meth c H locs 0 0 (MQ below (va_Qi Qr (BM D dA ad (AM dA ad σ0 sz)) (AM dA ad σ0 sz)) args s 0 0 (AM dA ad σ0 sz)) (F0 m 5 ls []) := by
  intro n
  induction n with
  | zero => intro v2 v3 v4 σ H locs ls hw; exact hw.elim
  | succ n5 ih =>
    intro v2 v3 v4 σ H locs ls hw hM hl
    have hx := C.1
    have hb := C.2.1
    have hown := C.2.2.2.2.2.1
    have hts := C.2.2.2.2.2.2.1
    unfold wp_solves_24_5 at hw
    refine lv_iload hx hb dX10_solves_5 (lv_at hl 4 rfl) ?_
    refine lv_aload_n hx hb dX10_solves_7 rfl (lv_at hl 0 rfl) ?_
    refine rM_get C hM 15 (by decide) (fM_15 ad σ) q1405 rfl dX10_solves_8 ?_
    refine lv_icmp_ge (tgt := 102) hx hb dX10_solves_11 (by decide) (fun hc => ?_) (fun hc => ?_)
    · have hw := hw.1 hc
      exact wk_solves_24_102 C  v3 σ _ _ ls hw hM (lv_sub hl [0, 3] rfl)
    · have hw := hw.2 hc
      refine lv_iload_n hx hb dX10_solves_14 rfl (lv_at hl 3 rfl) ?_
      refine lv_if_eq (tgt := 102) hx hb dX10_solves_15 (by decide) (fun hc => ?_) (fun hc => ?_)
      · have hw := hw.1 hc
        exact wk_solves_24_102 C  v3 σ _ _ ls hw hM (lv_sub hl [0, 3] rfl)
      · have hw := hw.2 hc
        refine lv_iconst (v := 0) hx hb dX10_solves_18 (by decide) ?_
        refine lv_istore (lv' := [(5, .int 0), (0, .ref (ad 0)), (1, .ref (ad 24)), (2, .int v2), (3, .int v3), (4, .int v4)]) hx hb dX10_solves_19 hl (by decide) rfl (fun ls hl => ?_)
        refine lv_iconst (v := 0) hx hb dX10_solves_21 (by decide) ?_
        refine lv_istore (lv' := [(6, .int 0), (5, .int 0), (0, .ref (ad 0)), (1, .ref (ad 24)), (2, .int v2), (3, .int v3), (4, .int v4)]) hx hb dX10_solves_22 hl (by decide) rfl (fun ls hl => ?_)
        obtain ⟨n24, hw⟩ := hw
        exact wk_solves_24_24 C ih n24 v2 v4 0 0 σ _ _ ls hw hM (lv_sub hl [2, 3, 4, 6, 1, 0] rfl)
set_option maxHeartbeats 4000000 in
/-- private boolean solves(int[], boolean); -/
theorem mt_solves_24 (l : Launch) (D : va_G) (dA : Nat → ClassId) (ad : Nat → Nat) (sz : Nat) (σ : St) (p2 : Int32) (Qr : Int32 → St → Prop) (hw : wp_solves_24 p2 σ Qr) : Met l yX10_solves (ws_ yX10_solves cX10_solves 7 (some .boolean)) rm_solves_24 (PcM D dA ad σ sz [.ref (ad 0), .ref (ad 24), .int p2]) (va_Qi Qr (BM D dA ad (AM dA ad σ sz)) (AM dA ad σ sz)) 0 0 (AM dA ad σ sz) := by
  refine Met.ofW (cc := cX10_solves) (maxL := 7) (ret := (some .boolean)) (by decide) rfl ?_
  intro p e s m args below meth c s₁ B hml hv
  obtain ⟨rfl, hsz, hP, hK, hD0⟩ := hv
  subst hsz
  have hts0 := atoms_spec (ws := ws_ yX10_solves cX10_solves 7 (some .boolean)) B.pre
  have C : CxM p s m meth c _ (AM dA ad σ s.heap.size) RX10 cX10_solves 7 (some .boolean) := ⟨B.exec, B.bytes, B.returns, B.notSynchronized, hml, findClass_of_methodNamed B.named, fun w h => hts0 w (List.mem_cons_of_mem _ h), fun q h => Or.inr h⟩
  have hM : wM D dA ad (AM dA ad σ s.heap.size) s σ s.heap [] := ⟨hK, hP, hD0.self, va_S.rf⟩
  have hx := C.1
  have hb := C.2.1
  have hown := C.2.2.2.2.2.1
  have hts := C.2.2.2.2.2.2.1
  have hl := lv_entry ([.ref (ad 0), .ref (ad 24), .int p2]) (n := 7) (Nat.le_of_ble_eq_true rfl)
  rw [lg_entry_eq]
  generalize (lg_sl ([.ref (ad 0), .ref (ad 24), .int p2]) ++ List.replicate (7 - (lg_sl ([.ref (ad 0), .ref (ad 24), .int p2])).length) Slot.unset).toArray = ls at hl ⊢
  have hl : lv_has ls 7 [(0, .ref (ad 0)), (1, .ref (ad 24)), (2, .int p2)] := hl
  unfold wp_solves_24 at hw
  refine lv_iconst (v := 1) hx hb dX10_solves_0 (by decide) ?_
  refine lv_istore_n (lv' := [(3, .int 1), (0, .ref (ad 0)), (1, .ref (ad 24)), (2, .int p2)]) hx hb dX10_solves_1 rfl hl (by decide) rfl (fun ls hl => ?_)
  refine lv_iconst (v := 0) hx hb dX10_solves_2 (by decide) ?_
  refine lv_istore (lv' := [(4, .int 0), (3, .int 1), (0, .ref (ad 0)), (1, .ref (ad 24)), (2, .int p2)]) hx hb dX10_solves_3 hl (by decide) rfl (fun ls hl => ?_)
  obtain ⟨n5, hw⟩ := hw
  exact wk_solves_24_5 C  n5 p2 1 0 σ _ _ ls hw hM (lv_sub hl [2, 3, 4, 1, 0] rfl)
abbrev rm_isPlain : Room := { frames := 0, cells := 0, slots := 0, locals := 0 }
set_option maxHeartbeats 4000000 in
theorem wk_isPlain_30 {p : Program} {l : Launch} {e : Env} {s : State} {m : MethodId} {args : Array Value} {below : List Frame} {meth : Method} {c : Code} {D : va_G} {dA : Nat → ClassId} {ad : Nat → Nat} {σ0 : St} {sz : Nat} (C : CxM p s m meth c args (AM dA ad σ0 sz) RX10 cX10_isPlain 3 (some .boolean)) {Qr : Int32 → St → Prop} {K4 : Int32 → Int32 → St → Prop} (hK4 : ∀ (v1 : Int32) (v2 : Int32) (σ : St) (H : Heap) (locs : List Loc) (ls : Array Slot), K4 v1 v2 σ → wM D dA ad (AM dA ad σ0 sz) s σ H locs → lv_has ls 3 [(0, .ref (ad 0)), (1, .int v1), (2, .int v2)] → W p l e rm_isPlain s m args below meth c H locs 0 0 (MQ below (va_Qi Qr (BM D dA ad (AM dA ad σ0 sz)) (AM dA ad σ0 sz)) args s 0 0 (AM dA ad σ0 sz)) (F0 m 4 ls [])) : ∀ (v2 : Int32) (u0 : Int32) (σ : St) (H : Heap) (locs : List Loc) (ls : Array Slot), wp_isPlain_30 Qr K4 v2 u0 σ → wM D dA ad (AM dA ad σ0 sz) s σ H locs → lv_has ls 3 [(0, .ref (ad 0)), (2, .int v2)] → W p l e rm_isPlain s m args below meth c H locs 0 0 (MQ below (va_Qi Qr (BM D dA ad (AM dA ad σ0 sz)) (AM dA ad σ0 sz)) args s 0 0 (AM dA ad σ0 sz)) (F0 m 30 ls [.int u0]) := by
  intro v2 u0 σ H locs ls hw hM hl
  have hx := C.1
  have hb := C.2.1
  have hown := C.2.2.2.2.2.1
  have hts := C.2.2.2.2.2.2.1
  unfold wp_isPlain_30 at hw
  refine lv_istore_n (lv' := [(1, .int u0), (0, .ref (ad 0)), (2, .int v2)]) hx hb dX10_isPlain_30 rfl hl (by decide) rfl (fun ls hl => ?_)
  obtain ⟨x1, ex1⟩ : ∃ y : Int32, y = v2 + 1 := ⟨_, rfl⟩
  have hw := hw x1 ex1
  refine lv_iinc (v := x1) (lv' := [(2, .int x1), (1, .int u0), (0, .ref (ad 0))]) hx hb dX10_isPlain_31 hl (k := 2) rfl (by rw [ex1]; rfl) (by decide) rfl (fun ls hl => ?_)
  refine lv_goto (tgt := 4) hx hb dX10_isPlain_34 (by decide) ?_
  exact hK4 u0 x1 σ _ _ ls hw hM (lv_sub hl [2, 1, 0] rfl)
set_option maxHeartbeats 4000000 in
theorem wk_isPlain_29 {p : Program} {l : Launch} {e : Env} {s : State} {m : MethodId} {args : Array Value} {below : List Frame} {meth : Method} {c : Code} {D : va_G} {dA : Nat → ClassId} {ad : Nat → Nat} {σ0 : St} {sz : Nat} (C : CxM p s m meth c args (AM dA ad σ0 sz) RX10 cX10_isPlain 3 (some .boolean)) {Qr : Int32 → St → Prop} {K4 : Int32 → Int32 → St → Prop} (hK4 : ∀ (v1 : Int32) (v2 : Int32) (σ : St) (H : Heap) (locs : List Loc) (ls : Array Slot), K4 v1 v2 σ → wM D dA ad (AM dA ad σ0 sz) s σ H locs → lv_has ls 3 [(0, .ref (ad 0)), (1, .int v1), (2, .int v2)] → W p l e rm_isPlain s m args below meth c H locs 0 0 (MQ below (va_Qi Qr (BM D dA ad (AM dA ad σ0 sz)) (AM dA ad σ0 sz)) args s 0 0 (AM dA ad σ0 sz)) (F0 m 4 ls [])) : ∀ (v2 : Int32) (σ : St) (H : Heap) (locs : List Loc) (ls : Array Slot), wp_isPlain_29 Qr K4 v2 σ → wM D dA ad (AM dA ad σ0 sz) s σ H locs → lv_has ls 3 [(0, .ref (ad 0)), (2, .int v2)] → W p l e rm_isPlain s m args below meth c H locs 0 0 (MQ below (va_Qi Qr (BM D dA ad (AM dA ad σ0 sz)) (AM dA ad σ0 sz)) args s 0 0 (AM dA ad σ0 sz)) (F0 m 29 ls []) := by
  intro v2 σ H locs ls hw hM hl
  have hx := C.1
  have hb := C.2.1
  have hown := C.2.2.2.2.2.1
  have hts := C.2.2.2.2.2.2.1
  unfold wp_isPlain_29 at hw
  refine lv_iconst (v := 0) hx hb dX10_isPlain_29 (by decide) ?_
  exact wk_isPlain_30 C hK4 v2 0 σ _ _ ls hw hM (lv_sub hl [0, 1] rfl)
set_option maxHeartbeats 4000000 in
theorem wk_isPlain_4 {p : Program} {l : Launch} {e : Env} {s : State} {m : MethodId} {args : Array Value} {below : List Frame} {meth : Method} {c : Code} {D : va_G} {dA : Nat → ClassId} {ad : Nat → Nat} {σ0 : St} {sz : Nat} (C : CxM p s m meth c args (AM dA ad σ0 sz) RX10 cX10_isPlain 3 (some .boolean)) {Qr : Int32 → St → Prop} : ∀ (n : Nat) (v1 : Int32) (v2 : Int32) (σ : St) (H : Heap) (locs : List Loc) (ls : Array Slot), wp_isPlain_4 Qr n v1 v2 σ → wM D dA ad (AM dA ad σ0 sz) s σ H locs → lv_has ls 3 [(0, .ref (ad 0)), (1, .int v1), (2, .int v2)] → W p l e rm_isPlain s m args below meth c H locs 0 0 (MQ below (va_Qi Qr (BM D dA ad (AM dA ad σ0 sz)) (AM dA ad σ0 sz)) args s 0 0 (AM dA ad σ0 sz)) (F0 m 4 ls []) := by
  intro n
  induction n with
  | zero => intro v1 v2 σ H locs ls hw; exact hw.elim
  | succ n4 ih =>
    intro v1 v2 σ H locs ls hw hM hl
    have hx := C.1
    have hb := C.2.1
    have hown := C.2.2.2.2.2.1
    have hts := C.2.2.2.2.2.2.1
    unfold wp_isPlain_4 at hw
    refine lv_iload_n hx hb dX10_isPlain_4 rfl (lv_at hl 2 rfl) ?_
    refine lv_aload_n hx hb dX10_isPlain_5 rfl (lv_at hl 0 rfl) ?_
    refine rM_get C hM 17 (by decide) (fM_17 ad σ) q1407 rfl dX10_isPlain_6 ?_
    refine lv_icmp_ge (tgt := 37) hx hb dX10_isPlain_9 (by decide) (fun hc => ?_) (fun hc => ?_)
    · have hw := hw.1 hc
      refine lv_iload_n hx hb dX10_isPlain_37 rfl (lv_at hl 1 rfl) ?_
      exact rM_zret C hM hw dX10_isPlain_38
    · have hw := hw.2 hc
      refine lv_iload_n hx hb dX10_isPlain_12 rfl (lv_at hl 1 rfl) ?_
      refine lv_if_eq (tgt := 29) hx hb dX10_isPlain_13 (by decide) (fun hc => ?_) (fun hc => ?_)
      · have hw := hw.1 hc
        exact wk_isPlain_29 C ih v2 σ _ _ ls hw hM (lv_sub hl [0, 2] rfl)
      · have hw := hw.2 hc
        refine lv_aload_n hx hb dX10_isPlain_16 rfl (lv_at hl 0 rfl) ?_
        refine rM_get C hM 24 (by decide) (fM_24 ad σ) q1414 rfl dX10_isPlain_17 ?_
        refine lv_iload_n hx hb dX10_isPlain_20 rfl (lv_at hl 2 rfl) ?_
        refine rM_iald C hM 24 14 (wM_24 dA ad σ) hw.1 dX10_isPlain_21 ?_
        have hw := hw.2
        refine lv_if_lt (tgt := 29) hx hb dX10_isPlain_22 (by decide) (fun hc => ?_) (fun hc => ?_)
        · have hw := hw.1 hc
          exact wk_isPlain_29 C ih v2 σ _ _ ls hw hM (lv_sub hl [0, 2] rfl)
        · have hw := hw.2 hc
          refine lv_iconst (v := 1) hx hb dX10_isPlain_25 (by decide) ?_
          refine lv_goto (tgt := 30) hx hb dX10_isPlain_26 (by decide) ?_
          exact wk_isPlain_30 C ih v2 1 σ _ _ ls hw hM (lv_sub hl [0, 2] rfl)
set_option maxHeartbeats 4000000 in
/-- private boolean isPlain(); -/
theorem mt_isPlain (l : Launch) (D : va_G) (dA : Nat → ClassId) (ad : Nat → Nat) (sz : Nat) (σ : St) (Qr : Int32 → St → Prop) (hw : wp_isPlain  σ Qr) : Met l yX10_isPlain (ws_ yX10_isPlain cX10_isPlain 3 (some .boolean)) rm_isPlain (PcM D dA ad σ sz [.ref (ad 0)]) (va_Qi Qr (BM D dA ad (AM dA ad σ sz)) (AM dA ad σ sz)) 0 0 (AM dA ad σ sz) := by
  refine Met.ofW (cc := cX10_isPlain) (maxL := 3) (ret := (some .boolean)) (by decide) rfl ?_
  intro p e s m args below meth c s₁ B hml hv
  obtain ⟨rfl, hsz, hP, hK, hD0⟩ := hv
  subst hsz
  have hts0 := atoms_spec (ws := ws_ yX10_isPlain cX10_isPlain 3 (some .boolean)) B.pre
  have C : CxM p s m meth c _ (AM dA ad σ s.heap.size) RX10 cX10_isPlain 3 (some .boolean) := ⟨B.exec, B.bytes, B.returns, B.notSynchronized, hml, findClass_of_methodNamed B.named, fun w h => hts0 w (List.mem_cons_of_mem _ h), fun q h => Or.inr h⟩
  have hM : wM D dA ad (AM dA ad σ s.heap.size) s σ s.heap [] := ⟨hK, hP, hD0.self, va_S.rf⟩
  have hx := C.1
  have hb := C.2.1
  have hown := C.2.2.2.2.2.1
  have hts := C.2.2.2.2.2.2.1
  have hl := lv_entry ([.ref (ad 0)]) (n := 3) (Nat.le_of_ble_eq_true rfl)
  rw [lg_entry_eq]
  generalize (lg_sl ([.ref (ad 0)]) ++ List.replicate (3 - (lg_sl ([.ref (ad 0)])).length) Slot.unset).toArray = ls at hl ⊢
  have hl : lv_has ls 3 [(0, .ref (ad 0))] := hl
  unfold wp_isPlain at hw
  refine lv_iconst (v := 1) hx hb dX10_isPlain_0 (by decide) ?_
  refine lv_istore_n (lv' := [(1, .int 1), (0, .ref (ad 0))]) hx hb dX10_isPlain_1 rfl hl (by decide) rfl (fun ls hl => ?_)
  refine lv_iconst (v := 0) hx hb dX10_isPlain_2 (by decide) ?_
  refine lv_istore_n (lv' := [(2, .int 0), (1, .int 1), (0, .ref (ad 0))]) hx hb dX10_isPlain_3 rfl hl (by decide) rfl (fun ls hl => ?_)
  obtain ⟨n4, hw⟩ := hw
  exact wk_isPlain_4 C  n4 1 0 σ _ _ ls hw hM (lv_sub hl [2, 1, 0] rfl)
abbrev rm_holds : Room := { frames := 1, cells := 0, slots := 0, locals := 26 }
set_option maxHeartbeats 4000000 in
theorem wk_holds_75 {p : Program} {l : Launch} {e : Env} {s : State} {m : MethodId} {args : Array Value} {below : List Frame} {meth : Method} {c : Code} {D : va_G} {dA : Nat → ClassId} {ad : Nat → Nat} {σ0 : St} {sz : Nat} (C : CxM p s m meth c args (AM dA ad σ0 sz) RX10 cX10_holds 1 (some .int)) {Qr : Int32 → St → Prop} : ∀ (u0 : Int32) (σ : St) (H : Heap) (locs : List Loc) (ls : Array Slot), wp_holds_75 Qr u0 σ → wM D dA ad (AM dA ad σ0 sz) s σ H locs → lv_has ls 1 [(0, .ref (ad 0))] → W p l e rm_holds s m args below meth c H locs 0 0 (MQ below (va_Qi Qr (BM D dA ad (AM dA ad σ0 sz)) (AM dA ad σ0 sz)) args s 0 0 (AM dA ad σ0 sz)) (F0 m 75 ls [.int u0]) := by
  intro u0 σ H locs ls hw hM hl
  have hx := C.1
  have hb := C.2.1
  have hown := C.2.2.2.2.2.1
  have hts := C.2.2.2.2.2.2.1
  unfold wp_holds_75 at hw
  exact rM_iret C hM hw dX10_holds_75
set_option maxHeartbeats 4000000 in
theorem wk_holds_74 {p : Program} {l : Launch} {e : Env} {s : State} {m : MethodId} {args : Array Value} {below : List Frame} {meth : Method} {c : Code} {D : va_G} {dA : Nat → ClassId} {ad : Nat → Nat} {σ0 : St} {sz : Nat} (C : CxM p s m meth c args (AM dA ad σ0 sz) RX10 cX10_holds 1 (some .int)) {Qr : Int32 → St → Prop} : ∀ (u0 : Int32) (u1 : Int32) (σ : St) (H : Heap) (locs : List Loc) (ls : Array Slot), wp_holds_74 Qr u0 u1 σ → wM D dA ad (AM dA ad σ0 sz) s σ H locs → lv_has ls 1 [(0, .ref (ad 0))] → W p l e rm_holds s m args below meth c H locs 0 0 (MQ below (va_Qi Qr (BM D dA ad (AM dA ad σ0 sz)) (AM dA ad σ0 sz)) args s 0 0 (AM dA ad σ0 sz)) (F0 m 74 ls [.int u1, .int u0]) := by
  intro u0 u1 σ H locs ls hw hM hl
  have hx := C.1
  have hb := C.2.1
  have hown := C.2.2.2.2.2.1
  have hts := C.2.2.2.2.2.2.1
  unfold wp_holds_74 at hw
  refine lv_iadd hx hb dX10_holds_74 ?_
  exact wk_holds_75 C  ((u0 + u1)) σ _ _ ls hw hM (lv_sub hl [0] rfl)
set_option maxHeartbeats 4000000 in
theorem wk_holds_61 {p : Program} {l : Launch} {e : Env} {s : State} {m : MethodId} {args : Array Value} {below : List Frame} {meth : Method} {c : Code} {D : va_G} {dA : Nat → ClassId} {ad : Nat → Nat} {σ0 : St} {sz : Nat} (C : CxM p s m meth c args (AM dA ad σ0 sz) RX10 cX10_holds 1 (some .int)) {Qr : Int32 → St → Prop} : ∀ (u0 : Int32) (u1 : Int32) (σ : St) (H : Heap) (locs : List Loc) (ls : Array Slot), wp_holds_61 Qr u0 u1 σ → wM D dA ad (AM dA ad σ0 sz) s σ H locs → lv_has ls 1 [(0, .ref (ad 0))] → W p l e rm_holds s m args below meth c H locs 0 0 (MQ below (va_Qi Qr (BM D dA ad (AM dA ad σ0 sz)) (AM dA ad σ0 sz)) args s 0 0 (AM dA ad σ0 sz)) (F0 m 61 ls [.int u1, .int u0]) := by
  intro u0 u1 σ H locs ls hw hM hl
  have hx := C.1
  have hb := C.2.1
  have hown := C.2.2.2.2.2.1
  have hts := C.2.2.2.2.2.2.1
  unfold wp_holds_61 at hw
  refine lv_iadd hx hb dX10_holds_61 ?_
  refine lv_aload_n hx hb dX10_holds_62 rfl (lv_at hl 0 rfl) ?_
  refine rM_callVi (n := 0) (As := []) C hM hl.1 (mt_isPlain l D dA ad _ σ  _ hw) (lw_V q1666 q1668 qs72 q93 q1669) rfl rfl (by decide +kernel) ⟨Nat.le_of_ble_eq_true rfl, Nat.le_of_ble_eq_true rfl⟩ rfl (Nat.le_of_ble_eq_true rfl) ⟨Nat.zero_le _, Nat.zero_le _⟩ rfl dX10_holds_63 (fun x2 σ1 H locs hw hM => ?_)
  refine lv_if_eq (tgt := 73) hx hb dX10_holds_66 (by decide) (fun hc => ?_) (fun hc => ?_)
  · have hw := hw.1 hc
    refine lv_iconst (v := 0) hx hb dX10_holds_73 (by decide) ?_
    exact wk_holds_74 C  ((u0 + u1)) 0 σ1 _ _ ls hw hM (lv_sub hl [0] rfl)
  · have hw := hw.2 hc
    refine lv_iconst (v := 4) hx hb dX10_holds_69 (by decide) ?_
    refine lv_goto (tgt := 74) hx hb dX10_holds_70 (by decide) ?_
    exact wk_holds_74 C  ((u0 + u1)) 4 σ1 _ _ ls hw hM (lv_sub hl [0] rfl)
set_option maxHeartbeats 4000000 in
theorem wk_holds_44 {p : Program} {l : Launch} {e : Env} {s : State} {m : MethodId} {args : Array Value} {below : List Frame} {meth : Method} {c : Code} {D : va_G} {dA : Nat → ClassId} {ad : Nat → Nat} {σ0 : St} {sz : Nat} (C : CxM p s m meth c args (AM dA ad σ0 sz) RX10 cX10_holds 1 (some .int)) {Qr : Int32 → St → Prop} : ∀ (u0 : Int32) (σ : St) (H : Heap) (locs : List Loc) (ls : Array Slot), wp_holds_44 Qr u0 σ → wM D dA ad (AM dA ad σ0 sz) s σ H locs → lv_has ls 1 [(0, .ref (ad 0))] → W p l e rm_holds s m args below meth c H locs 0 0 (MQ below (va_Qi Qr (BM D dA ad (AM dA ad σ0 sz)) (AM dA ad σ0 sz)) args s 0 0 (AM dA ad σ0 sz)) (F0 m 44 ls [.int u0]) := by
  intro u0 σ H locs ls hw hM hl
  have hx := C.1
  have hb := C.2.1
  have hown := C.2.2.2.2.2.1
  have hts := C.2.2.2.2.2.2.1
  unfold wp_holds_44 at hw
  refine lv_aload_n hx hb dX10_holds_44 rfl (lv_at hl 0 rfl) ?_
  refine lv_aload_n hx hb dX10_holds_45 rfl (lv_at hl 0 rfl) ?_
  refine rM_get C hM 24 (by decide) (fM_24 ad σ) q1414 rfl dX10_holds_46 ?_
  refine lv_iconst (v := 0) hx hb dX10_holds_49 (by decide) ?_
  refine rM_callVi (n := 2) (As := [.ref (ad 24), .int 0]) C hM hl.1 (mt_solves_24 l D dA ad _ σ 0 _ hw) (lw_V q1634 q1636 qs67 q93 q1637) rfl rfl (by decide +kernel) ⟨Nat.le_of_ble_eq_true rfl, Nat.le_of_ble_eq_true rfl⟩ rfl (Nat.le_of_ble_eq_true rfl) ⟨Nat.zero_le _, Nat.zero_le _⟩ rfl dX10_holds_50 (fun x2 σ1 H locs hw hM => ?_)
  refine lv_if_eq (tgt := 60) hx hb dX10_holds_53 (by decide) (fun hc => ?_) (fun hc => ?_)
  · have hw := hw.1 hc
    refine lv_iconst (v := 0) hx hb dX10_holds_60 (by decide) ?_
    exact wk_holds_61 C  u0 0 σ1 _ _ ls hw hM (lv_sub hl [0] rfl)
  · have hw := hw.2 hc
    refine lv_iconst (v := 2) hx hb dX10_holds_56 (by decide) ?_
    refine lv_goto (tgt := 61) hx hb dX10_holds_57 (by decide) ?_
    exact wk_holds_61 C  u0 2 σ1 _ _ ls hw hM (lv_sub hl [0] rfl)
set_option maxHeartbeats 4000000 in
theorem wk_holds_13 {p : Program} {l : Launch} {e : Env} {s : State} {m : MethodId} {args : Array Value} {below : List Frame} {meth : Method} {c : Code} {D : va_G} {dA : Nat → ClassId} {ad : Nat → Nat} {σ0 : St} {sz : Nat} (C : CxM p s m meth c args (AM dA ad σ0 sz) RX10 cX10_holds 1 (some .int)) {Qr : Int32 → St → Prop} : ∀ (u1 : Int32) (σ : St) (H : Heap) (locs : List Loc) (ls : Array Slot), wp_holds_13 Qr u1 σ → wM D dA ad (AM dA ad σ0 sz) s σ H locs → lv_has ls 1 [(0, .ref (ad 0))] → W p l e rm_holds s m args below meth c H locs 0 0 (MQ below (va_Qi Qr (BM D dA ad (AM dA ad σ0 sz)) (AM dA ad σ0 sz)) args s 0 0 (AM dA ad σ0 sz)) (F0 m 13 ls [.int u1, .ref (ad 0)]) := by
  intro u1 σ H locs ls hw hM hl
  have hx := C.1
  have hb := C.2.1
  have hown := C.2.2.2.2.2.1
  have hts := C.2.2.2.2.2.2.1
  unfold wp_holds_13 at hw
  refine rM_putI C hM 0 (by decide) (fM_s0 dA ad σ _) q1390 rfl rfl (tyX10_ok 0 (by decide)) rfl rfl dX10_holds_13 (fun σ1 H locs eσ hM => ?_)
  have hw := hw σ1 eσ
  clear eσ
  refine lv_aload_n hx hb dX10_holds_16 rfl (lv_at hl 0 rfl) ?_
  refine rM_get C hM 0 (by decide) (fM_0 ad σ1) q1390 rfl dX10_holds_17 ?_
  refine lv_if_le (tgt := 27) hx hb dX10_holds_20 (by decide) (fun hc => ?_) (fun hc => ?_)
  · have hw := hw.1 hc
    refine lv_aload_n hx hb dX10_holds_27 rfl (lv_at hl 0 rfl) ?_
    refine lv_aload_n hx hb dX10_holds_28 rfl (lv_at hl 0 rfl) ?_
    refine rM_get C hM 24 (by decide) (fM_24 ad σ1) q1414 rfl dX10_holds_29 ?_
    refine lv_iconst (v := 1) hx hb dX10_holds_32 (by decide) ?_
    refine rM_callVi (n := 2) (As := [.ref (ad 24), .int 1]) C hM hl.1 (mt_solves_24 l D dA ad _ σ1 1 _ hw) (lw_V q1634 q1636 qs67 q93 q1637) rfl rfl (by decide +kernel) ⟨Nat.le_of_ble_eq_true rfl, Nat.le_of_ble_eq_true rfl⟩ rfl (Nat.le_of_ble_eq_true rfl) ⟨Nat.zero_le _, Nat.zero_le _⟩ rfl dX10_holds_33 (fun x3 σ2 H locs hw hM => ?_)
    refine lv_if_eq (tgt := 43) hx hb dX10_holds_36 (by decide) (fun hc => ?_) (fun hc => ?_)
    · have hw := hw.1 hc
      refine lv_iconst (v := 0) hx hb dX10_holds_43 (by decide) ?_
      exact wk_holds_44 C  0 σ2 _ _ ls hw hM (lv_sub hl [0] rfl)
    · have hw := hw.2 hc
      refine lv_iconst (v := 1) hx hb dX10_holds_39 (by decide) ?_
      refine lv_goto (tgt := 44) hx hb dX10_holds_40 (by decide) ?_
      exact wk_holds_44 C  1 σ2 _ _ ls hw hM (lv_sub hl [0] rfl)
  · have hw := hw.2 hc
    refine lv_iconst (v := 0) hx hb dX10_holds_23 (by decide) ?_
    refine lv_goto (tgt := 75) hx hb dX10_holds_24 (by decide) ?_
    exact wk_holds_75 C  0 σ1 _ _ ls hw hM (lv_sub hl [0] rfl)
set_option maxHeartbeats 4000000 in
/-- public int holds(); -/
theorem mt_holds (l : Launch) (D : va_G) (dA : Nat → ClassId) (ad : Nat → Nat) (sz : Nat) (σ : St) (Qr : Int32 → St → Prop) (hw : wp_holds  σ Qr) : Met l yX10_holds (ws_ yX10_holds cX10_holds 1 (some .int)) rm_holds (PcM D dA ad σ sz [.ref (ad 0)]) (va_Qi Qr (BM D dA ad (AM dA ad σ sz)) (AM dA ad σ sz)) 0 0 (AM dA ad σ sz) := by
  refine Met.ofW (cc := cX10_holds) (maxL := 1) (ret := (some .int)) (by decide) rfl ?_
  intro p e s m args below meth c s₁ B hml hv
  obtain ⟨rfl, hsz, hP, hK, hD0⟩ := hv
  subst hsz
  have hts0 := atoms_spec (ws := ws_ yX10_holds cX10_holds 1 (some .int)) B.pre
  have C : CxM p s m meth c _ (AM dA ad σ s.heap.size) RX10 cX10_holds 1 (some .int) := ⟨B.exec, B.bytes, B.returns, B.notSynchronized, hml, findClass_of_methodNamed B.named, fun w h => hts0 w (List.mem_cons_of_mem _ h), fun q h => Or.inr h⟩
  have hM : wM D dA ad (AM dA ad σ s.heap.size) s σ s.heap [] := ⟨hK, hP, hD0.self, va_S.rf⟩
  have hx := C.1
  have hb := C.2.1
  have hown := C.2.2.2.2.2.1
  have hts := C.2.2.2.2.2.2.1
  have hl := lv_entry ([.ref (ad 0)]) (n := 1) (Nat.le_of_ble_eq_true rfl)
  rw [lg_entry_eq]
  generalize (lg_sl ([.ref (ad 0)]) ++ List.replicate (1 - (lg_sl ([.ref (ad 0)])).length) Slot.unset).toArray = ls at hl ⊢
  have hl : lv_has ls 1 [(0, .ref (ad 0))] := hl
  unfold wp_holds at hw
  refine lv_aload_n hx hb dX10_holds_0 rfl (lv_at hl 0 rfl) ?_
  refine lv_aload_n hx hb dX10_holds_1 rfl (lv_at hl 0 rfl) ?_
  refine rM_get C hM 14 (by decide) (fM_14 ad σ) q1404 rfl dX10_holds_2 ?_
  refine lv_if_eq (tgt := 12) hx hb dX10_holds_5 (by decide) (fun hc => ?_) (fun hc => ?_)
  · have hw := hw.1 hc
    refine lv_iconst (v := 1) hx hb dX10_holds_12 (by decide) ?_
    exact wk_holds_13 C  1 σ _ _ ls hw hM (lv_sub hl [0] rfl)
  · have hw := hw.2 hc
    refine lv_iconst (v := 0) hx hb dX10_holds_8 (by decide) ?_
    refine lv_goto (tgt := 13) hx hb dX10_holds_9 (by decide) ?_
    exact wk_holds_13 C  0 σ _ _ ls hw hM (lv_sub hl [0] rfl)
abbrev rm_split : Room := { frames := 1, cells := 0, slots := 0, locals := 26 }
set_option maxHeartbeats 4000000 in
theorem wk_split_220 {p : Program} {l : Launch} {e : Env} {s : State} {m : MethodId} {args : Array Value} {below : List Frame} {meth : Method} {c : Code} {D : va_G} {dA : Nat → ClassId} {ad : Nat → Nat} {σ0 : St} {sz : Nat} (C : CxM p s m meth c args (AM dA ad σ0 sz) RX10 cX10_split 5 (some .int)) {Qr : Int32 → St → Prop} {K190 : Int32 → Int32 → St → Prop} (hK190 : ∀ (v2 : Int32) (v3 : Int32) (σ : St) (H : Heap) (locs : List Loc) (ls : Array Slot), K190 v2 v3 σ → wM D dA ad (AM dA ad σ0 sz) s σ H locs → lv_has ls 5 [(0, .ref (ad 0)), (2, .int v2), (3, .int v3)] → W p l e rm_split s m args below meth c H locs 0 0 (MQ below (va_Qi Qr (BM D dA ad (AM dA ad σ0 sz)) (AM dA ad σ0 sz)) args s 0 0 (AM dA ad σ0 sz)) (F0 m 190 ls [])) {K207 : Int32 → Int32 → St → Prop} (hK207 : ∀ (v2 : Int32) (v3 : Int32) (σ : St) (H : Heap) (locs : List Loc) (ls : Array Slot), K207 v2 v3 σ → wM D dA ad (AM dA ad σ0 sz) s σ H locs → lv_has ls 5 [(0, .ref (ad 0)), (2, .int v2), (3, .int v3)] → W p l e rm_split s m args below meth c H locs 0 0 (MQ below (va_Qi Qr (BM D dA ad (AM dA ad σ0 sz)) (AM dA ad σ0 sz)) args s 0 0 (AM dA ad σ0 sz)) (F0 m 207 ls [])) : ∀ (n : Nat) (v2 : Int32) (v3 : Int32) (v4 : Int32) (σ : St) (H : Heap) (locs : List Loc) (ls : Array Slot), wp_split_220 Qr K190 K207 n v2 v3 v4 σ → wM D dA ad (AM dA ad σ0 sz) s σ H locs → lv_has ls 5 [(0, .ref (ad 0)), (2, .int v2), (3, .int v3), (4, .int v4)] → W p l e rm_split s m args below meth c H locs 0 0 (MQ below (va_Qi Qr (BM D dA ad (AM dA ad σ0 sz)) (AM dA ad σ0 sz)) args s 0 0 (AM dA ad σ0 sz)) (F0 m 220 ls []) := by
  intro n
  induction n with
  | zero => intro v2 v3 v4 σ H locs ls hw; exact hw.elim
  | succ n220 ih =>
    intro v2 v3 v4 σ H locs ls hw hM hl
    have hx := C.1
    have hb := C.2.1
    have hown := C.2.2.2.2.2.1
    have hts := C.2.2.2.2.2.2.1
    unfold wp_split_220 at hw
    refine lv_iload hx hb dX10_split_220 (lv_at hl 3 rfl) ?_
    refine lv_aload_n hx hb dX10_split_222 rfl (lv_at hl 0 rfl) ?_
    refine rM_get C hM 17 (by decide) (fM_17 ad σ) q1407 rfl dX10_split_223 ?_
    refine lv_icmp_ge (tgt := 262) hx hb dX10_split_226 (by decide) (fun hc => ?_) (fun hc => ?_)
    · have hw := hw.1 hc
      refine lv_aload_n hx hb dX10_split_262 rfl (lv_at hl 0 rfl) ?_
      refine rM_get C hM 27 (by decide) (fM_27 ad σ) q1417 rfl dX10_split_263 ?_
      refine lv_iload_n hx hb dX10_split_266 rfl (lv_at hl 2 rfl) ?_
      refine lv_aload_n hx hb dX10_split_267 rfl (lv_at hl 0 rfl) ?_
      refine rM_get C hM 27 (by decide) (fM_27 ad σ) q1417 rfl dX10_split_268 ?_
      refine lv_iload_n hx hb dX10_split_271 rfl (lv_at hl 2 rfl) ?_
      refine rM_iald C hM 27 16 (wM_27 dA ad σ) hw.1 dX10_split_272 ?_
      have hw := hw.2
      refine lv_iconst (v := 1) hx hb dX10_split_273 (by decide) ?_
      refine lv_iadd hx hb dX10_split_274 ?_
      refine rM_iast C hM 27 16 (wM_27 dA ad σ) (wM_s27 dA ad σ _ _) hw.1 dX10_split_275 (fun σ1 H locs eσ hM => ?_)
      have hw := hw.2 σ1 eσ
      clear eσ
      refine lv_goto (tgt := 207) hx hb dX10_split_276 (by decide) ?_
      exact hK207 v2 v3 σ1 _ _ ls hw hM (lv_sub hl [0, 1, 2] rfl)
    · have hw := hw.2 hc
      refine lv_aload_n hx hb dX10_split_229 rfl (lv_at hl 0 rfl) ?_
      refine rM_get C hM 35 (by decide) (fM_35 ad σ) q1425 rfl dX10_split_230 ?_
      refine lv_iload hx hb dX10_split_233 (lv_at hl 3 rfl) ?_
      refine lv_aload_n hx hb dX10_split_235 rfl (lv_at hl 0 rfl) ?_
      refine rM_get C hM 35 (by decide) (fM_35 ad σ) q1425 rfl dX10_split_236 ?_
      refine lv_iload hx hb dX10_split_239 (lv_at hl 3 rfl) ?_
      refine rM_iald C hM 35 21 (wM_35 dA ad σ) hw.1 dX10_split_241 ?_
      have hw := hw.2
      refine lv_aload_n hx hb dX10_split_242 rfl (lv_at hl 0 rfl) ?_
      refine rM_get C hM 23 (by decide) (fM_23 ad σ) q1413 rfl dX10_split_243 ?_
      refine lv_bipush (v := 6) hx hb dX10_split_246 (by decide) ?_
      refine lv_iload_n hx hb dX10_split_248 rfl (lv_at hl 2 rfl) ?_
      refine lv_imul hx hb dX10_split_249 ?_
      refine lv_iload hx hb dX10_split_250 (lv_at hl 3 rfl) ?_
      refine lv_iadd hx hb dX10_split_252 ?_
      refine rM_bald C hM 23 13 (wM_23 dA ad σ) hw.1 dX10_split_253 ?_
      have hw := hw.2
      refine lv_isub hx hb dX10_split_254 ?_
      refine rM_iast C hM 35 21 (wM_35 dA ad σ) (wM_s35 dA ad σ _ _) hw.1 dX10_split_255 (fun σ2 H locs eσ hM => ?_)
      have hw := hw.2 σ2 eσ
      clear eσ
      obtain ⟨x3, ex3⟩ : ∃ y : Int32, y = v4 + 1 := ⟨_, rfl⟩
      have hw := hw x3 ex3
      refine lv_iinc (v := x3) (lv' := [(4, .int x3), (0, .ref (ad 0)), (2, .int v2), (3, .int v3)]) hx hb dX10_split_256 hl (k := 3) rfl (by rw [ex3]; rfl) (by decide) rfl (fun ls hl => ?_)
      refine lv_goto (tgt := 220) hx hb dX10_split_259 (by decide) ?_
      exact ih v2 v3 x3 σ2 _ _ ls hw hM (lv_sub hl [1, 2, 3, 0] rfl)
set_option maxHeartbeats 4000000 in
theorem wk_split_207 {p : Program} {l : Launch} {e : Env} {s : State} {m : MethodId} {args : Array Value} {below : List Frame} {meth : Method} {c : Code} {D : va_G} {dA : Nat → ClassId} {ad : Nat → Nat} {σ0 : St} {sz : Nat} (C : CxM p s m meth c args (AM dA ad σ0 sz) RX10 cX10_split 5 (some .int)) {Qr : Int32 → St → Prop} {K190 : Int32 → Int32 → St → Prop} (hK190 : ∀ (v2 : Int32) (v3 : Int32) (σ : St) (H : Heap) (locs : List Loc) (ls : Array Slot), K190 v2 v3 σ → wM D dA ad (AM dA ad σ0 sz) s σ H locs → lv_has ls 5 [(0, .ref (ad 0)), (2, .int v2), (3, .int v3)] → W p l e rm_split s m args below meth c H locs 0 0 (MQ below (va_Qi Qr (BM D dA ad (AM dA ad σ0 sz)) (AM dA ad σ0 sz)) args s 0 0 (AM dA ad σ0 sz)) (F0 m 190 ls [])) : ∀ (n : Nat) (v2 : Int32) (v3 : Int32) (σ : St) (H : Heap) (locs : List Loc) (ls : Array Slot), wp_split_207 Qr K190 n v2 v3 σ → wM D dA ad (AM dA ad σ0 sz) s σ H locs → lv_has ls 5 [(0, .ref (ad 0)), (2, .int v2), (3, .int v3)] → W p l e rm_split s m args below meth c H locs 0 0 (MQ below (va_Qi Qr (BM D dA ad (AM dA ad σ0 sz)) (AM dA ad σ0 sz)) args s 0 0 (AM dA ad σ0 sz)) (F0 m 207 ls []) := by
  intro n
  induction n with
  | zero => intro v2 v3 σ H locs ls hw; exact hw.elim
  | succ n207 ih =>
    intro v2 v3 σ H locs ls hw hM hl
    have hx := C.1
    have hb := C.2.1
    have hown := C.2.2.2.2.2.1
    have hts := C.2.2.2.2.2.2.1
    unfold wp_split_207 at hw
    refine lv_aload_n hx hb dX10_split_207 rfl (lv_at hl 0 rfl) ?_
    refine lv_iconst (v := 0) hx hb dX10_split_208 (by decide) ?_
    refine lv_iload_n hx hb dX10_split_209 rfl (lv_at hl 2 rfl) ?_
    refine lv_iconst (v := 1) hx hb dX10_split_210 (by decide) ?_
    refine rM_callVi (n := 3) (As := [.int 0, .int v3, .int 1]) C hM hl.1 (mt_isBelow l D dA ad _ σ 0 v3 1 _ hw) (lw_V q1638 q1640 qs68 q93 q1641) rfl rfl (by decide +kernel) ⟨Nat.le_of_ble_eq_true rfl, Nat.le_of_ble_eq_true rfl⟩ rfl (Nat.le_of_ble_eq_true rfl) ⟨Nat.zero_le _, Nat.zero_le _⟩ rfl dX10_split_211 (fun x2 σ1 H locs hw hM => ?_)
    refine lv_if_eq (tgt := 279) hx hb dX10_split_214 (by decide) (fun hc => ?_) (fun hc => ?_)
    · have hw := hw.1 hc
      obtain ⟨x3, ex3⟩ : ∃ y : Int32, y = v3 + 1 := ⟨_, rfl⟩
      have hw := hw x3 ex3
      refine lv_iinc (v := x3) (lv' := [(3, .int x3), (0, .ref (ad 0)), (2, .int v2)]) hx hb dX10_split_279 hl (k := 2) rfl (by rw [ex3]; rfl) (by decide) rfl (fun ls hl => ?_)
      refine lv_goto (tgt := 190) hx hb dX10_split_282 (by decide) ?_
      exact hK190 v2 x3 σ1 _ _ ls hw hM (lv_sub hl [1, 2, 0] rfl)
    · have hw := hw.2 hc
      refine lv_iconst (v := 0) hx hb dX10_split_217 (by decide) ?_
      refine lv_istore (lv' := [(4, .int 0), (0, .ref (ad 0)), (2, .int v2), (3, .int v3)]) hx hb dX10_split_218 hl (by decide) rfl (fun ls hl => ?_)
      obtain ⟨n220, hw⟩ := hw
      exact wk_split_220 C hK190 ih n220 v2 v3 0 σ1 _ _ ls hw hM (lv_sub hl [1, 2, 3, 0] rfl)
set_option maxHeartbeats 4000000 in
theorem wk_split_190 {p : Program} {l : Launch} {e : Env} {s : State} {m : MethodId} {args : Array Value} {below : List Frame} {meth : Method} {c : Code} {D : va_G} {dA : Nat → ClassId} {ad : Nat → Nat} {σ0 : St} {sz : Nat} (C : CxM p s m meth c args (AM dA ad σ0 sz) RX10 cX10_split 5 (some .int)) {Qr : Int32 → St → Prop} : ∀ (n : Nat) (v2 : Int32) (v3 : Int32) (σ : St) (H : Heap) (locs : List Loc) (ls : Array Slot), wp_split_190 Qr n v2 v3 σ → wM D dA ad (AM dA ad σ0 sz) s σ H locs → lv_has ls 5 [(0, .ref (ad 0)), (2, .int v2), (3, .int v3)] → W p l e rm_split s m args below meth c H locs 0 0 (MQ below (va_Qi Qr (BM D dA ad (AM dA ad σ0 sz)) (AM dA ad σ0 sz)) args s 0 0 (AM dA ad σ0 sz)) (F0 m 190 ls []) := by
  intro n
  induction n with
  | zero => intro v2 v3 σ H locs ls hw; exact hw.elim
  | succ n190 ih =>
    intro v2 v3 σ H locs ls hw hM hl
    have hx := C.1
    have hb := C.2.1
    have hown := C.2.2.2.2.2.1
    have hts := C.2.2.2.2.2.2.1
    unfold wp_split_190 at hw
    refine lv_iload_n hx hb dX10_split_190 rfl (lv_at hl 2 rfl) ?_
    refine lv_aload_n hx hb dX10_split_191 rfl (lv_at hl 0 rfl) ?_
    refine rM_get C hM 22 (by decide) (fM_22 ad σ) q1412 rfl dX10_split_192 ?_
    refine lv_iconst (v := 0) hx hb dX10_split_195 (by decide) ?_
    refine rM_iald C hM 22 12 (wM_22 dA ad σ) hw.1 dX10_split_196 ?_
    have hw := hw.2
    refine lv_icmp_ge (tgt := 285) hx hb dX10_split_197 (by decide) (fun hc => ?_) (fun hc => ?_)
    · have hw := hw.1 hc
      refine lv_aload_n hx hb dX10_split_285 rfl (lv_at hl 0 rfl) ?_
      refine lv_iconst (v := 1) hx hb dX10_split_286 (by decide) ?_
      refine rM_putI C hM 26 (by decide) (fM_s26 dA ad σ _) q1416 rfl rfl (tyX10_ok 26 (by decide)) (isB_n isB_1) (isB_f isB_1) dX10_split_287 (fun σ1 H locs eσ hM => ?_)
      have hw := hw σ1 eσ
      clear eσ
      refine lv_iload_n hx hb dX10_split_290 rfl (lv_at hl 1 rfl) ?_
      exact rM_iret C hM hw dX10_split_291
    · have hw := hw.2 hc
      refine lv_aload_n hx hb dX10_split_200 rfl (lv_at hl 0 rfl) ?_
      refine rM_get C hM 27 (by decide) (fM_27 ad σ) q1417 rfl dX10_split_201 ?_
      refine lv_iload_n hx hb dX10_split_204 rfl (lv_at hl 2 rfl) ?_
      refine lv_iconst (v := 0) hx hb dX10_split_205 (by decide) ?_
      refine rM_iast C hM 27 16 (wM_27 dA ad σ) (wM_s27 dA ad σ _ _) hw.1 dX10_split_206 (fun σ2 H locs eσ hM => ?_)
      have hw := hw.2 σ2 eσ
      clear eσ
      obtain ⟨n207, hw⟩ := hw
      exact wk_split_207 C ih n207 v2 v3 σ2 _ _ ls hw hM (lv_sub hl [0, 1, 2] rfl)
set_option maxHeartbeats 4000000 in
theorem wk_split_146 {p : Program} {l : Launch} {e : Env} {s : State} {m : MethodId} {args : Array Value} {below : List Frame} {meth : Method} {c : Code} {D : va_G} {dA : Nat → ClassId} {ad : Nat → Nat} {σ0 : St} {sz : Nat} (C : CxM p s m meth c args (AM dA ad σ0 sz) RX10 cX10_split 5 (some .int)) {Qr : Int32 → St → Prop} : ∀ (n : Nat) (v2 : Int32) (v3 : Int32) (σ : St) (H : Heap) (locs : List Loc) (ls : Array Slot), wp_split_146 Qr n v2 v3 σ → wM D dA ad (AM dA ad σ0 sz) s σ H locs → lv_has ls 5 [(0, .ref (ad 0)), (2, .int v2), (3, .int v3)] → W p l e rm_split s m args below meth c H locs 0 0 (MQ below (va_Qi Qr (BM D dA ad (AM dA ad σ0 sz)) (AM dA ad σ0 sz)) args s 0 0 (AM dA ad σ0 sz)) (F0 m 146 ls []) := by
  intro n
  induction n with
  | zero => intro v2 v3 σ H locs ls hw; exact hw.elim
  | succ n146 ih =>
    intro v2 v3 σ H locs ls hw hM hl
    have hx := C.1
    have hb := C.2.1
    have hown := C.2.2.2.2.2.1
    have hts := C.2.2.2.2.2.2.1
    unfold wp_split_146 at hw
    refine lv_iload_n hx hb dX10_split_146 rfl (lv_at hl 2 rfl) ?_
    refine lv_aload_n hx hb dX10_split_147 rfl (lv_at hl 0 rfl) ?_
    refine rM_get C hM 17 (by decide) (fM_17 ad σ) q1407 rfl dX10_split_148 ?_
    refine lv_icmp_ge (tgt := 188) hx hb dX10_split_151 (by decide) (fun hc => ?_) (fun hc => ?_)
    · have hw := hw.1 hc
      refine lv_iconst (v := 0) hx hb dX10_split_188 (by decide) ?_
      refine lv_istore_n (lv' := [(3, .int 0), (0, .ref (ad 0)), (2, .int v2)]) hx hb dX10_split_189 rfl hl (by decide) rfl (fun ls hl => ?_)
      obtain ⟨n190, hw⟩ := hw
      exact wk_split_190 C  n190 v2 0 σ _ _ ls hw hM (lv_sub hl [1, 2, 0] rfl)
    · have hw := hw.2 hc
      refine lv_aload_n hx hb dX10_split_154 rfl (lv_at hl 0 rfl) ?_
      refine rM_get C hM 35 (by decide) (fM_35 ad σ) q1425 rfl dX10_split_155 ?_
      refine lv_iload_n hx hb dX10_split_158 rfl (lv_at hl 2 rfl) ?_
      refine lv_aload_n hx hb dX10_split_159 rfl (lv_at hl 0 rfl) ?_
      refine rM_get C hM 35 (by decide) (fM_35 ad σ) q1425 rfl dX10_split_160 ?_
      refine lv_iload_n hx hb dX10_split_163 rfl (lv_at hl 2 rfl) ?_
      refine rM_iald C hM 35 21 (wM_35 dA ad σ) hw.1 dX10_split_164 ?_
      have hw := hw.2
      refine lv_aload_n hx hb dX10_split_165 rfl (lv_at hl 0 rfl) ?_
      refine rM_get C hM 23 (by decide) (fM_23 ad σ) q1413 rfl dX10_split_166 ?_
      refine lv_sipush (v := 12000) hx hb dX10_split_169 (by decide) ?_
      refine lv_bipush (v := 6) hx hb dX10_split_172 (by decide) ?_
      refine lv_iload_n hx hb dX10_split_174 rfl (lv_at hl 1 rfl) ?_
      refine lv_imul hx hb dX10_split_175 ?_
      refine lv_iadd hx hb dX10_split_176 ?_
      refine lv_iload_n hx hb dX10_split_177 rfl (lv_at hl 2 rfl) ?_
      refine lv_iadd hx hb dX10_split_178 ?_
      refine rM_bald C hM 23 13 (wM_23 dA ad σ) hw.1 dX10_split_179 ?_
      have hw := hw.2
      refine lv_isub hx hb dX10_split_180 ?_
      refine rM_iast C hM 35 21 (wM_35 dA ad σ) (wM_s35 dA ad σ _ _) hw.1 dX10_split_181 (fun σ1 H locs eσ hM => ?_)
      have hw := hw.2 σ1 eσ
      clear eσ
      obtain ⟨x2, ex2⟩ : ∃ y : Int32, y = v3 + 1 := ⟨_, rfl⟩
      have hw := hw x2 ex2
      refine lv_iinc (v := x2) (lv' := [(3, .int x2), (0, .ref (ad 0)), (2, .int v2)]) hx hb dX10_split_182 hl (k := 2) rfl (by rw [ex2]; rfl) (by decide) rfl (fun ls hl => ?_)
      refine lv_goto (tgt := 146) hx hb dX10_split_185 (by decide) ?_
      exact ih v2 x2 σ1 _ _ ls hw hM (lv_sub hl [1, 2, 0] rfl)
set_option maxHeartbeats 4000000 in
theorem wk_split_128 {p : Program} {l : Launch} {e : Env} {s : State} {m : MethodId} {args : Array Value} {below : List Frame} {meth : Method} {c : Code} {D : va_G} {dA : Nat → ClassId} {ad : Nat → Nat} {σ0 : St} {sz : Nat} (C : CxM p s m meth c args (AM dA ad σ0 sz) RX10 cX10_split 5 (some .int)) {Qr : Int32 → St → Prop} : ∀ (n : Nat) (v2 : Int32) (σ : St) (H : Heap) (locs : List Loc) (ls : Array Slot), wp_split_128 Qr n v2 σ → wM D dA ad (AM dA ad σ0 sz) s σ H locs → lv_has ls 5 [(0, .ref (ad 0)), (2, .int v2)] → W p l e rm_split s m args below meth c H locs 0 0 (MQ below (va_Qi Qr (BM D dA ad (AM dA ad σ0 sz)) (AM dA ad σ0 sz)) args s 0 0 (AM dA ad σ0 sz)) (F0 m 128 ls []) := by
  intro n
  induction n with
  | zero => intro v2 σ H locs ls hw; exact hw.elim
  | succ n128 ih =>
    intro v2 σ H locs ls hw hM hl
    have hx := C.1
    have hb := C.2.1
    have hown := C.2.2.2.2.2.1
    have hts := C.2.2.2.2.2.2.1
    unfold wp_split_128 at hw
    refine lv_aload_n hx hb dX10_split_128 rfl (lv_at hl 0 rfl) ?_
    refine lv_iconst (v := 1) hx hb dX10_split_129 (by decide) ?_
    refine lv_iload_n hx hb dX10_split_130 rfl (lv_at hl 1 rfl) ?_
    refine lv_iconst (v := 1) hx hb dX10_split_131 (by decide) ?_
    refine rM_callVi (n := 3) (As := [.int 1, .int v2, .int 1]) C hM hl.1 (mt_isBelow l D dA ad _ σ 1 v2 1 _ hw) (lw_V q1638 q1640 qs68 q93 q1641) rfl rfl (by decide +kernel) ⟨Nat.le_of_ble_eq_true rfl, Nat.le_of_ble_eq_true rfl⟩ rfl (Nat.le_of_ble_eq_true rfl) ⟨Nat.zero_le _, Nat.zero_le _⟩ rfl dX10_split_132 (fun x2 σ1 H locs hw hM => ?_)
    refine lv_if_ne (tgt := 144) hx hb dX10_split_135 (by decide) (fun hc => ?_) (fun hc => ?_)
    · have hw := hw.1 hc
      refine lv_iconst (v := 0) hx hb dX10_split_144 (by decide) ?_
      refine lv_istore_n (lv' := [(3, .int 0), (0, .ref (ad 0)), (2, .int v2)]) hx hb dX10_split_145 rfl hl (by decide) rfl (fun ls hl => ?_)
      obtain ⟨n146, hw⟩ := hw
      exact wk_split_146 C  n146 v2 0 σ1 _ _ ls hw hM (lv_sub hl [1, 2, 0] rfl)
    · have hw := hw.2 hc
      obtain ⟨x3, ex3⟩ : ∃ y : Int32, y = v2 + 1 := ⟨_, rfl⟩
      have hw := hw x3 ex3
      refine lv_iinc (v := x3) (lv' := [(2, .int x3), (0, .ref (ad 0))]) hx hb dX10_split_138 hl (k := 1) rfl (by rw [ex3]; rfl) (by decide) rfl (fun ls hl => ?_)
      refine lv_goto (tgt := 128) hx hb dX10_split_141 (by decide) ?_
      exact ih x3 σ1 _ _ ls hw hM (lv_sub hl [1, 0] rfl)
set_option maxHeartbeats 4000000 in
theorem wk_split_100 {p : Program} {l : Launch} {e : Env} {s : State} {m : MethodId} {args : Array Value} {below : List Frame} {meth : Method} {c : Code} {D : va_G} {dA : Nat → ClassId} {ad : Nat → Nat} {σ0 : St} {sz : Nat} (C : CxM p s m meth c args (AM dA ad σ0 sz) RX10 cX10_split 5 (some .int)) {Qr : Int32 → St → Prop} : ∀ (n : Nat) (v2 : Int32) (σ : St) (H : Heap) (locs : List Loc) (ls : Array Slot), wp_split_100 Qr n v2 σ → wM D dA ad (AM dA ad σ0 sz) s σ H locs → lv_has ls 5 [(0, .ref (ad 0)), (2, .int v2)] → W p l e rm_split s m args below meth c H locs 0 0 (MQ below (va_Qi Qr (BM D dA ad (AM dA ad σ0 sz)) (AM dA ad σ0 sz)) args s 0 0 (AM dA ad σ0 sz)) (F0 m 100 ls []) := by
  intro n
  induction n with
  | zero => intro v2 σ H locs ls hw; exact hw.elim
  | succ n100 ih =>
    intro v2 σ H locs ls hw hM hl
    have hx := C.1
    have hb := C.2.1
    have hown := C.2.2.2.2.2.1
    have hts := C.2.2.2.2.2.2.1
    unfold wp_split_100 at hw
    refine lv_iload_n hx hb dX10_split_100 rfl (lv_at hl 1 rfl) ?_
    refine lv_aload_n hx hb dX10_split_101 rfl (lv_at hl 0 rfl) ?_
    refine rM_get C hM 17 (by decide) (fM_17 ad σ) q1407 rfl dX10_split_102 ?_
    refine lv_icmp_ge (tgt := 126) hx hb dX10_split_105 (by decide) (fun hc => ?_) (fun hc => ?_)
    · have hw := hw.1 hc
      refine lv_iconst (v := 0) hx hb dX10_split_126 (by decide) ?_
      refine lv_istore_n (lv' := [(2, .int 0), (0, .ref (ad 0))]) hx hb dX10_split_127 rfl hl (by decide) rfl (fun ls hl => ?_)
      obtain ⟨n128, hw⟩ := hw
      exact wk_split_128 C  n128 0 σ _ _ ls hw hM (lv_sub hl [1, 0] rfl)
    · have hw := hw.2 hc
      refine lv_aload_n hx hb dX10_split_108 rfl (lv_at hl 0 rfl) ?_
      refine rM_get C hM 35 (by decide) (fM_35 ad σ) q1425 rfl dX10_split_109 ?_
      refine lv_iload_n hx hb dX10_split_112 rfl (lv_at hl 1 rfl) ?_
      refine lv_aload_n hx hb dX10_split_113 rfl (lv_at hl 0 rfl) ?_
      refine rM_get C hM 24 (by decide) (fM_24 ad σ) q1414 rfl dX10_split_114 ?_
      refine lv_iload_n hx hb dX10_split_117 rfl (lv_at hl 1 rfl) ?_
      refine rM_iald C hM 24 14 (wM_24 dA ad σ) hw.1 dX10_split_118 ?_
      have hw := hw.2
      refine rM_iast C hM 35 21 (wM_35 dA ad σ) (wM_s35 dA ad σ _ _) hw.1 dX10_split_119 (fun σ1 H locs eσ hM => ?_)
      have hw := hw.2 σ1 eσ
      clear eσ
      obtain ⟨x2, ex2⟩ : ∃ y : Int32, y = v2 + 1 := ⟨_, rfl⟩
      have hw := hw x2 ex2
      refine lv_iinc (v := x2) (lv' := [(2, .int x2), (0, .ref (ad 0))]) hx hb dX10_split_120 hl (k := 1) rfl (by rw [ex2]; rfl) (by decide) rfl (fun ls hl => ?_)
      refine lv_goto (tgt := 100) hx hb dX10_split_123 (by decide) ?_
      exact ih x2 σ1 _ _ ls hw hM (lv_sub hl [1, 0] rfl)
set_option maxHeartbeats 4000000 in
theorem wk_split_96 {p : Program} {l : Launch} {e : Env} {s : State} {m : MethodId} {args : Array Value} {below : List Frame} {meth : Method} {c : Code} {D : va_G} {dA : Nat → ClassId} {ad : Nat → Nat} {σ0 : St} {sz : Nat} (C : CxM p s m meth c args (AM dA ad σ0 sz) RX10 cX10_split 5 (some .int)) {Qr : Int32 → St → Prop} : ∀ (σ : St) (H : Heap) (locs : List Loc) (ls : Array Slot), wp_split_96 Qr σ → wM D dA ad (AM dA ad σ0 sz) s σ H locs → lv_has ls 5 [(0, .ref (ad 0))] → W p l e rm_split s m args below meth c H locs 0 0 (MQ below (va_Qi Qr (BM D dA ad (AM dA ad σ0 sz)) (AM dA ad σ0 sz)) args s 0 0 (AM dA ad σ0 sz)) (F0 m 96 ls []) := by
  intro σ H locs ls hw hM hl
  have hx := C.1
  have hb := C.2.1
  have hown := C.2.2.2.2.2.1
  have hts := C.2.2.2.2.2.2.1
  unfold wp_split_96 at hw
  refine lv_iconst (v := (-1)) hx hb dX10_split_96 (by decide) ?_
  exact rM_iret C hM hw dX10_split_97
set_option maxHeartbeats 4000000 in
theorem wk_split_9 {p : Program} {l : Launch} {e : Env} {s : State} {m : MethodId} {args : Array Value} {below : List Frame} {meth : Method} {c : Code} {D : va_G} {dA : Nat → ClassId} {ad : Nat → Nat} {σ0 : St} {sz : Nat} (C : CxM p s m meth c args (AM dA ad σ0 sz) RX10 cX10_split 5 (some .int)) {Qr : Int32 → St → Prop} : ∀ (n : Nat) (v1 : Int32) (v2 : Int32) (σ : St) (H : Heap) (locs : List Loc) (ls : Array Slot), wp_split_9 Qr n v1 v2 σ → wM D dA ad (AM dA ad σ0 sz) s σ H locs → lv_has ls 5 [(0, .ref (ad 0)), (1, .int v1), (2, .int v2)] → W p l e rm_split s m args below meth c H locs 0 0 (MQ below (va_Qi Qr (BM D dA ad (AM dA ad σ0 sz)) (AM dA ad σ0 sz)) args s 0 0 (AM dA ad σ0 sz)) (F0 m 9 ls []) := by
  intro n
  induction n with
  | zero => intro v1 v2 σ H locs ls hw; exact hw.elim
  | succ n9 ih =>
    intro v1 v2 σ H locs ls hw hM hl
    have hx := C.1
    have hb := C.2.1
    have hown := C.2.2.2.2.2.1
    have hts := C.2.2.2.2.2.2.1
    unfold wp_split_9 at hw
    refine lv_iload_n hx hb dX10_split_9 rfl (lv_at hl 2 rfl) ?_
    refine lv_aload_n hx hb dX10_split_10 rfl (lv_at hl 0 rfl) ?_
    refine rM_get C hM 17 (by decide) (fM_17 ad σ) q1407 rfl dX10_split_11 ?_
    refine lv_icmp_ge (tgt := 32) hx hb dX10_split_14 (by decide) (fun hc => ?_) (fun hc => ?_)
    · have hw := hw.1 hc
      refine lv_aload_n hx hb dX10_split_32 rfl (lv_at hl 0 rfl) ?_
      refine rM_get C hM 14 (by decide) (fM_14 ad σ) q1404 rfl dX10_split_33 ?_
      refine lv_if_eq (tgt := 96) hx hb dX10_split_36 (by decide) (fun hc => ?_) (fun hc => ?_)
      · have hw := hw.1 hc
        exact wk_split_96 C   σ _ _ ls hw hM (lv_sub hl [0] rfl)
      · have hw := hw.2 hc
        refine lv_aload_n hx hb dX10_split_39 rfl (lv_at hl 0 rfl) ?_
        refine rM_callVi (n := 0) (As := []) C hM hl.1 (mt_isPlain l D dA ad _ σ  _ hw) (lw_V q1666 q1668 qs72 q93 q1669) rfl rfl (by decide +kernel) ⟨Nat.le_of_ble_eq_true rfl, Nat.le_of_ble_eq_true rfl⟩ rfl (Nat.le_of_ble_eq_true rfl) ⟨Nat.zero_le _, Nat.zero_le _⟩ rfl dX10_split_40 (fun x2 σ1 H locs hw hM => ?_)
        refine lv_if_eq (tgt := 96) hx hb dX10_split_43 (by decide) (fun hc => ?_) (fun hc => ?_)
        · have hw := hw.1 hc
          exact wk_split_96 C   σ1 _ _ ls hw hM (lv_sub hl [0] rfl)
        · have hw := hw.2 hc
          refine lv_aload_n hx hb dX10_split_46 rfl (lv_at hl 0 rfl) ?_
          refine lv_aload_n hx hb dX10_split_47 rfl (lv_at hl 0 rfl) ?_
          refine rM_get C hM 24 (by decide) (fM_24 ad σ1) q1414 rfl dX10_split_48 ?_
          refine lv_iconst (v := 1) hx hb dX10_split_51 (by decide) ?_
          refine rM_callVi (n := 2) (As := [.ref (ad 24), .int 1]) C hM hl.1 (mt_solves_24 l D dA ad _ σ1 1 _ hw) (lw_V q1634 q1636 qs67 q93 q1637) rfl rfl (by decide +kernel) ⟨Nat.le_of_ble_eq_true rfl, Nat.le_of_ble_eq_true rfl⟩ rfl (Nat.le_of_ble_eq_true rfl) ⟨Nat.zero_le _, Nat.zero_le _⟩ rfl dX10_split_52 (fun x4 σ3 H locs hw hM => ?_)
          refine lv_if_eq (tgt := 96) hx hb dX10_split_55 (by decide) (fun hc => ?_) (fun hc => ?_)
          · have hw := hw.1 hc
            exact wk_split_96 C   σ3 _ _ ls hw hM (lv_sub hl [0] rfl)
          · have hw := hw.2 hc
            refine lv_aload_n hx hb dX10_split_58 rfl (lv_at hl 0 rfl) ?_
            refine rM_get C hM 20 (by decide) (fM_20 ad σ3) q1410 rfl dX10_split_59 ?_
            refine lv_iconst (v := 0) hx hb dX10_split_62 (by decide) ?_
            refine rM_zald C hM 20 10 (wM_20 dA ad σ3) hw.1 dX10_split_63 ?_
            have hw := hw.2
            refine lv_if_eq (tgt := 96) hx hb dX10_split_64 (by decide) (fun hc => ?_) (fun hc => ?_)
            · have hw := hw.1 hc
              exact wk_split_96 C   σ3 _ _ ls hw hM (lv_sub hl [0] rfl)
            · have hw := hw.2 hc
              refine lv_aload_n hx hb dX10_split_67 rfl (lv_at hl 0 rfl) ?_
              refine rM_get C hM 20 (by decide) (fM_20 ad σ3) q1410 rfl dX10_split_68 ?_
              refine lv_iconst (v := 1) hx hb dX10_split_71 (by decide) ?_
              refine rM_zald C hM 20 10 (wM_20 dA ad σ3) hw.1 dX10_split_72 ?_
              have hw := hw.2
              refine lv_if_eq (tgt := 96) hx hb dX10_split_73 (by decide) (fun hc => ?_) (fun hc => ?_)
              · have hw := hw.1 hc
                exact wk_split_96 C   σ3 _ _ ls hw hM (lv_sub hl [0] rfl)
              · have hw := hw.2 hc
                refine lv_iload_n hx hb dX10_split_76 rfl (lv_at hl 1 rfl) ?_
                refine lv_aload_n hx hb dX10_split_77 rfl (lv_at hl 0 rfl) ?_
                refine rM_get C hM 21 (by decide) (fM_21 ad σ3) q1411 rfl dX10_split_78 ?_
                refine lv_iconst (v := 0) hx hb dX10_split_81 (by decide) ?_
                refine rM_iald C hM 21 11 (wM_21 dA ad σ3) hw.1 dX10_split_82 ?_
                have hw := hw.2
                refine lv_icmp_gt (tgt := 96) hx hb dX10_split_83 (by decide) (fun hc => ?_) (fun hc => ?_)
                · have hw := hw.1 hc
                  exact wk_split_96 C   σ3 _ _ ls hw hM (lv_sub hl [0] rfl)
                · have hw := hw.2 hc
                  refine lv_iload_n hx hb dX10_split_86 rfl (lv_at hl 1 rfl) ?_
                  refine lv_aload_n hx hb dX10_split_87 rfl (lv_at hl 0 rfl) ?_
                  refine rM_get C hM 21 (by decide) (fM_21 ad σ3) q1411 rfl dX10_split_88 ?_
                  refine lv_iconst (v := 1) hx hb dX10_split_91 (by decide) ?_
                  refine rM_iald C hM 21 11 (wM_21 dA ad σ3) hw.1 dX10_split_92 ?_
                  have hw := hw.2
                  refine lv_icmp_le (tgt := 98) hx hb dX10_split_93 (by decide) (fun hc => ?_) (fun hc => ?_)
                  · have hw := hw.1 hc
                    refine lv_iconst (v := 0) hx hb dX10_split_98 (by decide) ?_
                    refine lv_istore_n (lv' := [(2, .int 0), (0, .ref (ad 0)), (1, .int v1)]) hx hb dX10_split_99 rfl hl (by decide) rfl (fun ls hl => ?_)
                    obtain ⟨n100, hw⟩ := hw
                    exact wk_split_100 C  n100 0 σ3 _ _ ls hw hM (lv_sub hl [1, 0] rfl)
                  · have hw := hw.2 hc
                    exact wk_split_96 C   σ3 _ _ ls hw hM (lv_sub hl [0] rfl)
    · have hw := hw.2 hc
      refine lv_iload_n hx hb dX10_split_17 rfl (lv_at hl 1 rfl) ?_
      refine lv_aload_n hx hb dX10_split_18 rfl (lv_at hl 0 rfl) ?_
      refine rM_get C hM 24 (by decide) (fM_24 ad σ) q1414 rfl dX10_split_19 ?_
      refine lv_iload_n hx hb dX10_split_22 rfl (lv_at hl 2 rfl) ?_
      refine rM_iald C hM 24 14 (wM_24 dA ad σ) hw.1 dX10_split_23 ?_
      have hw := hw.2
      refine lv_iadd hx hb dX10_split_24 ?_
      refine lv_topi (fun x5 ex5 => ?_)
      have hw := hw x5 ex5
      refine lv_istore_n (lv' := [(1, .int x5), (0, .ref (ad 0)), (2, .int v2)]) hx hb dX10_split_25 rfl hl (by decide) rfl (fun ls hl => ?_)
      obtain ⟨x6, ex6⟩ : ∃ y : Int32, y = v2 + 1 := ⟨_, rfl⟩
      have hw := hw x6 ex6
      refine lv_iinc (v := x6) (lv' := [(2, .int x6), (1, .int x5), (0, .ref (ad 0))]) hx hb dX10_split_26 hl (k := 2) rfl (by rw [ex6]; rfl) (by decide) rfl (fun ls hl => ?_)
      refine lv_goto (tgt := 9) hx hb dX10_split_29 (by decide) ?_
      exact ih x5 x6 σ _ _ ls hw hM (lv_sub hl [2, 1, 0] rfl)
set_option maxHeartbeats 4000000 in
/-- public int split(); -/
theorem mt_split (l : Launch) (D : va_G) (dA : Nat → ClassId) (ad : Nat → Nat) (sz : Nat) (σ : St) (Qr : Int32 → St → Prop) (hw : wp_split  σ Qr) : Met l yX10_split (ws_ yX10_split cX10_split 5 (some .int)) rm_split (PcM D dA ad σ sz [.ref (ad 0)]) (va_Qi Qr (BM D dA ad (AM dA ad σ sz)) (AM dA ad σ sz)) 0 0 (AM dA ad σ sz) := by
  refine Met.ofW (cc := cX10_split) (maxL := 5) (ret := (some .int)) (by decide) rfl ?_
  intro p e s m args below meth c s₁ B hml hv
  obtain ⟨rfl, hsz, hP, hK, hD0⟩ := hv
  subst hsz
  have hts0 := atoms_spec (ws := ws_ yX10_split cX10_split 5 (some .int)) B.pre
  have C : CxM p s m meth c _ (AM dA ad σ s.heap.size) RX10 cX10_split 5 (some .int) := ⟨B.exec, B.bytes, B.returns, B.notSynchronized, hml, findClass_of_methodNamed B.named, fun w h => hts0 w (List.mem_cons_of_mem _ h), fun q h => Or.inr h⟩
  have hM : wM D dA ad (AM dA ad σ s.heap.size) s σ s.heap [] := ⟨hK, hP, hD0.self, va_S.rf⟩
  have hx := C.1
  have hb := C.2.1
  have hown := C.2.2.2.2.2.1
  have hts := C.2.2.2.2.2.2.1
  have hl := lv_entry ([.ref (ad 0)]) (n := 5) (Nat.le_of_ble_eq_true rfl)
  rw [lg_entry_eq]
  generalize (lg_sl ([.ref (ad 0)]) ++ List.replicate (5 - (lg_sl ([.ref (ad 0)])).length) Slot.unset).toArray = ls at hl ⊢
  have hl : lv_has ls 5 [(0, .ref (ad 0))] := hl
  unfold wp_split at hw
  refine lv_aload_n hx hb dX10_split_0 rfl (lv_at hl 0 rfl) ?_
  refine lv_iconst (v := 0) hx hb dX10_split_1 (by decide) ?_
  refine rM_putI C hM 0 (by decide) (fM_s0 dA ad σ _) q1390 rfl rfl (tyX10_ok 0 (by decide)) rfl rfl dX10_split_2 (fun σ1 H locs eσ hM => ?_)
  have hw := hw σ1 eσ
  clear eσ
  refine lv_iconst (v := 0) hx hb dX10_split_5 (by decide) ?_
  refine lv_istore_n (lv' := [(1, .int 0), (0, .ref (ad 0))]) hx hb dX10_split_6 rfl hl (by decide) rfl (fun ls hl => ?_)
  refine lv_iconst (v := 0) hx hb dX10_split_7 (by decide) ?_
  refine lv_istore_n (lv' := [(2, .int 0), (1, .int 0), (0, .ref (ad 0))]) hx hb dX10_split_8 rfl hl (by decide) rfl (fun ls hl => ?_)
  obtain ⟨n9, hw⟩ := hw
  exact wk_split_9 C  n9 0 0 σ1 _ _ ls hw hM (lv_sub hl [2, 1, 0] rfl)
abbrev rm_times : Room := { frames := 0, cells := 0, slots := 0, locals := 0 }
set_option maxHeartbeats 4000000 in
theorem wk_times_36 {p : Program} {l : Launch} {e : Env} {s : State} {m : MethodId} {args : Array Value} {below : List Frame} {meth : Method} {c : Code} {D : va_G} {dA : Nat → ClassId} {ad : Nat → Nat} {σ0 : St} {sz : Nat} (C : CxM p s m meth c args (AM dA ad σ0 sz) RX10 cX10_times 2 (some .int)) {Qr : Int32 → St → Prop} : ∀ (u0 : Int32) (σ : St) (H : Heap) (locs : List Loc) (ls : Array Slot), wp_times_36 Qr u0 σ → wM D dA ad (AM dA ad σ0 sz) s σ H locs → lv_has ls 2 [(0, .ref (ad 0))] → W p l e rm_times s m args below meth c H locs 0 0 (MQ below (va_Qi Qr (BM D dA ad (AM dA ad σ0 sz)) (AM dA ad σ0 sz)) args s 0 0 (AM dA ad σ0 sz)) (F0 m 36 ls [.int u0]) := by
  intro u0 σ H locs ls hw hM hl
  have hx := C.1
  have hb := C.2.1
  have hown := C.2.2.2.2.2.1
  have hts := C.2.2.2.2.2.2.1
  unfold wp_times_36 at hw
  exact rM_iret C hM hw dX10_times_36
set_option maxHeartbeats 4000000 in
theorem wk_times_35 {p : Program} {l : Launch} {e : Env} {s : State} {m : MethodId} {args : Array Value} {below : List Frame} {meth : Method} {c : Code} {D : va_G} {dA : Nat → ClassId} {ad : Nat → Nat} {σ0 : St} {sz : Nat} (C : CxM p s m meth c args (AM dA ad σ0 sz) RX10 cX10_times 2 (some .int)) {Qr : Int32 → St → Prop} : ∀ (σ : St) (H : Heap) (locs : List Loc) (ls : Array Slot), wp_times_35 Qr σ → wM D dA ad (AM dA ad σ0 sz) s σ H locs → lv_has ls 2 [(0, .ref (ad 0))] → W p l e rm_times s m args below meth c H locs 0 0 (MQ below (va_Qi Qr (BM D dA ad (AM dA ad σ0 sz)) (AM dA ad σ0 sz)) args s 0 0 (AM dA ad σ0 sz)) (F0 m 35 ls []) := by
  intro σ H locs ls hw hM hl
  have hx := C.1
  have hb := C.2.1
  have hown := C.2.2.2.2.2.1
  have hts := C.2.2.2.2.2.2.1
  unfold wp_times_35 at hw
  refine lv_iconst (v := (-1)) hx hb dX10_times_35 (by decide) ?_
  exact wk_times_36 C  (-1) σ _ _ ls hw hM (lv_sub hl [0] rfl)
set_option maxHeartbeats 4000000 in
/-- public int times(int); -/
theorem mt_times (l : Launch) (D : va_G) (dA : Nat → ClassId) (ad : Nat → Nat) (sz : Nat) (σ : St) (p1 : Int32) (Qr : Int32 → St → Prop) (hw : wp_times p1 σ Qr) : Met l yX10_times (ws_ yX10_times cX10_times 2 (some .int)) rm_times (PcM D dA ad σ sz [.ref (ad 0), .int p1]) (va_Qi Qr (BM D dA ad (AM dA ad σ sz)) (AM dA ad σ sz)) 0 0 (AM dA ad σ sz) := by
  refine Met.ofW (cc := cX10_times) (maxL := 2) (ret := (some .int)) (by decide) rfl ?_
  intro p e s m args below meth c s₁ B hml hv
  obtain ⟨rfl, hsz, hP, hK, hD0⟩ := hv
  subst hsz
  have hts0 := atoms_spec (ws := ws_ yX10_times cX10_times 2 (some .int)) B.pre
  have C : CxM p s m meth c _ (AM dA ad σ s.heap.size) RX10 cX10_times 2 (some .int) := ⟨B.exec, B.bytes, B.returns, B.notSynchronized, hml, findClass_of_methodNamed B.named, fun w h => hts0 w (List.mem_cons_of_mem _ h), fun q h => Or.inr h⟩
  have hM : wM D dA ad (AM dA ad σ s.heap.size) s σ s.heap [] := ⟨hK, hP, hD0.self, va_S.rf⟩
  have hx := C.1
  have hb := C.2.1
  have hown := C.2.2.2.2.2.1
  have hts := C.2.2.2.2.2.2.1
  have hl := lv_entry ([.ref (ad 0), .int p1]) (n := 2) (Nat.le_of_ble_eq_true rfl)
  rw [lg_entry_eq]
  generalize (lg_sl ([.ref (ad 0), .int p1]) ++ List.replicate (2 - (lg_sl ([.ref (ad 0), .int p1])).length) Slot.unset).toArray = ls at hl ⊢
  have hl : lv_has ls 2 [(0, .ref (ad 0)), (1, .int p1)] := hl
  unfold wp_times at hw
  refine lv_aload_n hx hb dX10_times_0 rfl (lv_at hl 0 rfl) ?_
  refine lv_iconst (v := 0) hx hb dX10_times_1 (by decide) ?_
  refine rM_putI C hM 0 (by decide) (fM_s0 dA ad σ _) q1390 rfl rfl (tyX10_ok 0 (by decide)) rfl rfl dX10_times_2 (fun σ1 H locs eσ hM => ?_)
  have hw := hw σ1 eσ
  clear eσ
  refine lv_aload_n hx hb dX10_times_5 rfl (lv_at hl 0 rfl) ?_
  refine rM_get C hM 26 (by decide) (fM_26 ad σ1) q1416 rfl dX10_times_6 ?_
  refine lv_if_eq (tgt := 35) hx hb dX10_times_9 (by decide) (fun hc => ?_) (fun hc => ?_)
  · have hw := hw.1 hc
    exact wk_times_35 C   σ1 _ _ ls hw hM (lv_sub hl [0] rfl)
  · have hw := hw.2 hc
    refine lv_iload_n hx hb dX10_times_12 rfl (lv_at hl 1 rfl) ?_
    refine lv_if_lt (tgt := 35) hx hb dX10_times_13 (by decide) (fun hc => ?_) (fun hc => ?_)
    · have hw := hw.1 hc
      exact wk_times_35 C   σ1 _ _ ls hw hM (lv_sub hl [0] rfl)
    · have hw := hw.2 hc
      refine lv_iload_n hx hb dX10_times_16 rfl (lv_at hl 1 rfl) ?_
      refine lv_aload_n hx hb dX10_times_17 rfl (lv_at hl 0 rfl) ?_
      refine rM_get C hM 22 (by decide) (fM_22 ad σ1) q1412 rfl dX10_times_18 ?_
      refine lv_iconst (v := 0) hx hb dX10_times_21 (by decide) ?_
      refine rM_iald C hM 22 12 (wM_22 dA ad σ1) hw.1 dX10_times_22 ?_
      have hw := hw.2
      refine lv_icmp_ge (tgt := 35) hx hb dX10_times_23 (by decide) (fun hc => ?_) (fun hc => ?_)
      · have hw := hw.1 hc
        exact wk_times_35 C   σ1 _ _ ls hw hM (lv_sub hl [0] rfl)
      · have hw := hw.2 hc
        refine lv_aload_n hx hb dX10_times_26 rfl (lv_at hl 0 rfl) ?_
        refine rM_get C hM 27 (by decide) (fM_27 ad σ1) q1417 rfl dX10_times_27 ?_
        refine lv_iload_n hx hb dX10_times_30 rfl (lv_at hl 1 rfl) ?_
        refine rM_iald C hM 27 16 (wM_27 dA ad σ1) hw.1 dX10_times_31 ?_
        have hw := hw.2
        refine lv_goto (tgt := 36) hx hb dX10_times_32 (by decide) ?_
        exact wk_times_36 C  ((gA σ1 27 p1)) σ1 _ _ ls hw hM (lv_sub hl [0] rfl)
abbrev rm_cost : Room := { frames := 1, cells := 0, slots := 0, locals := 21 }
set_option maxHeartbeats 4000000 in
theorem wk_cost_47 {p : Program} {l : Launch} {e : Env} {s : State} {m : MethodId} {args : Array Value} {below : List Frame} {meth : Method} {c : Code} {D : va_G} {dA : Nat → ClassId} {ad : Nat → Nat} {σ0 : St} {sz : Nat} (C : CxM p s m meth c args (AM dA ad σ0 sz) RX10 cX10_cost 3 none) {Qr : St → Prop} : ∀ (σ : St) (H : Heap) (locs : List Loc) (ls : Array Slot), wp_cost_47 Qr σ → wM D dA ad (AM dA ad σ0 sz) s σ H locs → lv_has ls 3 [(0, .ref (ad 0))] → W p l e rm_cost s m args below meth c H locs 0 0 (MQ below (va_Qv Qr (BM D dA ad (AM dA ad σ0 sz)) (AM dA ad σ0 sz)) args s 0 0 (AM dA ad σ0 sz)) (F0 m 47 ls []) := by
  intro σ H locs ls hw hM hl
  have hx := C.1
  have hb := C.2.1
  have hown := C.2.2.2.2.2.1
  have hts := C.2.2.2.2.2.2.1
  unfold wp_cost_47 at hw
  exact rM_vret C hM hw dX10_cost_47
set_option maxHeartbeats 4000000 in
theorem wk_cost_30 {p : Program} {l : Launch} {e : Env} {s : State} {m : MethodId} {args : Array Value} {below : List Frame} {meth : Method} {c : Code} {D : va_G} {dA : Nat → ClassId} {ad : Nat → Nat} {σ0 : St} {sz : Nat} (C : CxM p s m meth c args (AM dA ad σ0 sz) RX10 cX10_cost 3 none) {Qr : St → Prop} : ∀ (v1 : Int32) (v2 : Int32) (u1 : Int32) (σ : St) (H : Heap) (locs : List Loc) (ls : Array Slot), wp_cost_30 Qr v1 v2 u1 σ → wM D dA ad (AM dA ad σ0 sz) s σ H locs → lv_has ls 3 [(0, .ref (ad 0)), (1, .int v1), (2, .int v2)] → W p l e rm_cost s m args below meth c H locs 0 0 (MQ below (va_Qv Qr (BM D dA ad (AM dA ad σ0 sz)) (AM dA ad σ0 sz)) args s 0 0 (AM dA ad σ0 sz)) (F0 m 30 ls [.int u1, .ref (ad 0)]) := by
  intro v1 v2 u1 σ H locs ls hw hM hl
  have hx := C.1
  have hb := C.2.1
  have hown := C.2.2.2.2.2.1
  have hts := C.2.2.2.2.2.2.1
  unfold wp_cost_30 at hw
  refine rM_putI C hM 0 (by decide) (fM_s0 dA ad σ _) q1390 rfl rfl (tyX10_ok 0 (by decide)) rfl rfl dX10_cost_30 (fun σ1 H locs eσ hM => ?_)
  have hw := hw σ1 eσ
  clear eσ
  refine lv_aload_n hx hb dX10_cost_33 rfl (lv_at hl 0 rfl) ?_
  refine rM_get C hM 0 (by decide) (fM_0 ad σ1) q1390 rfl dX10_cost_34 ?_
  refine lv_if_ne (tgt := 47) hx hb dX10_cost_37 (by decide) (fun hc => ?_) (fun hc => ?_)
  · have hw := hw.1 hc
    exact wk_cost_47 C   σ1 _ _ ls hw hM (lv_sub hl [0] rfl)
  · have hw := hw.2 hc
    refine lv_aload_n hx hb dX10_cost_40 rfl (lv_at hl 0 rfl) ?_
    refine rM_get C hM 25 (by decide) (fM_25 ad σ1) q1415 rfl dX10_cost_41 ?_
    refine lv_iload_n hx hb dX10_cost_44 rfl (lv_at hl 1 rfl) ?_
    refine lv_iload_n hx hb dX10_cost_45 rfl (lv_at hl 2 rfl) ?_
    refine rM_iast C hM 25 15 (wM_25 dA ad σ1) (wM_s25 dA ad σ1 _ _) hw.1 dX10_cost_46 (fun σ2 H locs eσ hM => ?_)
    have hw := hw.2 σ2 eσ
    clear eσ
    exact wk_cost_47 C   σ2 _ _ ls hw hM (lv_sub hl [0] rfl)
set_option maxHeartbeats 4000000 in
theorem wk_cost_25 {p : Program} {l : Launch} {e : Env} {s : State} {m : MethodId} {args : Array Value} {below : List Frame} {meth : Method} {c : Code} {D : va_G} {dA : Nat → ClassId} {ad : Nat → Nat} {σ0 : St} {sz : Nat} (C : CxM p s m meth c args (AM dA ad σ0 sz) RX10 cX10_cost 3 none) {Qr : St → Prop} : ∀ (v1 : Int32) (v2 : Int32) (σ : St) (H : Heap) (locs : List Loc) (ls : Array Slot), wp_cost_25 Qr v1 v2 σ → wM D dA ad (AM dA ad σ0 sz) s σ H locs → lv_has ls 3 [(0, .ref (ad 0)), (1, .int v1), (2, .int v2)] → W p l e rm_cost s m args below meth c H locs 0 0 (MQ below (va_Qv Qr (BM D dA ad (AM dA ad σ0 sz)) (AM dA ad σ0 sz)) args s 0 0 (AM dA ad σ0 sz)) (F0 m 25 ls [.ref (ad 0)]) := by
  intro v1 v2 σ H locs ls hw hM hl
  have hx := C.1
  have hb := C.2.1
  have hown := C.2.2.2.2.2.1
  have hts := C.2.2.2.2.2.2.1
  unfold wp_cost_25 at hw
  refine lv_iconst (v := 2) hx hb dX10_cost_25 (by decide) ?_
  refine lv_goto (tgt := 30) hx hb dX10_cost_26 (by decide) ?_
  exact wk_cost_30 C  v1 v2 2 σ _ _ ls hw hM (lv_sub hl [0, 1, 2] rfl)
set_option maxHeartbeats 4000000 in
/-- public void cost(int, int); -/
theorem mt_cost (l : Launch) (D : va_G) (dA : Nat → ClassId) (ad : Nat → Nat) (sz : Nat) (σ : St) (p1 : Int32) (p2 : Int32) (Qr : St → Prop) (hw : wp_cost p1 p2 σ Qr) : Met l yX10_cost (ws_ yX10_cost cX10_cost 3 none) rm_cost (PcM D dA ad σ sz [.ref (ad 0), .int p1, .int p2]) (va_Qv Qr (BM D dA ad (AM dA ad σ sz)) (AM dA ad σ sz)) 0 0 (AM dA ad σ sz) := by
  refine Met.ofW (cc := cX10_cost) (maxL := 3) (ret := none) (by decide) rfl ?_
  intro p e s m args below meth c s₁ B hml hv
  obtain ⟨rfl, hsz, hP, hK, hD0⟩ := hv
  subst hsz
  have hts0 := atoms_spec (ws := ws_ yX10_cost cX10_cost 3 none) B.pre
  have C : CxM p s m meth c _ (AM dA ad σ s.heap.size) RX10 cX10_cost 3 none := ⟨B.exec, B.bytes, B.returns, B.notSynchronized, hml, findClass_of_methodNamed B.named, fun w h => hts0 w (List.mem_cons_of_mem _ h), fun q h => Or.inr h⟩
  have hM : wM D dA ad (AM dA ad σ s.heap.size) s σ s.heap [] := ⟨hK, hP, hD0.self, va_S.rf⟩
  have hx := C.1
  have hb := C.2.1
  have hown := C.2.2.2.2.2.1
  have hts := C.2.2.2.2.2.2.1
  have hl := lv_entry ([.ref (ad 0), .int p1, .int p2]) (n := 3) (Nat.le_of_ble_eq_true rfl)
  rw [lg_entry_eq]
  generalize (lg_sl ([.ref (ad 0), .int p1, .int p2]) ++ List.replicate (3 - (lg_sl ([.ref (ad 0), .int p1, .int p2])).length) Slot.unset).toArray = ls at hl ⊢
  have hl : lv_has ls 3 [(0, .ref (ad 0)), (1, .int p1), (2, .int p2)] := hl
  unfold wp_cost at hw
  refine lv_aload_n hx hb dX10_cost_0 rfl (lv_at hl 0 rfl) ?_
  refine lv_aload_n hx hb dX10_cost_1 rfl (lv_at hl 0 rfl) ?_
  refine lv_iload_n hx hb dX10_cost_2 rfl (lv_at hl 1 rfl) ?_
  refine rM_callVi (n := 1) (As := [.int p1]) C hM hl.1 (mt_isColumn l D dA ad _ σ p1 _ hw) (lw_V q1614 q1616 qs63 q93 q1617) rfl rfl (by decide +kernel) ⟨Nat.le_of_ble_eq_true rfl, Nat.le_of_ble_eq_true rfl⟩ rfl (Nat.le_of_ble_eq_true rfl) ⟨Nat.zero_le _, Nat.zero_le _⟩ rfl dX10_cost_3 (fun x2 σ1 H locs hw hM => ?_)
  refine lv_if_ne (tgt := 13) hx hb dX10_cost_6 (by decide) (fun hc => ?_) (fun hc => ?_)
  · have hw := hw.1 hc
    refine lv_iload_n hx hb dX10_cost_13 rfl (lv_at hl 2 rfl) ?_
    refine lv_bipush (v := (-99)) hx hb dX10_cost_14 (by decide) ?_
    refine lv_icmp_lt (tgt := 25) hx hb dX10_cost_16 (by decide) (fun hc => ?_) (fun hc => ?_)
    · have hw := hw.1 hc
      exact wk_cost_25 C  p1 p2 σ1 _ _ ls hw hM (lv_sub hl [0, 1, 2] rfl)
    · have hw := hw.2 hc
      refine lv_iload_n hx hb dX10_cost_19 rfl (lv_at hl 2 rfl) ?_
      refine lv_bipush (v := 99) hx hb dX10_cost_20 (by decide) ?_
      refine lv_icmp_le (tgt := 29) hx hb dX10_cost_22 (by decide) (fun hc => ?_) (fun hc => ?_)
      · have hw := hw.1 hc
        refine lv_iconst (v := 0) hx hb dX10_cost_29 (by decide) ?_
        exact wk_cost_30 C  p1 p2 0 σ1 _ _ ls hw hM (lv_sub hl [0, 1, 2] rfl)
      · have hw := hw.2 hc
        exact wk_cost_25 C  p1 p2 σ1 _ _ ls hw hM (lv_sub hl [0, 1, 2] rfl)
  · have hw := hw.2 hc
    refine lv_iconst (v := 1) hx hb dX10_cost_9 (by decide) ?_
    refine lv_goto (tgt := 30) hx hb dX10_cost_10 (by decide) ?_
    exact wk_cost_30 C  p1 p2 1 σ1 _ _ ls hw hM (lv_sub hl [0, 1, 2] rfl)
abbrev rm_isBefore : Room := { frames := 0, cells := 0, slots := 0, locals := 0 }
set_option maxHeartbeats 4000000 in
theorem wk_isBefore_59 {p : Program} {l : Launch} {e : Env} {s : State} {m : MethodId} {args : Array Value} {below : List Frame} {meth : Method} {c : Code} {D : va_G} {dA : Nat → ClassId} {ad : Nat → Nat} {σ0 : St} {sz : Nat} (C : CxM p s m meth c args (AM dA ad σ0 sz) RX10 cX10_isBefore 2 (some .boolean)) {Qr : Int32 → St → Prop} : ∀ (u0 : Int32) (σ : St) (H : Heap) (locs : List Loc) (ls : Array Slot), wp_isBefore_59 Qr u0 σ → wM D dA ad (AM dA ad σ0 sz) s σ H locs → lv_has ls 2 [(0, .ref (ad 0))] → W p l e rm_isBefore s m args below meth c H locs 0 0 (MQ below (va_Qi Qr (BM D dA ad (AM dA ad σ0 sz)) (AM dA ad σ0 sz)) args s 0 0 (AM dA ad σ0 sz)) (F0 m 59 ls [.int u0]) := by
  intro u0 σ H locs ls hw hM hl
  have hx := C.1
  have hb := C.2.1
  have hown := C.2.2.2.2.2.1
  have hts := C.2.2.2.2.2.2.1
  unfold wp_isBefore_59 at hw
  exact rM_zret C hM hw dX10_isBefore_59
set_option maxHeartbeats 4000000 in
theorem wk_isBefore_58 {p : Program} {l : Launch} {e : Env} {s : State} {m : MethodId} {args : Array Value} {below : List Frame} {meth : Method} {c : Code} {D : va_G} {dA : Nat → ClassId} {ad : Nat → Nat} {σ0 : St} {sz : Nat} (C : CxM p s m meth c args (AM dA ad σ0 sz) RX10 cX10_isBefore 2 (some .boolean)) {Qr : Int32 → St → Prop} : ∀ (σ : St) (H : Heap) (locs : List Loc) (ls : Array Slot), wp_isBefore_58 Qr σ → wM D dA ad (AM dA ad σ0 sz) s σ H locs → lv_has ls 2 [(0, .ref (ad 0))] → W p l e rm_isBefore s m args below meth c H locs 0 0 (MQ below (va_Qi Qr (BM D dA ad (AM dA ad σ0 sz)) (AM dA ad σ0 sz)) args s 0 0 (AM dA ad σ0 sz)) (F0 m 58 ls []) := by
  intro σ H locs ls hw hM hl
  have hx := C.1
  have hb := C.2.1
  have hown := C.2.2.2.2.2.1
  have hts := C.2.2.2.2.2.2.1
  unfold wp_isBefore_58 at hw
  refine lv_iconst (v := 0) hx hb dX10_isBefore_58 (by decide) ?_
  exact wk_isBefore_59 C  0 σ _ _ ls hw hM (lv_sub hl [0] rfl)
set_option maxHeartbeats 4000000 in
theorem wk_isBefore_31 {p : Program} {l : Launch} {e : Env} {s : State} {m : MethodId} {args : Array Value} {below : List Frame} {meth : Method} {c : Code} {D : va_G} {dA : Nat → ClassId} {ad : Nat → Nat} {σ0 : St} {sz : Nat} (C : CxM p s m meth c args (AM dA ad σ0 sz) RX10 cX10_isBefore 2 (some .boolean)) {Qr : Int32 → St → Prop} : ∀ (v1 : Int32) (σ : St) (H : Heap) (locs : List Loc) (ls : Array Slot), wp_isBefore_31 Qr v1 σ → wM D dA ad (AM dA ad σ0 sz) s σ H locs → lv_has ls 2 [(0, .ref (ad 0)), (1, .int v1)] → W p l e rm_isBefore s m args below meth c H locs 0 0 (MQ below (va_Qi Qr (BM D dA ad (AM dA ad σ0 sz)) (AM dA ad σ0 sz)) args s 0 0 (AM dA ad σ0 sz)) (F0 m 31 ls []) := by
  intro v1 σ H locs ls hw hM hl
  have hx := C.1
  have hb := C.2.1
  have hown := C.2.2.2.2.2.1
  have hts := C.2.2.2.2.2.2.1
  unfold wp_isBefore_31 at hw
  refine lv_iload_n hx hb dX10_isBefore_31 rfl (lv_at hl 1 rfl) ?_
  refine lv_aload_n hx hb dX10_isBefore_32 rfl (lv_at hl 0 rfl) ?_
  refine rM_get C hM 17 (by decide) (fM_17 ad σ) q1407 rfl dX10_isBefore_33 ?_
  refine lv_icmp_ge (tgt := 58) hx hb dX10_isBefore_36 (by decide) (fun hc => ?_) (fun hc => ?_)
  · have hw := hw.1 hc
    exact wk_isBefore_58 C   σ _ _ ls hw hM (lv_sub hl [0] rfl)
  · have hw := hw.2 hc
    refine lv_aload_n hx hb dX10_isBefore_39 rfl (lv_at hl 0 rfl) ?_
    refine rM_get C hM 35 (by decide) (fM_35 ad σ) q1425 rfl dX10_isBefore_40 ?_
    refine lv_iload_n hx hb dX10_isBefore_43 rfl (lv_at hl 1 rfl) ?_
    refine rM_iald C hM 35 21 (wM_35 dA ad σ) hw.1 dX10_isBefore_44 ?_
    have hw := hw.2
    refine lv_aload_n hx hb dX10_isBefore_45 rfl (lv_at hl 0 rfl) ?_
    refine rM_get C hM 29 (by decide) (fM_29 ad σ) q1419 rfl dX10_isBefore_46 ?_
    refine lv_iload_n hx hb dX10_isBefore_49 rfl (lv_at hl 1 rfl) ?_
    refine rM_iald C hM 29 17 (wM_29 dA ad σ) hw.1 dX10_isBefore_50 ?_
    have hw := hw.2
    refine lv_icmp_ge (tgt := 58) hx hb dX10_isBefore_51 (by decide) (fun hc => ?_) (fun hc => ?_)
    · have hw := hw.1 hc
      exact wk_isBefore_58 C   σ _ _ ls hw hM (lv_sub hl [0] rfl)
    · have hw := hw.2 hc
      refine lv_iconst (v := 1) hx hb dX10_isBefore_54 (by decide) ?_
      refine lv_goto (tgt := 59) hx hb dX10_isBefore_55 (by decide) ?_
      exact wk_isBefore_59 C  1 σ _ _ ls hw hM (lv_sub hl [0] rfl)
set_option maxHeartbeats 4000000 in
theorem wk_isBefore_2 {p : Program} {l : Launch} {e : Env} {s : State} {m : MethodId} {args : Array Value} {below : List Frame} {meth : Method} {c : Code} {D : va_G} {dA : Nat → ClassId} {ad : Nat → Nat} {σ0 : St} {sz : Nat} (C : CxM p s m meth c args (AM dA ad σ0 sz) RX10 cX10_isBefore 2 (some .boolean)) {Qr : Int32 → St → Prop} : ∀ (n : Nat) (v1 : Int32) (σ : St) (H : Heap) (locs : List Loc) (ls : Array Slot), wp_isBefore_2 Qr n v1 σ → wM D dA ad (AM dA ad σ0 sz) s σ H locs → lv_has ls 2 [(0, .ref (ad 0)), (1, .int v1)] → W p l e rm_isBefore s m args below meth c H locs 0 0 (MQ below (va_Qi Qr (BM D dA ad (AM dA ad σ0 sz)) (AM dA ad σ0 sz)) args s 0 0 (AM dA ad σ0 sz)) (F0 m 2 ls []) := by
  intro n
  induction n with
  | zero => intro v1 σ H locs ls hw; exact hw.elim
  | succ n2 ih =>
    intro v1 σ H locs ls hw hM hl
    have hx := C.1
    have hb := C.2.1
    have hown := C.2.2.2.2.2.1
    have hts := C.2.2.2.2.2.2.1
    unfold wp_isBefore_2 at hw
    refine lv_iload_n hx hb dX10_isBefore_2 rfl (lv_at hl 1 rfl) ?_
    refine lv_aload_n hx hb dX10_isBefore_3 rfl (lv_at hl 0 rfl) ?_
    refine rM_get C hM 17 (by decide) (fM_17 ad σ) q1407 rfl dX10_isBefore_4 ?_
    refine lv_icmp_ge (tgt := 31) hx hb dX10_isBefore_7 (by decide) (fun hc => ?_) (fun hc => ?_)
    · have hw := hw.1 hc
      exact wk_isBefore_31 C  v1 σ _ _ ls hw hM (lv_sub hl [0, 1] rfl)
    · have hw := hw.2 hc
      refine lv_aload_n hx hb dX10_isBefore_10 rfl (lv_at hl 0 rfl) ?_
      refine rM_get C hM 35 (by decide) (fM_35 ad σ) q1425 rfl dX10_isBefore_11 ?_
      refine lv_iload_n hx hb dX10_isBefore_14 rfl (lv_at hl 1 rfl) ?_
      refine rM_iald C hM 35 21 (wM_35 dA ad σ) hw.1 dX10_isBefore_15 ?_
      have hw := hw.2
      refine lv_aload_n hx hb dX10_isBefore_16 rfl (lv_at hl 0 rfl) ?_
      refine rM_get C hM 29 (by decide) (fM_29 ad σ) q1419 rfl dX10_isBefore_17 ?_
      refine lv_iload_n hx hb dX10_isBefore_20 rfl (lv_at hl 1 rfl) ?_
      refine rM_iald C hM 29 17 (wM_29 dA ad σ) hw.1 dX10_isBefore_21 ?_
      have hw := hw.2
      refine lv_icmp_ne (tgt := 31) hx hb dX10_isBefore_22 (by decide) (fun hc => ?_) (fun hc => ?_)
      · have hw := hw.1 hc
        exact wk_isBefore_31 C  v1 σ _ _ ls hw hM (lv_sub hl [0, 1] rfl)
      · have hw := hw.2 hc
        obtain ⟨x1, ex1⟩ : ∃ y : Int32, y = v1 + 1 := ⟨_, rfl⟩
        have hw := hw x1 ex1
        refine lv_iinc (v := x1) (lv' := [(1, .int x1), (0, .ref (ad 0))]) hx hb dX10_isBefore_25 hl (k := 1) rfl (by rw [ex1]; rfl) (by decide) rfl (fun ls hl => ?_)
        refine lv_goto (tgt := 2) hx hb dX10_isBefore_28 (by decide) ?_
        exact ih x1 σ _ _ ls hw hM (lv_sub hl [1, 0] rfl)
set_option maxHeartbeats 4000000 in
/-- private boolean isBefore(); -/
theorem mt_isBefore (l : Launch) (D : va_G) (dA : Nat → ClassId) (ad : Nat → Nat) (sz : Nat) (σ : St) (Qr : Int32 → St → Prop) (hw : wp_isBefore  σ Qr) : Met l yX10_isBefore (ws_ yX10_isBefore cX10_isBefore 2 (some .boolean)) rm_isBefore (PcM D dA ad σ sz [.ref (ad 0)]) (va_Qi Qr (BM D dA ad (AM dA ad σ sz)) (AM dA ad σ sz)) 0 0 (AM dA ad σ sz) := by
  refine Met.ofW (cc := cX10_isBefore) (maxL := 2) (ret := (some .boolean)) (by decide) rfl ?_
  intro p e s m args below meth c s₁ B hml hv
  obtain ⟨rfl, hsz, hP, hK, hD0⟩ := hv
  subst hsz
  have hts0 := atoms_spec (ws := ws_ yX10_isBefore cX10_isBefore 2 (some .boolean)) B.pre
  have C : CxM p s m meth c _ (AM dA ad σ s.heap.size) RX10 cX10_isBefore 2 (some .boolean) := ⟨B.exec, B.bytes, B.returns, B.notSynchronized, hml, findClass_of_methodNamed B.named, fun w h => hts0 w (List.mem_cons_of_mem _ h), fun q h => Or.inr h⟩
  have hM : wM D dA ad (AM dA ad σ s.heap.size) s σ s.heap [] := ⟨hK, hP, hD0.self, va_S.rf⟩
  have hx := C.1
  have hb := C.2.1
  have hown := C.2.2.2.2.2.1
  have hts := C.2.2.2.2.2.2.1
  have hl := lv_entry ([.ref (ad 0)]) (n := 2) (Nat.le_of_ble_eq_true rfl)
  rw [lg_entry_eq]
  generalize (lg_sl ([.ref (ad 0)]) ++ List.replicate (2 - (lg_sl ([.ref (ad 0)])).length) Slot.unset).toArray = ls at hl ⊢
  have hl : lv_has ls 2 [(0, .ref (ad 0))] := hl
  unfold wp_isBefore at hw
  refine lv_iconst (v := 0) hx hb dX10_isBefore_0 (by decide) ?_
  refine lv_istore_n (lv' := [(1, .int 0), (0, .ref (ad 0))]) hx hb dX10_isBefore_1 rfl hl (by decide) rfl (fun ls hl => ?_)
  obtain ⟨n2, hw⟩ := hw
  exact wk_isBefore_2 C  n2 0 σ _ _ ls hw hM (lv_sub hl [1, 0] rfl)
abbrev rm_best : Room := { frames := 2, cells := 0, slots := 0, locals := 52 }
set_option maxHeartbeats 4000000 in
theorem wk_best_243 {p : Program} {l : Launch} {e : Env} {s : State} {m : MethodId} {args : Array Value} {below : List Frame} {meth : Method} {c : Code} {D : va_G} {dA : Nat → ClassId} {ad : Nat → Nat} {σ0 : St} {sz : Nat} (C : CxM p s m meth c args (AM dA ad σ0 sz) RX10 cX10_best 8 (some .int)) {Qr : Int32 → St → Prop} : ∀ (v3 : Int32) (u1 : Int32) (σ : St) (H : Heap) (locs : List Loc) (ls : Array Slot), wp_best_243 Qr v3 u1 σ → wM D dA ad (AM dA ad σ0 sz) s σ H locs → lv_has ls 8 [(0, .ref (ad 0)), (3, .int v3)] → W p l e rm_best s m args below meth c H locs 0 0 (MQ below (va_Qi Qr (BM D dA ad (AM dA ad σ0 sz)) (AM dA ad σ0 sz)) args s 0 0 (AM dA ad σ0 sz)) (F0 m 243 ls [.int u1, .ref (ad 0)]) := by
  intro v3 u1 σ H locs ls hw hM hl
  have hx := C.1
  have hb := C.2.1
  have hown := C.2.2.2.2.2.1
  have hts := C.2.2.2.2.2.2.1
  unfold wp_best_243 at hw
  refine rM_putI C hM 28 (by decide) (fM_s28 dA ad σ _) q1418 rfl rfl (tyX10_ok 28 (by decide)) (isB_n hw.1) (isB_f hw.1) dX10_best_243 (fun σ1 H locs eσ hM => ?_)
  have hw := hw.2
  have hw := hw σ1 eσ
  clear eσ
  refine lv_iload_n hx hb dX10_best_246 rfl (lv_at hl 1 rfl) ?_
  exact rM_iret C hM hw dX10_best_247
set_option maxHeartbeats 4000000 in
theorem wk_best_238 {p : Program} {l : Launch} {e : Env} {s : State} {m : MethodId} {args : Array Value} {below : List Frame} {meth : Method} {c : Code} {D : va_G} {dA : Nat → ClassId} {ad : Nat → Nat} {σ0 : St} {sz : Nat} (C : CxM p s m meth c args (AM dA ad σ0 sz) RX10 cX10_best 8 (some .int)) {Qr : Int32 → St → Prop} : ∀ (v3 : Int32) (σ : St) (H : Heap) (locs : List Loc) (ls : Array Slot), wp_best_238 Qr v3 σ → wM D dA ad (AM dA ad σ0 sz) s σ H locs → lv_has ls 8 [(0, .ref (ad 0)), (3, .int v3)] → W p l e rm_best s m args below meth c H locs 0 0 (MQ below (va_Qi Qr (BM D dA ad (AM dA ad σ0 sz)) (AM dA ad σ0 sz)) args s 0 0 (AM dA ad σ0 sz)) (F0 m 238 ls [.ref (ad 0)]) := by
  intro v3 σ H locs ls hw hM hl
  have hx := C.1
  have hb := C.2.1
  have hown := C.2.2.2.2.2.1
  have hts := C.2.2.2.2.2.2.1
  unfold wp_best_238 at hw
  refine lv_iconst (v := 1) hx hb dX10_best_238 (by decide) ?_
  refine lv_goto (tgt := 243) hx hb dX10_best_239 (by decide) ?_
  exact wk_best_243 C  v3 1 σ _ _ ls hw hM (lv_sub hl [0, 1] rfl)
set_option maxHeartbeats 4000000 in
theorem wk_best_223 {p : Program} {l : Launch} {e : Env} {s : State} {m : MethodId} {args : Array Value} {below : List Frame} {meth : Method} {c : Code} {D : va_G} {dA : Nat → ClassId} {ad : Nat → Nat} {σ0 : St} {sz : Nat} (C : CxM p s m meth c args (AM dA ad σ0 sz) RX10 cX10_best 8 (some .int)) {Qr : Int32 → St → Prop} : ∀ (v2 : Int32) (v3 : Int32) (u1 : Int32) (σ : St) (H : Heap) (locs : List Loc) (ls : Array Slot), wp_best_223 Qr v2 v3 u1 σ → wM D dA ad (AM dA ad σ0 sz) s σ H locs → lv_has ls 8 [(0, .ref (ad 0)), (2, .int v2), (3, .int v3)] → W p l e rm_best s m args below meth c H locs 0 0 (MQ below (va_Qi Qr (BM D dA ad (AM dA ad σ0 sz)) (AM dA ad σ0 sz)) args s 0 0 (AM dA ad σ0 sz)) (F0 m 223 ls [.int u1, .ref (ad 0)]) := by
  intro v2 v3 u1 σ H locs ls hw hM hl
  have hx := C.1
  have hb := C.2.1
  have hown := C.2.2.2.2.2.1
  have hts := C.2.2.2.2.2.2.1
  unfold wp_best_223 at hw
  refine rM_putI C hM 0 (by decide) (fM_s0 dA ad σ _) q1390 rfl rfl (tyX10_ok 0 (by decide)) rfl rfl dX10_best_223 (fun σ1 H locs eσ hM => ?_)
  have hw := hw σ1 eσ
  clear eσ
  refine lv_aload_n hx hb dX10_best_226 rfl (lv_at hl 0 rfl) ?_
  refine lv_aload_n hx hb dX10_best_227 rfl (lv_at hl 0 rfl) ?_
  refine rM_get C hM 28 (by decide) (fM_28 ad σ1) q1418 rfl dX10_best_228 ?_
  refine lv_if_ne (tgt := 238) hx hb dX10_best_231 (by decide) (fun hc => ?_) (fun hc => ?_)
  · have hw := hw.1 hc
    exact wk_best_238 C  v3 σ1 _ _ ls hw hM (lv_sub hl [0, 2] rfl)
  · have hw := hw.2 hc
    refine lv_iload_n hx hb dX10_best_234 rfl (lv_at hl 1 rfl) ?_
    refine lv_if_eq (tgt := 242) hx hb dX10_best_235 (by decide) (fun hc => ?_) (fun hc => ?_)
    · have hw := hw.1 hc
      refine lv_iconst (v := 0) hx hb dX10_best_242 (by decide) ?_
      exact wk_best_243 C  v3 0 σ1 _ _ ls hw hM (lv_sub hl [0, 2] rfl)
    · have hw := hw.2 hc
      exact wk_best_238 C  v3 σ1 _ _ ls hw hM (lv_sub hl [0, 2] rfl)
set_option maxHeartbeats 4000000 in
theorem wk_best_202 {p : Program} {l : Launch} {e : Env} {s : State} {m : MethodId} {args : Array Value} {below : List Frame} {meth : Method} {c : Code} {D : va_G} {dA : Nat → ClassId} {ad : Nat → Nat} {σ0 : St} {sz : Nat} (C : CxM p s m meth c args (AM dA ad σ0 sz) RX10 cX10_best 8 (some .int)) {Qr : Int32 → St → Prop} {K46 : Int32 → Int32 → Int32 → Int32 → St → Prop} (hK46 : ∀ (v1 : Int32) (v2 : Int32) (v3 : Int32) (v4 : Int32) (σ : St) (H : Heap) (locs : List Loc) (ls : Array Slot), K46 v1 v2 v3 v4 σ → wM D dA ad (AM dA ad σ0 sz) s σ H locs → lv_has ls 8 [(0, .ref (ad 0)), (1, .int v1), (2, .int v2), (3, .int v3), (4, .int v4)] → W p l e rm_best s m args below meth c H locs 0 0 (MQ below (va_Qi Qr (BM D dA ad (AM dA ad σ0 sz)) (AM dA ad σ0 sz)) args s 0 0 (AM dA ad σ0 sz)) (F0 m 46 ls [])) {K66 : Int32 → Int32 → Int32 → Int32 → Int32 → St → Prop} (hK66 : ∀ (v1 : Int32) (v2 : Int32) (v3 : Int32) (v4 : Int32) (v5 : Int32) (σ : St) (H : Heap) (locs : List Loc) (ls : Array Slot), K66 v1 v2 v3 v4 v5 σ → wM D dA ad (AM dA ad σ0 sz) s σ H locs → lv_has ls 8 [(0, .ref (ad 0)), (1, .int v1), (2, .int v2), (3, .int v3), (4, .int v4), (5, .int v5)] → W p l e rm_best s m args below meth c H locs 0 0 (MQ below (va_Qi Qr (BM D dA ad (AM dA ad σ0 sz)) (AM dA ad σ0 sz)) args s 0 0 (AM dA ad σ0 sz)) (F0 m 66 ls [])) : ∀ (v1 : Int32) (v2 : Int32) (v3 : Int32) (v4 : Int32) (u0 : Int32) (σ : St) (H : Heap) (locs : List Loc) (ls : Array Slot), wp_best_202 Qr K46 K66 v1 v2 v3 v4 u0 σ → wM D dA ad (AM dA ad σ0 sz) s σ H locs → lv_has ls 8 [(0, .ref (ad 0)), (1, .int v1), (2, .int v2), (3, .int v3), (4, .int v4)] → W p l e rm_best s m args below meth c H locs 0 0 (MQ below (va_Qi Qr (BM D dA ad (AM dA ad σ0 sz)) (AM dA ad σ0 sz)) args s 0 0 (AM dA ad σ0 sz)) (F0 m 202 ls [.int u0]) := by
  intro v1 v2 v3 v4 u0 σ H locs ls hw hM hl
  have hx := C.1
  have hb := C.2.1
  have hown := C.2.2.2.2.2.1
  have hts := C.2.2.2.2.2.2.1
  unfold wp_best_202 at hw
  refine lv_istore (lv' := [(5, .int u0), (0, .ref (ad 0)), (1, .int v1), (2, .int v2), (3, .int v3), (4, .int v4)]) hx hb dX10_best_202 hl (by decide) rfl (fun ls hl => ?_)
  refine lv_goto (tgt := 66) hx hb dX10_best_204 (by decide) ?_
  exact hK66 v1 v2 v3 v4 u0 σ _ _ ls hw hM (lv_sub hl [1, 2, 3, 4, 5, 0] rfl)
set_option maxHeartbeats 4000000 in
theorem wk_best_201 {p : Program} {l : Launch} {e : Env} {s : State} {m : MethodId} {args : Array Value} {below : List Frame} {meth : Method} {c : Code} {D : va_G} {dA : Nat → ClassId} {ad : Nat → Nat} {σ0 : St} {sz : Nat} (C : CxM p s m meth c args (AM dA ad σ0 sz) RX10 cX10_best 8 (some .int)) {Qr : Int32 → St → Prop} {K46 : Int32 → Int32 → Int32 → Int32 → St → Prop} (hK46 : ∀ (v1 : Int32) (v2 : Int32) (v3 : Int32) (v4 : Int32) (σ : St) (H : Heap) (locs : List Loc) (ls : Array Slot), K46 v1 v2 v3 v4 σ → wM D dA ad (AM dA ad σ0 sz) s σ H locs → lv_has ls 8 [(0, .ref (ad 0)), (1, .int v1), (2, .int v2), (3, .int v3), (4, .int v4)] → W p l e rm_best s m args below meth c H locs 0 0 (MQ below (va_Qi Qr (BM D dA ad (AM dA ad σ0 sz)) (AM dA ad σ0 sz)) args s 0 0 (AM dA ad σ0 sz)) (F0 m 46 ls [])) {K66 : Int32 → Int32 → Int32 → Int32 → Int32 → St → Prop} (hK66 : ∀ (v1 : Int32) (v2 : Int32) (v3 : Int32) (v4 : Int32) (v5 : Int32) (σ : St) (H : Heap) (locs : List Loc) (ls : Array Slot), K66 v1 v2 v3 v4 v5 σ → wM D dA ad (AM dA ad σ0 sz) s σ H locs → lv_has ls 8 [(0, .ref (ad 0)), (1, .int v1), (2, .int v2), (3, .int v3), (4, .int v4), (5, .int v5)] → W p l e rm_best s m args below meth c H locs 0 0 (MQ below (va_Qi Qr (BM D dA ad (AM dA ad σ0 sz)) (AM dA ad σ0 sz)) args s 0 0 (AM dA ad σ0 sz)) (F0 m 66 ls [])) : ∀ (v1 : Int32) (v2 : Int32) (v3 : Int32) (v4 : Int32) (σ : St) (H : Heap) (locs : List Loc) (ls : Array Slot), wp_best_201 Qr K46 K66 v1 v2 v3 v4 σ → wM D dA ad (AM dA ad σ0 sz) s σ H locs → lv_has ls 8 [(0, .ref (ad 0)), (1, .int v1), (2, .int v2), (3, .int v3), (4, .int v4)] → W p l e rm_best s m args below meth c H locs 0 0 (MQ below (va_Qi Qr (BM D dA ad (AM dA ad σ0 sz)) (AM dA ad σ0 sz)) args s 0 0 (AM dA ad σ0 sz)) (F0 m 201 ls []) := by
  intro v1 v2 v3 v4 σ H locs ls hw hM hl
  have hx := C.1
  have hb := C.2.1
  have hown := C.2.2.2.2.2.1
  have hts := C.2.2.2.2.2.2.1
  unfold wp_best_201 at hw
  refine lv_iconst (v := 0) hx hb dX10_best_201 (by decide) ?_
  exact wk_best_202 C hK46 hK66 v1 v2 v3 v4 0 σ _ _ ls hw hM (lv_sub hl [0, 1, 2, 3, 4] rfl)
set_option maxHeartbeats 4000000 in
theorem wk_best_184 {p : Program} {l : Launch} {e : Env} {s : State} {m : MethodId} {args : Array Value} {below : List Frame} {meth : Method} {c : Code} {D : va_G} {dA : Nat → ClassId} {ad : Nat → Nat} {σ0 : St} {sz : Nat} (C : CxM p s m meth c args (AM dA ad σ0 sz) RX10 cX10_best 8 (some .int)) {Qr : Int32 → St → Prop} {K46 : Int32 → Int32 → Int32 → Int32 → St → Prop} (hK46 : ∀ (v1 : Int32) (v2 : Int32) (v3 : Int32) (v4 : Int32) (σ : St) (H : Heap) (locs : List Loc) (ls : Array Slot), K46 v1 v2 v3 v4 σ → wM D dA ad (AM dA ad σ0 sz) s σ H locs → lv_has ls 8 [(0, .ref (ad 0)), (1, .int v1), (2, .int v2), (3, .int v3), (4, .int v4)] → W p l e rm_best s m args below meth c H locs 0 0 (MQ below (va_Qi Qr (BM D dA ad (AM dA ad σ0 sz)) (AM dA ad σ0 sz)) args s 0 0 (AM dA ad σ0 sz)) (F0 m 46 ls [])) {K66 : Int32 → Int32 → Int32 → Int32 → Int32 → St → Prop} (hK66 : ∀ (v1 : Int32) (v2 : Int32) (v3 : Int32) (v4 : Int32) (v5 : Int32) (σ : St) (H : Heap) (locs : List Loc) (ls : Array Slot), K66 v1 v2 v3 v4 v5 σ → wM D dA ad (AM dA ad σ0 sz) s σ H locs → lv_has ls 8 [(0, .ref (ad 0)), (1, .int v1), (2, .int v2), (3, .int v3), (4, .int v4), (5, .int v5)] → W p l e rm_best s m args below meth c H locs 0 0 (MQ below (va_Qi Qr (BM D dA ad (AM dA ad σ0 sz)) (AM dA ad σ0 sz)) args s 0 0 (AM dA ad σ0 sz)) (F0 m 66 ls [])) : ∀ (v1 : Int32) (v2 : Int32) (v3 : Int32) (v4 : Int32) (σ : St) (H : Heap) (locs : List Loc) (ls : Array Slot), wp_best_184 Qr K46 K66 v1 v2 v3 v4 σ → wM D dA ad (AM dA ad σ0 sz) s σ H locs → lv_has ls 8 [(0, .ref (ad 0)), (1, .int v1), (2, .int v2), (3, .int v3), (4, .int v4)] → W p l e rm_best s m args below meth c H locs 0 0 (MQ below (va_Qi Qr (BM D dA ad (AM dA ad σ0 sz)) (AM dA ad σ0 sz)) args s 0 0 (AM dA ad σ0 sz)) (F0 m 184 ls []) := by
  intro v1 v2 v3 v4 σ H locs ls hw hM hl
  have hx := C.1
  have hb := C.2.1
  have hown := C.2.2.2.2.2.1
  have hts := C.2.2.2.2.2.2.1
  unfold wp_best_184 at hw
  refine lv_iload hx hb dX10_best_184 (lv_at hl 4 rfl) ?_
  refine lv_if_le (tgt := 201) hx hb dX10_best_186 (by decide) (fun hc => ?_) (fun hc => ?_)
  · have hw := hw.1 hc
    exact wk_best_201 C hK46 hK66 v1 v2 v3 v4 σ _ _ ls hw hM (lv_sub hl [0, 1, 2, 3, 4] rfl)
  · have hw := hw.2 hc
    refine lv_aload_n hx hb dX10_best_189 rfl (lv_at hl 0 rfl) ?_
    refine lv_iconst (v := 0) hx hb dX10_best_190 (by decide) ?_
    refine rM_callVi (n := 1) (As := [.int 0]) C hM hl.1 (mt_next l D dA ad _ σ 0 _ hw) (lw_V q1646 q1648 qs70 q93 q1649) rfl rfl (by decide +kernel) ⟨Nat.le_of_ble_eq_true rfl, Nat.le_of_ble_eq_true rfl⟩ rfl (Nat.le_of_ble_eq_true rfl) ⟨Nat.zero_le _, Nat.zero_le _⟩ rfl dX10_best_191 (fun x2 σ1 H locs hw hM => ?_)
    refine lv_if_eq (tgt := 201) hx hb dX10_best_194 (by decide) (fun hc => ?_) (fun hc => ?_)
    · have hw := hw.1 hc
      exact wk_best_201 C hK46 hK66 v1 v2 v3 v4 σ1 _ _ ls hw hM (lv_sub hl [0, 1, 2, 3, 4] rfl)
    · have hw := hw.2 hc
      refine lv_iconst (v := 1) hx hb dX10_best_197 (by decide) ?_
      refine lv_goto (tgt := 202) hx hb dX10_best_198 (by decide) ?_
      exact wk_best_202 C hK46 hK66 v1 v2 v3 v4 1 σ1 _ _ ls hw hM (lv_sub hl [0, 1, 2, 3, 4] rfl)
set_option maxHeartbeats 4000000 in
theorem wk_best_150 {p : Program} {l : Launch} {e : Env} {s : State} {m : MethodId} {args : Array Value} {below : List Frame} {meth : Method} {c : Code} {D : va_G} {dA : Nat → ClassId} {ad : Nat → Nat} {σ0 : St} {sz : Nat} (C : CxM p s m meth c args (AM dA ad σ0 sz) RX10 cX10_best 8 (some .int)) {Qr : Int32 → St → Prop} {K46 : Int32 → Int32 → Int32 → Int32 → St → Prop} (hK46 : ∀ (v1 : Int32) (v2 : Int32) (v3 : Int32) (v4 : Int32) (σ : St) (H : Heap) (locs : List Loc) (ls : Array Slot), K46 v1 v2 v3 v4 σ → wM D dA ad (AM dA ad σ0 sz) s σ H locs → lv_has ls 8 [(0, .ref (ad 0)), (1, .int v1), (2, .int v2), (3, .int v3), (4, .int v4)] → W p l e rm_best s m args below meth c H locs 0 0 (MQ below (va_Qi Qr (BM D dA ad (AM dA ad σ0 sz)) (AM dA ad σ0 sz)) args s 0 0 (AM dA ad σ0 sz)) (F0 m 46 ls [])) {K66 : Int32 → Int32 → Int32 → Int32 → Int32 → St → Prop} (hK66 : ∀ (v1 : Int32) (v2 : Int32) (v3 : Int32) (v4 : Int32) (v5 : Int32) (σ : St) (H : Heap) (locs : List Loc) (ls : Array Slot), K66 v1 v2 v3 v4 v5 σ → wM D dA ad (AM dA ad σ0 sz) s σ H locs → lv_has ls 8 [(0, .ref (ad 0)), (1, .int v1), (2, .int v2), (3, .int v3), (4, .int v4), (5, .int v5)] → W p l e rm_best s m args below meth c H locs 0 0 (MQ below (va_Qi Qr (BM D dA ad (AM dA ad σ0 sz)) (AM dA ad σ0 sz)) args s 0 0 (AM dA ad σ0 sz)) (F0 m 66 ls [])) : ∀ (n : Nat) (v1 : Int32) (v4 : Int32) (v6 : Int32) (v7 : Int32) (σ : St) (H : Heap) (locs : List Loc) (ls : Array Slot), wp_best_150 Qr K46 K66 n v1 v4 v6 v7 σ → wM D dA ad (AM dA ad σ0 sz) s σ H locs → lv_has ls 8 [(0, .ref (ad 0)), (1, .int v1), (4, .int v4), (6, .int v6), (7, .int v7)] → W p l e rm_best s m args below meth c H locs 0 0 (MQ below (va_Qi Qr (BM D dA ad (AM dA ad σ0 sz)) (AM dA ad σ0 sz)) args s 0 0 (AM dA ad σ0 sz)) (F0 m 150 ls []) := by
  intro n
  induction n with
  | zero => intro v1 v4 v6 v7 σ H locs ls hw; exact hw.elim
  | succ n150 ih =>
    intro v1 v4 v6 v7 σ H locs ls hw hM hl
    have hx := C.1
    have hb := C.2.1
    have hown := C.2.2.2.2.2.1
    have hts := C.2.2.2.2.2.2.1
    unfold wp_best_150 at hw
    refine lv_iload hx hb dX10_best_150 (lv_at hl 4 rfl) ?_
    refine lv_aload_n hx hb dX10_best_152 rfl (lv_at hl 0 rfl) ?_
    refine rM_get C hM 17 (by decide) (fM_17 ad σ) q1407 rfl dX10_best_153 ?_
    refine lv_icmp_ge (tgt := 179) hx hb dX10_best_156 (by decide) (fun hc => ?_) (fun hc => ?_)
    · have hw := hw.1 hc
      refine lv_iload hx hb dX10_best_179 (lv_at hl 3 rfl) ?_
      refine lv_istore_n (lv' := [(3, .int v6), (0, .ref (ad 0)), (1, .int v1), (4, .int v4), (6, .int v6), (7, .int v7)]) hx hb dX10_best_181 rfl hl (by decide) rfl (fun ls hl => ?_)
      refine lv_iconst (v := 1) hx hb dX10_best_182 (by decide) ?_
      refine lv_istore_n (lv' := [(2, .int 1), (3, .int v6), (0, .ref (ad 0)), (1, .int v1), (4, .int v4), (6, .int v6), (7, .int v7)]) hx hb dX10_best_183 rfl hl (by decide) rfl (fun ls hl => ?_)
      exact wk_best_184 C hK46 hK66 v1 1 v6 v4 σ _ _ ls hw hM (lv_sub hl [2, 3, 0, 1, 4] rfl)
    · have hw := hw.2 hc
      refine lv_aload_n hx hb dX10_best_159 rfl (lv_at hl 0 rfl) ?_
      refine rM_get C hM 29 (by decide) (fM_29 ad σ) q1419 rfl dX10_best_160 ?_
      refine lv_iload hx hb dX10_best_163 (lv_at hl 4 rfl) ?_
      refine lv_aload_n hx hb dX10_best_165 rfl (lv_at hl 0 rfl) ?_
      refine rM_get C hM 35 (by decide) (fM_35 ad σ) q1425 rfl dX10_best_166 ?_
      refine lv_iload hx hb dX10_best_169 (lv_at hl 4 rfl) ?_
      refine rM_iald C hM 35 21 (wM_35 dA ad σ) hw.1 dX10_best_171 ?_
      have hw := hw.2
      refine rM_iast C hM 29 17 (wM_29 dA ad σ) (wM_s29 dA ad σ _ _) hw.1 dX10_best_172 (fun σ1 H locs eσ hM => ?_)
      have hw := hw.2 σ1 eσ
      clear eσ
      obtain ⟨x2, ex2⟩ : ∃ y : Int32, y = v7 + 1 := ⟨_, rfl⟩
      have hw := hw x2 ex2
      refine lv_iinc (v := x2) (lv' := [(7, .int x2), (0, .ref (ad 0)), (1, .int v1), (4, .int v4), (6, .int v6)]) hx hb dX10_best_173 hl (k := 4) rfl (by rw [ex2]; rfl) (by decide) rfl (fun ls hl => ?_)
      refine lv_goto (tgt := 150) hx hb dX10_best_176 (by decide) ?_
      exact ih v1 v4 v6 x2 σ1 _ _ ls hw hM (lv_sub hl [1, 2, 3, 4, 0] rfl)
set_option maxHeartbeats 4000000 in
theorem wk_best_147 {p : Program} {l : Launch} {e : Env} {s : State} {m : MethodId} {args : Array Value} {below : List Frame} {meth : Method} {c : Code} {D : va_G} {dA : Nat → ClassId} {ad : Nat → Nat} {σ0 : St} {sz : Nat} (C : CxM p s m meth c args (AM dA ad σ0 sz) RX10 cX10_best 8 (some .int)) {Qr : Int32 → St → Prop} {K46 : Int32 → Int32 → Int32 → Int32 → St → Prop} (hK46 : ∀ (v1 : Int32) (v2 : Int32) (v3 : Int32) (v4 : Int32) (σ : St) (H : Heap) (locs : List Loc) (ls : Array Slot), K46 v1 v2 v3 v4 σ → wM D dA ad (AM dA ad σ0 sz) s σ H locs → lv_has ls 8 [(0, .ref (ad 0)), (1, .int v1), (2, .int v2), (3, .int v3), (4, .int v4)] → W p l e rm_best s m args below meth c H locs 0 0 (MQ below (va_Qi Qr (BM D dA ad (AM dA ad σ0 sz)) (AM dA ad σ0 sz)) args s 0 0 (AM dA ad σ0 sz)) (F0 m 46 ls [])) {K66 : Int32 → Int32 → Int32 → Int32 → Int32 → St → Prop} (hK66 : ∀ (v1 : Int32) (v2 : Int32) (v3 : Int32) (v4 : Int32) (v5 : Int32) (σ : St) (H : Heap) (locs : List Loc) (ls : Array Slot), K66 v1 v2 v3 v4 v5 σ → wM D dA ad (AM dA ad σ0 sz) s σ H locs → lv_has ls 8 [(0, .ref (ad 0)), (1, .int v1), (2, .int v2), (3, .int v3), (4, .int v4), (5, .int v5)] → W p l e rm_best s m args below meth c H locs 0 0 (MQ below (va_Qi Qr (BM D dA ad (AM dA ad σ0 sz)) (AM dA ad σ0 sz)) args s 0 0 (AM dA ad σ0 sz)) (F0 m 66 ls [])) : ∀ (v1 : Int32) (v4 : Int32) (v6 : Int32) (σ : St) (H : Heap) (locs : List Loc) (ls : Array Slot), wp_best_147 Qr K46 K66 v1 v4 v6 σ → wM D dA ad (AM dA ad σ0 sz) s σ H locs → lv_has ls 8 [(0, .ref (ad 0)), (1, .int v1), (4, .int v4), (6, .int v6)] → W p l e rm_best s m args below meth c H locs 0 0 (MQ below (va_Qi Qr (BM D dA ad (AM dA ad σ0 sz)) (AM dA ad σ0 sz)) args s 0 0 (AM dA ad σ0 sz)) (F0 m 147 ls []) := by
  intro v1 v4 v6 σ H locs ls hw hM hl
  have hx := C.1
  have hb := C.2.1
  have hown := C.2.2.2.2.2.1
  have hts := C.2.2.2.2.2.2.1
  unfold wp_best_147 at hw
  refine lv_iconst (v := 0) hx hb dX10_best_147 (by decide) ?_
  refine lv_istore (lv' := [(7, .int 0), (0, .ref (ad 0)), (1, .int v1), (4, .int v4), (6, .int v6)]) hx hb dX10_best_148 hl (by decide) rfl (fun ls hl => ?_)
  obtain ⟨n150, hw⟩ := hw
  exact wk_best_150 C hK46 hK66 n150 v1 v4 v6 0 σ _ _ ls hw hM (lv_sub hl [1, 2, 3, 4, 0] rfl)
set_option maxHeartbeats 4000000 in
theorem wk_best_89 {p : Program} {l : Launch} {e : Env} {s : State} {m : MethodId} {args : Array Value} {below : List Frame} {meth : Method} {c : Code} {D : va_G} {dA : Nat → ClassId} {ad : Nat → Nat} {σ0 : St} {sz : Nat} (C : CxM p s m meth c args (AM dA ad σ0 sz) RX10 cX10_best 8 (some .int)) {Qr : Int32 → St → Prop} {K46 : Int32 → Int32 → Int32 → Int32 → St → Prop} (hK46 : ∀ (v1 : Int32) (v2 : Int32) (v3 : Int32) (v4 : Int32) (σ : St) (H : Heap) (locs : List Loc) (ls : Array Slot), K46 v1 v2 v3 v4 σ → wM D dA ad (AM dA ad σ0 sz) s σ H locs → lv_has ls 8 [(0, .ref (ad 0)), (1, .int v1), (2, .int v2), (3, .int v3), (4, .int v4)] → W p l e rm_best s m args below meth c H locs 0 0 (MQ below (va_Qi Qr (BM D dA ad (AM dA ad σ0 sz)) (AM dA ad σ0 sz)) args s 0 0 (AM dA ad σ0 sz)) (F0 m 46 ls [])) {K66 : Int32 → Int32 → Int32 → Int32 → Int32 → St → Prop} (hK66 : ∀ (v1 : Int32) (v2 : Int32) (v3 : Int32) (v4 : Int32) (v5 : Int32) (σ : St) (H : Heap) (locs : List Loc) (ls : Array Slot), K66 v1 v2 v3 v4 v5 σ → wM D dA ad (AM dA ad σ0 sz) s σ H locs → lv_has ls 8 [(0, .ref (ad 0)), (1, .int v1), (2, .int v2), (3, .int v3), (4, .int v4), (5, .int v5)] → W p l e rm_best s m args below meth c H locs 0 0 (MQ below (va_Qi Qr (BM D dA ad (AM dA ad σ0 sz)) (AM dA ad σ0 sz)) args s 0 0 (AM dA ad σ0 sz)) (F0 m 66 ls [])) : ∀ (n : Nat) (v1 : Int32) (v2 : Int32) (v3 : Int32) (v4 : Int32) (v6 : Int32) (v7 : Int32) (σ : St) (H : Heap) (locs : List Loc) (ls : Array Slot), wp_best_89 Qr K46 K66 n v1 v2 v3 v4 v6 v7 σ → wM D dA ad (AM dA ad σ0 sz) s σ H locs → lv_has ls 8 [(0, .ref (ad 0)), (1, .int v1), (2, .int v2), (3, .int v3), (4, .int v4), (6, .int v6), (7, .int v7)] → W p l e rm_best s m args below meth c H locs 0 0 (MQ below (va_Qi Qr (BM D dA ad (AM dA ad σ0 sz)) (AM dA ad σ0 sz)) args s 0 0 (AM dA ad σ0 sz)) (F0 m 89 ls []) := by
  intro n
  induction n with
  | zero => intro v1 v2 v3 v4 v6 v7 σ H locs ls hw; exact hw.elim
  | succ n89 ih =>
    intro v1 v2 v3 v4 v6 v7 σ H locs ls hw hM hl
    have hx := C.1
    have hb := C.2.1
    have hown := C.2.2.2.2.2.1
    have hts := C.2.2.2.2.2.2.1
    unfold wp_best_89 at hw
    refine lv_iload hx hb dX10_best_89 (lv_at hl 6 rfl) ?_
    refine lv_aload_n hx hb dX10_best_91 rfl (lv_at hl 0 rfl) ?_
    refine rM_get C hM 17 (by decide) (fM_17 ad σ) q1407 rfl dX10_best_92 ?_
    refine lv_icmp_ge (tgt := 124) hx hb dX10_best_95 (by decide) (fun hc => ?_) (fun hc => ?_)
    · have hw := hw.1 hc
      refine lv_iload_n hx hb dX10_best_124 rfl (lv_at hl 2 rfl) ?_
      refine lv_if_eq (tgt := 147) hx hb dX10_best_125 (by decide) (fun hc => ?_) (fun hc => ?_)
      · have hw := hw.1 hc
        exact wk_best_147 C hK46 hK66 v1 v4 v6 σ _ _ ls hw hM (lv_sub hl [0, 1, 4, 5] rfl)
      · have hw := hw.2 hc
        refine lv_iload hx hb dX10_best_128 (lv_at hl 5 rfl) ?_
        refine lv_iload_n hx hb dX10_best_130 rfl (lv_at hl 3 rfl) ?_
        refine lv_icmp_lt (tgt := 147) hx hb dX10_best_131 (by decide) (fun hc => ?_) (fun hc => ?_)
        · have hw := hw.1 hc
          exact wk_best_147 C hK46 hK66 v1 v4 v6 σ _ _ ls hw hM (lv_sub hl [0, 1, 4, 5] rfl)
        · have hw := hw.2 hc
          refine lv_iload hx hb dX10_best_134 (lv_at hl 5 rfl) ?_
          refine lv_iload_n hx hb dX10_best_136 rfl (lv_at hl 3 rfl) ?_
          refine lv_icmp_ne (tgt := 184) hx hb dX10_best_137 (by decide) (fun hc => ?_) (fun hc => ?_)
          · have hw := hw.1 hc
            exact wk_best_184 C hK46 hK66 v1 v2 v3 v4 σ _ _ ls hw hM (lv_sub hl [0, 1, 2, 3, 4] rfl)
          · have hw := hw.2 hc
            refine lv_aload_n hx hb dX10_best_140 rfl (lv_at hl 0 rfl) ?_
            refine rM_callVi (n := 0) (As := []) C hM hl.1 (mt_isBefore l D dA ad _ σ  _ hw) (lw_V q1686 q1688 qs73 q93 q1689) rfl rfl (by decide +kernel) ⟨Nat.le_of_ble_eq_true rfl, Nat.le_of_ble_eq_true rfl⟩ rfl (Nat.le_of_ble_eq_true rfl) ⟨Nat.zero_le _, Nat.zero_le _⟩ rfl dX10_best_141 (fun x2 σ1 H locs hw hM => ?_)
            refine lv_if_eq (tgt := 184) hx hb dX10_best_144 (by decide) (fun hc => ?_) (fun hc => ?_)
            · have hw := hw.1 hc
              exact wk_best_184 C hK46 hK66 v1 v2 v3 v4 σ1 _ _ ls hw hM (lv_sub hl [0, 1, 2, 3, 4] rfl)
            · have hw := hw.2 hc
              exact wk_best_147 C hK46 hK66 v1 v4 v6 σ1 _ _ ls hw hM (lv_sub hl [0, 1, 4, 5] rfl)
    · have hw := hw.2 hc
      refine lv_iload hx hb dX10_best_98 (lv_at hl 5 rfl) ?_
      refine lv_aload_n hx hb dX10_best_100 rfl (lv_at hl 0 rfl) ?_
      refine rM_get C hM 25 (by decide) (fM_25 ad σ) q1415 rfl dX10_best_101 ?_
      refine lv_iload hx hb dX10_best_104 (lv_at hl 6 rfl) ?_
      refine rM_iald C hM 25 15 (wM_25 dA ad σ) hw.1 dX10_best_106 ?_
      have hw := hw.2
      refine lv_aload_n hx hb dX10_best_107 rfl (lv_at hl 0 rfl) ?_
      refine rM_get C hM 35 (by decide) (fM_35 ad σ) q1425 rfl dX10_best_108 ?_
      refine lv_iload hx hb dX10_best_111 (lv_at hl 6 rfl) ?_
      refine rM_iald C hM 35 21 (wM_35 dA ad σ) hw.1 dX10_best_113 ?_
      have hw := hw.2
      refine lv_imul hx hb dX10_best_114 ?_
      refine lv_iadd hx hb dX10_best_115 ?_
      refine lv_topi (fun x3 ex3 => ?_)
      have hw := hw x3 ex3
      refine lv_istore (lv' := [(6, .int x3), (0, .ref (ad 0)), (1, .int v1), (2, .int v2), (3, .int v3), (4, .int v4), (7, .int v7)]) hx hb dX10_best_116 hl (by decide) rfl (fun ls hl => ?_)
      obtain ⟨x4, ex4⟩ : ∃ y : Int32, y = v7 + 1 := ⟨_, rfl⟩
      have hw := hw x4 ex4
      refine lv_iinc (v := x4) (lv' := [(7, .int x4), (6, .int x3), (0, .ref (ad 0)), (1, .int v1), (2, .int v2), (3, .int v3), (4, .int v4)]) hx hb dX10_best_118 hl (k := 6) rfl (by rw [ex4]; rfl) (by decide) rfl (fun ls hl => ?_)
      refine lv_goto (tgt := 89) hx hb dX10_best_121 (by decide) ?_
      exact ih v1 v2 v3 v4 x3 x4 σ _ _ ls hw hM (lv_sub hl [2, 3, 4, 5, 6, 1, 0] rfl)
set_option maxHeartbeats 4000000 in
theorem wk_best_66 {p : Program} {l : Launch} {e : Env} {s : State} {m : MethodId} {args : Array Value} {below : List Frame} {meth : Method} {c : Code} {D : va_G} {dA : Nat → ClassId} {ad : Nat → Nat} {σ0 : St} {sz : Nat} (C : CxM p s m meth c args (AM dA ad σ0 sz) RX10 cX10_best 8 (some .int)) {Qr : Int32 → St → Prop} {K46 : Int32 → Int32 → Int32 → Int32 → St → Prop} (hK46 : ∀ (v1 : Int32) (v2 : Int32) (v3 : Int32) (v4 : Int32) (σ : St) (H : Heap) (locs : List Loc) (ls : Array Slot), K46 v1 v2 v3 v4 σ → wM D dA ad (AM dA ad σ0 sz) s σ H locs → lv_has ls 8 [(0, .ref (ad 0)), (1, .int v1), (2, .int v2), (3, .int v3), (4, .int v4)] → W p l e rm_best s m args below meth c H locs 0 0 (MQ below (va_Qi Qr (BM D dA ad (AM dA ad σ0 sz)) (AM dA ad σ0 sz)) args s 0 0 (AM dA ad σ0 sz)) (F0 m 46 ls [])) : ∀ (n : Nat) (v1 : Int32) (v2 : Int32) (v3 : Int32) (v4 : Int32) (v5 : Int32) (σ : St) (H : Heap) (locs : List Loc) (ls : Array Slot), wp_best_66 Qr K46 n v1 v2 v3 v4 v5 σ → wM D dA ad (AM dA ad σ0 sz) s σ H locs → lv_has ls 8 [(0, .ref (ad 0)), (1, .int v1), (2, .int v2), (3, .int v3), (4, .int v4), (5, .int v5)] → W p l e rm_best s m args below meth c H locs 0 0 (MQ below (va_Qi Qr (BM D dA ad (AM dA ad σ0 sz)) (AM dA ad σ0 sz)) args s 0 0 (AM dA ad σ0 sz)) (F0 m 66 ls []) := by
  intro n
  induction n with
  | zero => intro v1 v2 v3 v4 v5 σ H locs ls hw; exact hw.elim
  | succ n66 ih =>
    intro v1 v2 v3 v4 v5 σ H locs ls hw hM hl
    have hx := C.1
    have hb := C.2.1
    have hown := C.2.2.2.2.2.1
    have hts := C.2.2.2.2.2.2.1
    unfold wp_best_66 at hw
    refine lv_iload hx hb dX10_best_66 (lv_at hl 5 rfl) ?_
    refine lv_if_eq (tgt := 207) hx hb dX10_best_68 (by decide) (fun hc => ?_) (fun hc => ?_)
    · have hw := hw.1 hc
      obtain ⟨x1, ex1⟩ : ∃ y : Int32, y = v4 + 1 := ⟨_, rfl⟩
      have hw := hw x1 ex1
      refine lv_iinc (v := x1) (lv' := [(4, .int x1), (0, .ref (ad 0)), (1, .int v1), (2, .int v2), (3, .int v3), (5, .int v5)]) hx hb dX10_best_207 hl (k := 4) rfl (by rw [ex1]; rfl) (by decide) rfl (fun ls hl => ?_)
      refine lv_goto (tgt := 46) hx hb dX10_best_210 (by decide) ?_
      exact hK46 v1 v2 v3 x1 σ _ _ ls hw hM (lv_sub hl [1, 2, 3, 4, 0] rfl)
    · have hw := hw.2 hc
      refine lv_aload_n hx hb dX10_best_71 rfl (lv_at hl 0 rfl) ?_
      refine lv_aload_n hx hb dX10_best_72 rfl (lv_at hl 0 rfl) ?_
      refine rM_get C hM 35 (by decide) (fM_35 ad σ) q1425 rfl dX10_best_73 ?_
      refine lv_iconst (v := 1) hx hb dX10_best_76 (by decide) ?_
      refine rM_callVi (n := 2) (As := [.ref (ad 35), .int 1]) C hM hl.1 (mt_solves_35 l D dA ad _ σ 1 _ hw) (lw_V q1634 q1636 qs67 q93 q1637) rfl rfl (by decide +kernel) ⟨Nat.le_of_ble_eq_true rfl, Nat.le_of_ble_eq_true rfl⟩ rfl (Nat.le_of_ble_eq_true rfl) ⟨Nat.zero_le _, Nat.zero_le _⟩ rfl dX10_best_77 (fun x3 σ2 H locs hw hM => ?_)
      refine lv_if_eq (tgt := 184) hx hb dX10_best_80 (by decide) (fun hc => ?_) (fun hc => ?_)
      · have hw := hw.1 hc
        exact wk_best_184 C hK46 ih v1 v2 v3 v4 σ2 _ _ ls hw hM (lv_sub hl [0, 1, 2, 3, 4] rfl)
      · have hw := hw.2 hc
        refine lv_iconst (v := 0) hx hb dX10_best_83 (by decide) ?_
        refine lv_istore (lv' := [(6, .int 0), (0, .ref (ad 0)), (1, .int v1), (2, .int v2), (3, .int v3), (4, .int v4), (5, .int v5)]) hx hb dX10_best_84 hl (by decide) rfl (fun ls hl => ?_)
        refine lv_iconst (v := 0) hx hb dX10_best_86 (by decide) ?_
        refine lv_istore (lv' := [(7, .int 0), (6, .int 0), (0, .ref (ad 0)), (1, .int v1), (2, .int v2), (3, .int v3), (4, .int v4), (5, .int v5)]) hx hb dX10_best_87 hl (by decide) rfl (fun ls hl => ?_)
        obtain ⟨n89, hw⟩ := hw
        exact wk_best_89 C hK46 ih n89 v1 v2 v3 v4 0 0 σ2 _ _ ls hw hM (lv_sub hl [2, 3, 4, 5, 6, 1, 0] rfl)
set_option maxHeartbeats 4000000 in
theorem wk_best_46 {p : Program} {l : Launch} {e : Env} {s : State} {m : MethodId} {args : Array Value} {below : List Frame} {meth : Method} {c : Code} {D : va_G} {dA : Nat → ClassId} {ad : Nat → Nat} {σ0 : St} {sz : Nat} (C : CxM p s m meth c args (AM dA ad σ0 sz) RX10 cX10_best 8 (some .int)) {Qr : Int32 → St → Prop} : ∀ (n : Nat) (v1 : Int32) (v2 : Int32) (v3 : Int32) (v4 : Int32) (σ : St) (H : Heap) (locs : List Loc) (ls : Array Slot), wp_best_46 Qr n v1 v2 v3 v4 σ → wM D dA ad (AM dA ad σ0 sz) s σ H locs → lv_has ls 8 [(0, .ref (ad 0)), (1, .int v1), (2, .int v2), (3, .int v3), (4, .int v4)] → W p l e rm_best s m args below meth c H locs 0 0 (MQ below (va_Qi Qr (BM D dA ad (AM dA ad σ0 sz)) (AM dA ad σ0 sz)) args s 0 0 (AM dA ad σ0 sz)) (F0 m 46 ls []) := by
  intro n
  induction n with
  | zero => intro v1 v2 v3 v4 σ H locs ls hw; exact hw.elim
  | succ n46 ih =>
    intro v1 v2 v3 v4 σ H locs ls hw hM hl
    have hx := C.1
    have hb := C.2.1
    have hown := C.2.2.2.2.2.1
    have hts := C.2.2.2.2.2.2.1
    unfold wp_best_46 at hw
    refine lv_iload hx hb dX10_best_46 (lv_at hl 4 rfl) ?_
    refine lv_aload_n hx hb dX10_best_48 rfl (lv_at hl 0 rfl) ?_
    refine lv_iload_n hx hb dX10_best_49 rfl (lv_at hl 1 rfl) ?_
    refine rM_callVi (n := 1) (As := [.int v1]) C hM hl.1 (mt_most l D dA ad _ σ v1 _ hw) (lw_V q1622 q1624 qs64 q93 q1625) rfl rfl (by decide +kernel) ⟨Nat.le_of_ble_eq_true rfl, Nat.le_of_ble_eq_true rfl⟩ rfl (Nat.le_of_ble_eq_true rfl) ⟨Nat.zero_le _, Nat.zero_le _⟩ rfl dX10_best_50 (fun x2 σ1 H locs hw hM => ?_)
    refine lv_icmp_gt (tgt := 213) hx hb dX10_best_53 (by decide) (fun hc => ?_) (fun hc => ?_)
    · have hw := hw.1 hc
      refine lv_aload_n hx hb dX10_best_213 rfl (lv_at hl 0 rfl) ?_
      refine lv_iload_n hx hb dX10_best_214 rfl (lv_at hl 2 rfl) ?_
      refine lv_if_eq (tgt := 222) hx hb dX10_best_215 (by decide) (fun hc => ?_) (fun hc => ?_)
      · have hw := hw.1 hc
        refine lv_iconst (v := 3) hx hb dX10_best_222 (by decide) ?_
        exact wk_best_223 C  v2 v3 3 σ1 _ _ ls hw hM (lv_sub hl [0, 2, 3] rfl)
      · have hw := hw.2 hc
        refine lv_iconst (v := 0) hx hb dX10_best_218 (by decide) ?_
        refine lv_goto (tgt := 223) hx hb dX10_best_219 (by decide) ?_
        exact wk_best_223 C  v2 v3 0 σ1 _ _ ls hw hM (lv_sub hl [0, 2, 3] rfl)
    · have hw := hw.2 hc
      refine lv_aload_n hx hb dX10_best_56 rfl (lv_at hl 0 rfl) ?_
      refine lv_iload hx hb dX10_best_57 (lv_at hl 4 rfl) ?_
      refine lv_iconst (v := 0) hx hb dX10_best_59 (by decide) ?_
      refine rM_callVv (n := 2) (As := [.int v4, .int 0]) C hM hl.1 (mt_begin l D dA ad _ σ1 v4 0 _ hw) (lw_V q1626 q1628 qs65 q93 q1629) rfl rfl (by decide +kernel) ⟨Nat.le_of_ble_eq_true rfl, Nat.le_of_ble_eq_true rfl⟩ rfl (Nat.le_of_ble_eq_true rfl) ⟨Nat.zero_le _, Nat.zero_le _⟩ rfl dX10_best_60 (fun σ3 H locs hw hM => ?_)
      refine lv_iconst (v := 1) hx hb dX10_best_63 (by decide) ?_
      refine lv_istore (lv' := [(5, .int 1), (0, .ref (ad 0)), (1, .int v1), (2, .int v2), (3, .int v3), (4, .int v4)]) hx hb dX10_best_64 hl (by decide) rfl (fun ls hl => ?_)
      obtain ⟨n66, hw⟩ := hw
      exact wk_best_66 C ih n66 v1 v2 v3 v4 1 σ3 _ _ ls hw hM (lv_sub hl [1, 2, 3, 4, 5, 0] rfl)
set_option maxHeartbeats 4000000 in
theorem wk_best_27 {p : Program} {l : Launch} {e : Env} {s : State} {m : MethodId} {args : Array Value} {below : List Frame} {meth : Method} {c : Code} {D : va_G} {dA : Nat → ClassId} {ad : Nat → Nat} {σ0 : St} {sz : Nat} (C : CxM p s m meth c args (AM dA ad σ0 sz) RX10 cX10_best 8 (some .int)) {Qr : Int32 → St → Prop} : ∀ (v1 : Int32) (u1 : Int32) (σ : St) (H : Heap) (locs : List Loc) (ls : Array Slot), wp_best_27 Qr v1 u1 σ → wM D dA ad (AM dA ad σ0 sz) s σ H locs → lv_has ls 8 [(0, .ref (ad 0)), (1, .int v1)] → W p l e rm_best s m args below meth c H locs 0 0 (MQ below (va_Qi Qr (BM D dA ad (AM dA ad σ0 sz)) (AM dA ad σ0 sz)) args s 0 0 (AM dA ad σ0 sz)) (F0 m 27 ls [.int u1, .ref (ad 0)]) := by
  intro v1 u1 σ H locs ls hw hM hl
  have hx := C.1
  have hb := C.2.1
  have hown := C.2.2.2.2.2.1
  have hts := C.2.2.2.2.2.2.1
  unfold wp_best_27 at hw
  refine rM_putI C hM 0 (by decide) (fM_s0 dA ad σ _) q1390 rfl rfl (tyX10_ok 0 (by decide)) rfl rfl dX10_best_27 (fun σ1 H locs eσ hM => ?_)
  have hw := hw σ1 eσ
  clear eσ
  refine lv_aload_n hx hb dX10_best_30 rfl (lv_at hl 0 rfl) ?_
  refine rM_get C hM 0 (by decide) (fM_0 ad σ1) q1390 rfl dX10_best_31 ?_
  refine lv_if_le (tgt := 39) hx hb dX10_best_34 (by decide) (fun hc => ?_) (fun hc => ?_)
  · have hw := hw.1 hc
    refine lv_iconst (v := 0) hx hb dX10_best_39 (by decide) ?_
    refine lv_istore_n (lv' := [(2, .int 0), (0, .ref (ad 0)), (1, .int v1)]) hx hb dX10_best_40 rfl hl (by decide) rfl (fun ls hl => ?_)
    refine lv_iconst (v := 0) hx hb dX10_best_41 (by decide) ?_
    refine lv_istore_n (lv' := [(3, .int 0), (2, .int 0), (0, .ref (ad 0)), (1, .int v1)]) hx hb dX10_best_42 rfl hl (by decide) rfl (fun ls hl => ?_)
    refine lv_iconst (v := 0) hx hb dX10_best_43 (by decide) ?_
    refine lv_istore (lv' := [(4, .int 0), (3, .int 0), (2, .int 0), (0, .ref (ad 0)), (1, .int v1)]) hx hb dX10_best_44 hl (by decide) rfl (fun ls hl => ?_)
    obtain ⟨n46, hw⟩ := hw
    exact wk_best_46 C  n46 v1 0 0 0 σ1 _ _ ls hw hM (lv_sub hl [3, 4, 2, 1, 0] rfl)
  · have hw := hw.2 hc
    refine lv_iconst (v := 0) hx hb dX10_best_37 (by decide) ?_
    exact rM_iret C hM hw dX10_best_38
set_option maxHeartbeats 4000000 in
theorem wk_best_11 {p : Program} {l : Launch} {e : Env} {s : State} {m : MethodId} {args : Array Value} {below : List Frame} {meth : Method} {c : Code} {D : va_G} {dA : Nat → ClassId} {ad : Nat → Nat} {σ0 : St} {sz : Nat} (C : CxM p s m meth c args (AM dA ad σ0 sz) RX10 cX10_best 8 (some .int)) {Qr : Int32 → St → Prop} : ∀ (v1 : Int32) (σ : St) (H : Heap) (locs : List Loc) (ls : Array Slot), wp_best_11 Qr v1 σ → wM D dA ad (AM dA ad σ0 sz) s σ H locs → lv_has ls 8 [(0, .ref (ad 0)), (1, .int v1)] → W p l e rm_best s m args below meth c H locs 0 0 (MQ below (va_Qi Qr (BM D dA ad (AM dA ad σ0 sz)) (AM dA ad σ0 sz)) args s 0 0 (AM dA ad σ0 sz)) (F0 m 11 ls [.ref (ad 0)]) := by
  intro v1 σ H locs ls hw hM hl
  have hx := C.1
  have hb := C.2.1
  have hown := C.2.2.2.2.2.1
  have hts := C.2.2.2.2.2.2.1
  unfold wp_best_11 at hw
  refine lv_iconst (v := 1) hx hb dX10_best_11 (by decide) ?_
  refine lv_goto (tgt := 27) hx hb dX10_best_12 (by decide) ?_
  exact wk_best_27 C  v1 1 σ _ _ ls hw hM (lv_sub hl [0, 1] rfl)
set_option maxHeartbeats 4000000 in
/-- public int best(int); -/
theorem mt_best (l : Launch) (D : va_G) (dA : Nat → ClassId) (ad : Nat → Nat) (sz : Nat) (σ : St) (p1 : Int32) (Qr : Int32 → St → Prop) (hw : wp_best p1 σ Qr) : Met l yX10_best (ws_ yX10_best cX10_best 8 (some .int)) rm_best (PcM D dA ad σ sz [.ref (ad 0), .int p1]) (va_Qi Qr (BM D dA ad (AM dA ad σ sz)) (AM dA ad σ sz)) 0 0 (AM dA ad σ sz) := by
  refine Met.ofW (cc := cX10_best) (maxL := 8) (ret := (some .int)) (by decide) rfl ?_
  intro p e s m args below meth c s₁ B hml hv
  obtain ⟨rfl, hsz, hP, hK, hD0⟩ := hv
  subst hsz
  have hts0 := atoms_spec (ws := ws_ yX10_best cX10_best 8 (some .int)) B.pre
  have C : CxM p s m meth c _ (AM dA ad σ s.heap.size) RX10 cX10_best 8 (some .int) := ⟨B.exec, B.bytes, B.returns, B.notSynchronized, hml, findClass_of_methodNamed B.named, fun w h => hts0 w (List.mem_cons_of_mem _ h), fun q h => Or.inr h⟩
  have hM : wM D dA ad (AM dA ad σ s.heap.size) s σ s.heap [] := ⟨hK, hP, hD0.self, va_S.rf⟩
  have hx := C.1
  have hb := C.2.1
  have hown := C.2.2.2.2.2.1
  have hts := C.2.2.2.2.2.2.1
  have hl := lv_entry ([.ref (ad 0), .int p1]) (n := 8) (Nat.le_of_ble_eq_true rfl)
  rw [lg_entry_eq]
  generalize (lg_sl ([.ref (ad 0), .int p1]) ++ List.replicate (8 - (lg_sl ([.ref (ad 0), .int p1])).length) Slot.unset).toArray = ls at hl ⊢
  have hl : lv_has ls 8 [(0, .ref (ad 0)), (1, .int p1)] := hl
  unfold wp_best at hw
  refine lv_aload_n hx hb dX10_best_0 rfl (lv_at hl 0 rfl) ?_
  refine lv_iload_n hx hb dX10_best_1 rfl (lv_at hl 1 rfl) ?_
  refine lv_if_lt (tgt := 11) hx hb dX10_best_2 (by decide) (fun hc => ?_) (fun hc => ?_)
  · have hw := hw.1 hc
    exact wk_best_11 C  p1 σ _ _ ls hw hM (lv_sub hl [0, 1] rfl)
  · have hw := hw.2 hc
    refine lv_iload_n hx hb dX10_best_5 rfl (lv_at hl 1 rfl) ?_
    refine lv_bipush (v := 16) hx hb dX10_best_6 (by decide) ?_
    refine lv_icmp_le (tgt := 15) hx hb dX10_best_8 (by decide) (fun hc => ?_) (fun hc => ?_)
    · have hw := hw.1 hc
      refine lv_aload_n hx hb dX10_best_15 rfl (lv_at hl 0 rfl) ?_
      refine rM_get C hM 14 (by decide) (fM_14 ad σ) q1404 rfl dX10_best_16 ?_
      refine lv_if_ne (tgt := 26) hx hb dX10_best_19 (by decide) (fun hc => ?_) (fun hc => ?_)
      · have hw := hw.1 hc
        refine lv_iconst (v := 0) hx hb dX10_best_26 (by decide) ?_
        exact wk_best_27 C  p1 0 σ _ _ ls hw hM (lv_sub hl [0, 1] rfl)
      · have hw := hw.2 hc
        refine lv_iconst (v := 2) hx hb dX10_best_22 (by decide) ?_
        refine lv_goto (tgt := 27) hx hb dX10_best_23 (by decide) ?_
        exact wk_best_27 C  p1 2 σ _ _ ls hw hM (lv_sub hl [0, 1] rfl)
    · have hw := hw.2 hc
      exact wk_best_11 C  p1 σ _ _ ls hw hM (lv_sub hl [0, 1] rfl)
abbrev rm_bestAt : Room := { frames := 1, cells := 0, slots := 0, locals := 21 }
set_option maxHeartbeats 4000000 in
theorem wk_bestAt_30 {p : Program} {l : Launch} {e : Env} {s : State} {m : MethodId} {args : Array Value} {below : List Frame} {meth : Method} {c : Code} {D : va_G} {dA : Nat → ClassId} {ad : Nat → Nat} {σ0 : St} {sz : Nat} (C : CxM p s m meth c args (AM dA ad σ0 sz) RX10 cX10_bestAt 2 (some .int)) {Qr : Int32 → St → Prop} : ∀ (u0 : Int32) (σ : St) (H : Heap) (locs : List Loc) (ls : Array Slot), wp_bestAt_30 Qr u0 σ → wM D dA ad (AM dA ad σ0 sz) s σ H locs → lv_has ls 2 [(0, .ref (ad 0))] → W p l e rm_bestAt s m args below meth c H locs 0 0 (MQ below (va_Qi Qr (BM D dA ad (AM dA ad σ0 sz)) (AM dA ad σ0 sz)) args s 0 0 (AM dA ad σ0 sz)) (F0 m 30 ls [.int u0]) := by
  intro u0 σ H locs ls hw hM hl
  have hx := C.1
  have hb := C.2.1
  have hown := C.2.2.2.2.2.1
  have hts := C.2.2.2.2.2.2.1
  unfold wp_bestAt_30 at hw
  exact rM_iret C hM hw dX10_bestAt_30
set_option maxHeartbeats 4000000 in
theorem wk_bestAt_29 {p : Program} {l : Launch} {e : Env} {s : State} {m : MethodId} {args : Array Value} {below : List Frame} {meth : Method} {c : Code} {D : va_G} {dA : Nat → ClassId} {ad : Nat → Nat} {σ0 : St} {sz : Nat} (C : CxM p s m meth c args (AM dA ad σ0 sz) RX10 cX10_bestAt 2 (some .int)) {Qr : Int32 → St → Prop} : ∀ (σ : St) (H : Heap) (locs : List Loc) (ls : Array Slot), wp_bestAt_29 Qr σ → wM D dA ad (AM dA ad σ0 sz) s σ H locs → lv_has ls 2 [(0, .ref (ad 0))] → W p l e rm_bestAt s m args below meth c H locs 0 0 (MQ below (va_Qi Qr (BM D dA ad (AM dA ad σ0 sz)) (AM dA ad σ0 sz)) args s 0 0 (AM dA ad σ0 sz)) (F0 m 29 ls []) := by
  intro σ H locs ls hw hM hl
  have hx := C.1
  have hb := C.2.1
  have hown := C.2.2.2.2.2.1
  have hts := C.2.2.2.2.2.2.1
  unfold wp_bestAt_29 at hw
  refine lv_iconst (v := (-1)) hx hb dX10_bestAt_29 (by decide) ?_
  exact wk_bestAt_30 C  (-1) σ _ _ ls hw hM (lv_sub hl [0] rfl)
set_option maxHeartbeats 4000000 in
/-- public int bestAt(int); -/
theorem mt_bestAt (l : Launch) (D : va_G) (dA : Nat → ClassId) (ad : Nat → Nat) (sz : Nat) (σ : St) (p1 : Int32) (Qr : Int32 → St → Prop) (hw : wp_bestAt p1 σ Qr) : Met l yX10_bestAt (ws_ yX10_bestAt cX10_bestAt 2 (some .int)) rm_bestAt (PcM D dA ad σ sz [.ref (ad 0), .int p1]) (va_Qi Qr (BM D dA ad (AM dA ad σ sz)) (AM dA ad σ sz)) 0 0 (AM dA ad σ sz) := by
  refine Met.ofW (cc := cX10_bestAt) (maxL := 2) (ret := (some .int)) (by decide) rfl ?_
  intro p e s m args below meth c s₁ B hml hv
  obtain ⟨rfl, hsz, hP, hK, hD0⟩ := hv
  subst hsz
  have hts0 := atoms_spec (ws := ws_ yX10_bestAt cX10_bestAt 2 (some .int)) B.pre
  have C : CxM p s m meth c _ (AM dA ad σ s.heap.size) RX10 cX10_bestAt 2 (some .int) := ⟨B.exec, B.bytes, B.returns, B.notSynchronized, hml, findClass_of_methodNamed B.named, fun w h => hts0 w (List.mem_cons_of_mem _ h), fun q h => Or.inr h⟩
  have hM : wM D dA ad (AM dA ad σ s.heap.size) s σ s.heap [] := ⟨hK, hP, hD0.self, va_S.rf⟩
  have hx := C.1
  have hb := C.2.1
  have hown := C.2.2.2.2.2.1
  have hts := C.2.2.2.2.2.2.1
  have hl := lv_entry ([.ref (ad 0), .int p1]) (n := 2) (Nat.le_of_ble_eq_true rfl)
  rw [lg_entry_eq]
  generalize (lg_sl ([.ref (ad 0), .int p1]) ++ List.replicate (2 - (lg_sl ([.ref (ad 0), .int p1])).length) Slot.unset).toArray = ls at hl ⊢
  have hl : lv_has ls 2 [(0, .ref (ad 0)), (1, .int p1)] := hl
  unfold wp_bestAt at hw
  refine lv_aload_n hx hb dX10_bestAt_0 rfl (lv_at hl 0 rfl) ?_
  refine lv_iconst (v := 0) hx hb dX10_bestAt_1 (by decide) ?_
  refine rM_putI C hM 0 (by decide) (fM_s0 dA ad σ _) q1390 rfl rfl (tyX10_ok 0 (by decide)) rfl rfl dX10_bestAt_2 (fun σ1 H locs eσ hM => ?_)
  have hw := hw σ1 eσ
  clear eσ
  refine lv_aload_n hx hb dX10_bestAt_5 rfl (lv_at hl 0 rfl) ?_
  refine rM_get C hM 28 (by decide) (fM_28 ad σ1) q1418 rfl dX10_bestAt_6 ?_
  refine lv_if_eq (tgt := 29) hx hb dX10_bestAt_9 (by decide) (fun hc => ?_) (fun hc => ?_)
  · have hw := hw.1 hc
    exact wk_bestAt_29 C   σ1 _ _ ls hw hM (lv_sub hl [0] rfl)
  · have hw := hw.2 hc
    refine lv_aload_n hx hb dX10_bestAt_12 rfl (lv_at hl 0 rfl) ?_
    refine lv_iload_n hx hb dX10_bestAt_13 rfl (lv_at hl 1 rfl) ?_
    refine rM_callVi (n := 1) (As := [.int p1]) C hM hl.1 (mt_isColumn l D dA ad _ σ1 p1 _ hw) (lw_V q1614 q1616 qs63 q93 q1617) rfl rfl (by decide +kernel) ⟨Nat.le_of_ble_eq_true rfl, Nat.le_of_ble_eq_true rfl⟩ rfl (Nat.le_of_ble_eq_true rfl) ⟨Nat.zero_le _, Nat.zero_le _⟩ rfl dX10_bestAt_14 (fun x3 σ2 H locs hw hM => ?_)
    refine lv_if_eq (tgt := 29) hx hb dX10_bestAt_17 (by decide) (fun hc => ?_) (fun hc => ?_)
    · have hw := hw.1 hc
      exact wk_bestAt_29 C   σ2 _ _ ls hw hM (lv_sub hl [0] rfl)
    · have hw := hw.2 hc
      refine lv_aload_n hx hb dX10_bestAt_20 rfl (lv_at hl 0 rfl) ?_
      refine rM_get C hM 29 (by decide) (fM_29 ad σ2) q1419 rfl dX10_bestAt_21 ?_
      refine lv_iload_n hx hb dX10_bestAt_24 rfl (lv_at hl 1 rfl) ?_
      refine rM_iald C hM 29 17 (wM_29 dA ad σ2) hw.1 dX10_bestAt_25 ?_
      have hw := hw.2
      refine lv_goto (tgt := 30) hx hb dX10_bestAt_26 (by decide) ?_
      exact wk_bestAt_30 C  ((gA σ2 29 p1)) σ2 _ _ ls hw hM (lv_sub hl [0] rfl)
