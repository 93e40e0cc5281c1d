set_option maxRecDepth 100000
set_option maxHeartbeats 8000000 in
theorem wk_L_law_899 {p : Program} {l : Launch} {e : Env} {s : State} {m : MethodId} {below : List Frame} {meth : Method} {c : Code} {D : va_G} {dA : Nat → ClassId} {ev : Nat → Nat} {b N : Nat} {f : Nat → Int32} {ad : Nat → Nat} (C : CxM p s m meth c #[Value.ref b] (fun q => s.heap.size ≤ q) "LeastSolutionsLaw" cL_law 8 ret) (hst : l.stackTraces = false) (hZ : ZX (fun q => s.heap.size ≤ q) s s.heap) (hX : va_X b N f s s.heap) (hbl : b < s.heap.size) {K23 : Nat → Nat → Int32 → Hp → St → Nat → Nat → Prop} (hK23 : ∀ (v1 : Nat) (v3 : Nat) (v4 : Int32) (h : Hp) (σ : St) (mc ms cells slots : Nat) (H : Heap) (locs : List Loc) (ls : Array Slot), K23 v1 v3 v4 h σ mc ms → wL D dA ev (fun q => s.heap.size ≤ q) s h ad σ H locs → cells + mc ≤ 603072 ∧ slots + ms ≤ 7178346 → lv_has ls 8 [(0, .ref b), (1, .ref v1), (2, .ref (ad 0)), (3, .ref v3), (4, .int v4)] → W p l e room_1 s m #[Value.ref b] below meth c H locs cells slots (lw_Z below #[Value.ref b] s) (F0 m 23 ls [])) : ∀ (v1 : Nat) (v3 : Nat) (v4 : Int32) (h : Hp) (σ : St) (mc ms cells slots : Nat) (H : Heap) (locs : List Loc) (ls : Array Slot), wp_L_law_899 ev ad N f K23 v1 v3 v4 h σ mc ms → wL D dA ev (fun q => s.heap.size ≤ q) s h ad σ H locs → cells + mc ≤ 603072 ∧ slots + ms ≤ 7178346 → lv_has ls 8 [(0, .ref b), (1, .ref v1), (2, .ref (ad 0)), (3, .ref v3), (4, .int v4)] → W p l e room_1 s m #[Value.ref b] below meth c H locs cells slots (lw_Z below #[Value.ref b] s) (F0 m 899 ls []) := by
  intro v1 v3 v4 h σ mc ms cells slots H locs ls hw hM hbud hl
  have hx := C.1
  have hb := C.2.1
  have hown := C.2.2.2.2.2.1
  have hts := C.2.2.2.2.2.2.1
  unfold wp_L_law_899 at hw
  obtain ⟨x1, ex1⟩ : ∃ y : Int32, y = v4 + 4 := ⟨_, rfl⟩
  replace hw := hw x1 ex1
  refine lv_iinc (v := x1) (lv' := [(4, .int x1), (0, .ref b), (1, .ref v1), (2, .ref (ad 0)), (3, .ref v3)]) hx hb dL_law_899 hl (k := 4) rfl (by rw [ex1]; rfl) (by decide) rfl (fun ls hl => ?_)
  refine lv_goto (tgt := 23) hx hb dL_law_902 (by decide) ?_
  exact hK23 v1 v3 x1 h σ mc ms _ _ _ _ ls hw hM hbud (lv_sub hl [1, 2, 3, 4, 0] rfl)
set_option maxHeartbeats 8000000 in
theorem wk_L_law_871 {p : Program} {l : Launch} {e : Env} {s : State} {m : MethodId} {below : List Frame} {meth : Method} {c : Code} {D : va_G} {dA : Nat → ClassId} {ev : Nat → Nat} {b N : Nat} {f : Nat → Int32} {ad : Nat → Nat} (C : CxM p s m meth c #[Value.ref b] (fun q => s.heap.size ≤ q) "LeastSolutionsLaw" cL_law 8 ret) (hst : l.stackTraces = false) (hZ : ZX (fun q => s.heap.size ≤ q) s s.heap) (hX : va_X b N f s s.heap) (hbl : b < s.heap.size) {K23 : Nat → Nat → Int32 → Hp → St → Nat → Nat → Prop} (hK23 : ∀ (v1 : Nat) (v3 : Nat) (v4 : Int32) (h : Hp) (σ : St) (mc ms cells slots : Nat) (H : Heap) (locs : List Loc) (ls : Array Slot), K23 v1 v3 v4 h σ mc ms → wL D dA ev (fun q => s.heap.size ≤ q) s h ad σ H locs → cells + mc ≤ 603072 ∧ slots + ms ≤ 7178346 → lv_has ls 8 [(0, .ref b), (1, .ref v1), (2, .ref (ad 0)), (3, .ref v3), (4, .int v4)] → W p l e room_1 s m #[Value.ref b] below meth c H locs cells slots (lw_Z below #[Value.ref b] s) (F0 m 23 ls [])) : ∀ (v1 : Nat) (v3 : Nat) (v4 : Int32) (h : Hp) (σ : St) (mc ms cells slots : Nat) (H : Heap) (locs : List Loc) (ls : Array Slot), wp_L_law_871 ev ad N f K23 v1 v3 v4 h σ mc ms → wL D dA ev (fun q => s.heap.size ≤ q) s h ad σ H locs → cells + mc ≤ 603072 ∧ slots + ms ≤ 7178346 → lv_has ls 8 [(0, .ref b), (1, .ref v1), (2, .ref (ad 0)), (3, .ref v3), (4, .int v4)] → W p l e room_1 s m #[Value.ref b] below meth c H locs cells slots (lw_Z below #[Value.ref b] s) (F0 m 871 ls []) := by
  intro v1 v3 v4 h σ mc ms cells slots H locs ls hw hM hbud hl
  have hx := C.1
  have hb := C.2.1
  have hown := C.2.2.2.2.2.1
  have hts := C.2.2.2.2.2.2.1
  unfold wp_L_law_871 at hw
  refine lv_goto (tgt := 899) hx hb dL_law_871 (by decide) ?_
  exact wk_L_law_899 C hst hZ hX hbl hK23 v1 v3 v4 h σ mc ms _ _ _ _ ls hw hM hbud (lv_sub hl [0, 1, 2, 3, 4] rfl)
set_option maxHeartbeats 8000000 in
theorem wk_L_law_729 {p : Program} {l : Launch} {e : Env} {s : State} {m : MethodId} {below : List Frame} {meth : Method} {c : Code} {D : va_G} {dA : Nat → ClassId} {ev : Nat → Nat} {b N : Nat} {f : Nat → Int32} {ad : Nat → Nat} (C : CxM p s m meth c #[Value.ref b] (fun q => s.heap.size ≤ q) "LeastSolutionsLaw" cL_law 8 ret) (hst : l.stackTraces = false) (hZ : ZX (fun q => s.heap.size ≤ q) s s.heap) (hX : va_X b N f s s.heap) (hbl : b < s.heap.size) {K23 : Nat → Nat → Int32 → Hp → St → Nat → Nat → Prop} (hK23 : ∀ (v1 : Nat) (v3 : Nat) (v4 : Int32) (h : Hp) (σ : St) (mc ms cells slots : Nat) (H : Heap) (locs : List Loc) (ls : Array Slot), K23 v1 v3 v4 h σ mc ms → wL D dA ev (fun q => s.heap.size ≤ q) s h ad σ H locs → cells + mc ≤ 603072 ∧ slots + ms ≤ 7178346 → lv_has ls 8 [(0, .ref b), (1, .ref v1), (2, .ref (ad 0)), (3, .ref v3), (4, .int v4)] → W p l e room_1 s m #[Value.ref b] below meth c H locs cells slots (lw_Z below #[Value.ref b] s) (F0 m 23 ls [])) : ∀ (v1 : Nat) (v3 : Nat) (v4 : Int32) (h : Hp) (σ : St) (mc ms cells slots : Nat) (H : Heap) (locs : List Loc) (ls : Array Slot), wp_L_law_729 ev ad N f K23 v1 v3 v4 h σ mc ms → wL D dA ev (fun q => s.heap.size ≤ q) s h ad σ H locs → cells + mc ≤ 603072 ∧ slots + ms ≤ 7178346 → lv_has ls 8 [(0, .ref b), (1, .ref v1), (2, .ref (ad 0)), (3, .ref v3), (4, .int v4)] → W p l e room_1 s m #[Value.ref b] below meth c H locs cells slots (lw_Z below #[Value.ref b] s) (F0 m 729 ls []) := by
  intro v1 v3 v4 h σ mc ms cells slots H locs ls hw hM hbud hl
  have hx := C.1
  have hb := C.2.1
  have hown := C.2.2.2.2.2.1
  have hts := C.2.2.2.2.2.2.1
  unfold wp_L_law_729 at hw
  refine lv_goto (tgt := 899) hx hb dL_law_729 (by decide) ?_
  exact wk_L_law_899 C hst hZ hX hbl hK23 v1 v3 v4 h σ mc ms _ _ _ _ ls hw hM hbud (lv_sub hl [0, 1, 2, 3, 4] rfl)
set_option maxHeartbeats 8000000 in
theorem wk_L_law_637 {p : Program} {l : Launch} {e : Env} {s : State} {m : MethodId} {below : List Frame} {meth : Method} {c : Code} {D : va_G} {dA : Nat → ClassId} {ev : Nat → Nat} {b N : Nat} {f : Nat → Int32} {ad : Nat → Nat} (C : CxM p s m meth c #[Value.ref b] (fun q => s.heap.size ≤ q) "LeastSolutionsLaw" cL_law 8 ret) (hst : l.stackTraces = false) (hZ : ZX (fun q => s.heap.size ≤ q) s s.heap) (hX : va_X b N f s s.heap) (hbl : b < s.heap.size) {K23 : Nat → Nat → Int32 → Hp → St → Nat → Nat → Prop} (hK23 : ∀ (v1 : Nat) (v3 : Nat) (v4 : Int32) (h : Hp) (σ : St) (mc ms cells slots : Nat) (H : Heap) (locs : List Loc) (ls : Array Slot), K23 v1 v3 v4 h σ mc ms → wL D dA ev (fun q => s.heap.size ≤ q) s h ad σ H locs → cells + mc ≤ 603072 ∧ slots + ms ≤ 7178346 → lv_has ls 8 [(0, .ref b), (1, .ref v1), (2, .ref (ad 0)), (3, .ref v3), (4, .int v4)] → W p l e room_1 s m #[Value.ref b] below meth c H locs cells slots (lw_Z below #[Value.ref b] s) (F0 m 23 ls [])) : ∀ (v1 : Nat) (v3 : Nat) (v4 : Int32) (h : Hp) (σ : St) (mc ms cells slots : Nat) (H : Heap) (locs : List Loc) (ls : Array Slot), wp_L_law_637 ev ad N f K23 v1 v3 v4 h σ mc ms → wL D dA ev (fun q => s.heap.size ≤ q) s h ad σ H locs → cells + mc ≤ 603072 ∧ slots + ms ≤ 7178346 → lv_has ls 8 [(0, .ref b), (1, .ref v1), (2, .ref (ad 0)), (3, .ref v3), (4, .int v4)] → W p l e room_1 s m #[Value.ref b] below meth c H locs cells slots (lw_Z below #[Value.ref b] s) (F0 m 637 ls []) := by
  intro v1 v3 v4 h σ mc ms cells slots H locs ls hw hM hbud hl
  have hx := C.1
  have hb := C.2.1
  have hown := C.2.2.2.2.2.1
  have hts := C.2.2.2.2.2.2.1
  unfold wp_L_law_637 at hw
  refine lv_goto (tgt := 899) hx hb dL_law_637 (by decide) ?_
  exact wk_L_law_899 C hst hZ hX hbl hK23 v1 v3 v4 h σ mc ms _ _ _ _ ls hw hM hbud (lv_sub hl [0, 1, 2, 3, 4] rfl)
set_option maxHeartbeats 8000000 in
theorem wk_L_law_557 {p : Program} {l : Launch} {e : Env} {s : State} {m : MethodId} {below : List Frame} {meth : Method} {c : Code} {D : va_G} {dA : Nat → ClassId} {ev : Nat → Nat} {b N : Nat} {f : Nat → Int32} {ad : Nat → Nat} (C : CxM p s m meth c #[Value.ref b] (fun q => s.heap.size ≤ q) "LeastSolutionsLaw" cL_law 8 ret) (hst : l.stackTraces = false) (hZ : ZX (fun q => s.heap.size ≤ q) s s.heap) (hX : va_X b N f s s.heap) (hbl : b < s.heap.size) {K23 : Nat → Nat → Int32 → Hp → St → Nat → Nat → Prop} (hK23 : ∀ (v1 : Nat) (v3 : Nat) (v4 : Int32) (h : Hp) (σ : St) (mc ms cells slots : Nat) (H : Heap) (locs : List Loc) (ls : Array Slot), K23 v1 v3 v4 h σ mc ms → wL D dA ev (fun q => s.heap.size ≤ q) s h ad σ H locs → cells + mc ≤ 603072 ∧ slots + ms ≤ 7178346 → lv_has ls 8 [(0, .ref b), (1, .ref v1), (2, .ref (ad 0)), (3, .ref v3), (4, .int v4)] → W p l e room_1 s m #[Value.ref b] below meth c H locs cells slots (lw_Z below #[Value.ref b] s) (F0 m 23 ls [])) : ∀ (v1 : Nat) (v3 : Nat) (v4 : Int32) (h : Hp) (σ : St) (mc ms cells slots : Nat) (H : Heap) (locs : List Loc) (ls : Array Slot), wp_L_law_557 ev ad N f K23 v1 v3 v4 h σ mc ms → wL D dA ev (fun q => s.heap.size ≤ q) s h ad σ H locs → cells + mc ≤ 603072 ∧ slots + ms ≤ 7178346 → lv_has ls 8 [(0, .ref b), (1, .ref v1), (2, .ref (ad 0)), (3, .ref v3), (4, .int v4)] → W p l e room_1 s m #[Value.ref b] below meth c H locs cells slots (lw_Z below #[Value.ref b] s) (F0 m 557 ls []) := by
  intro v1 v3 v4 h σ mc ms cells slots H locs ls hw hM hbud hl
  have hx := C.1
  have hb := C.2.1
  have hown := C.2.2.2.2.2.1
  have hts := C.2.2.2.2.2.2.1
  unfold wp_L_law_557 at hw
  refine lv_goto (tgt := 899) hx hb dL_law_557 (by decide) ?_
  exact wk_L_law_899 C hst hZ hX hbl hK23 v1 v3 v4 h σ mc ms _ _ _ _ ls hw hM hbud (lv_sub hl [0, 1, 2, 3, 4] rfl)
set_option maxHeartbeats 8000000 in
theorem wk_L_law_489 {p : Program} {l : Launch} {e : Env} {s : State} {m : MethodId} {below : List Frame} {meth : Method} {c : Code} {D : va_G} {dA : Nat → ClassId} {ev : Nat → Nat} {b N : Nat} {f : Nat → Int32} {ad : Nat → Nat} (C : CxM p s m meth c #[Value.ref b] (fun q => s.heap.size ≤ q) "LeastSolutionsLaw" cL_law 8 ret) (hst : l.stackTraces = false) (hZ : ZX (fun q => s.heap.size ≤ q) s s.heap) (hX : va_X b N f s s.heap) (hbl : b < s.heap.size) {K23 : Nat → Nat → Int32 → Hp → St → Nat → Nat → Prop} (hK23 : ∀ (v1 : Nat) (v3 : Nat) (v4 : Int32) (h : Hp) (σ : St) (mc ms cells slots : Nat) (H : Heap) (locs : List Loc) (ls : Array Slot), K23 v1 v3 v4 h σ mc ms → wL D dA ev (fun q => s.heap.size ≤ q) s h ad σ H locs → cells + mc ≤ 603072 ∧ slots + ms ≤ 7178346 → lv_has ls 8 [(0, .ref b), (1, .ref v1), (2, .ref (ad 0)), (3, .ref v3), (4, .int v4)] → W p l e room_1 s m #[Value.ref b] below meth c H locs cells slots (lw_Z below #[Value.ref b] s) (F0 m 23 ls [])) : ∀ (v1 : Nat) (v3 : Nat) (v4 : Int32) (h : Hp) (σ : St) (mc ms cells slots : Nat) (H : Heap) (locs : List Loc) (ls : Array Slot), wp_L_law_489 ev ad N f K23 v1 v3 v4 h σ mc ms → wL D dA ev (fun q => s.heap.size ≤ q) s h ad σ H locs → cells + mc ≤ 603072 ∧ slots + ms ≤ 7178346 → lv_has ls 8 [(0, .ref b), (1, .ref v1), (2, .ref (ad 0)), (3, .ref v3), (4, .int v4)] → W p l e room_1 s m #[Value.ref b] below meth c H locs cells slots (lw_Z below #[Value.ref b] s) (F0 m 489 ls []) := by
  intro v1 v3 v4 h σ mc ms cells slots H locs ls hw hM hbud hl
  have hx := C.1
  have hb := C.2.1
  have hown := C.2.2.2.2.2.1
  have hts := C.2.2.2.2.2.2.1
  unfold wp_L_law_489 at hw
  refine lv_goto (tgt := 899) hx hb dL_law_489 (by decide) ?_
  exact wk_L_law_899 C hst hZ hX hbl hK23 v1 v3 v4 h σ mc ms _ _ _ _ ls hw hM hbud (lv_sub hl [0, 1, 2, 3, 4] rfl)
set_option maxHeartbeats 8000000 in
theorem wk_L_law_422 {p : Program} {l : Launch} {e : Env} {s : State} {m : MethodId} {below : List Frame} {meth : Method} {c : Code} {D : va_G} {dA : Nat → ClassId} {ev : Nat → Nat} {b N : Nat} {f : Nat → Int32} {ad : Nat → Nat} (C : CxM p s m meth c #[Value.ref b] (fun q => s.heap.size ≤ q) "LeastSolutionsLaw" cL_law 8 ret) (hst : l.stackTraces = false) (hZ : ZX (fun q => s.heap.size ≤ q) s s.heap) (hX : va_X b N f s s.heap) (hbl : b < s.heap.size) {K23 : Nat → Nat → Int32 → Hp → St → Nat → Nat → Prop} (hK23 : ∀ (v1 : Nat) (v3 : Nat) (v4 : Int32) (h : Hp) (σ : St) (mc ms cells slots : Nat) (H : Heap) (locs : List Loc) (ls : Array Slot), K23 v1 v3 v4 h σ mc ms → wL D dA ev (fun q => s.heap.size ≤ q) s h ad σ H locs → cells + mc ≤ 603072 ∧ slots + ms ≤ 7178346 → lv_has ls 8 [(0, .ref b), (1, .ref v1), (2, .ref (ad 0)), (3, .ref v3), (4, .int v4)] → W p l e room_1 s m #[Value.ref b] below meth c H locs cells slots (lw_Z below #[Value.ref b] s) (F0 m 23 ls [])) : ∀ (v1 : Nat) (v3 : Nat) (v4 : Int32) (h : Hp) (σ : St) (mc ms cells slots : Nat) (H : Heap) (locs : List Loc) (ls : Array Slot), wp_L_law_422 ev ad N f K23 v1 v3 v4 h σ mc ms → wL D dA ev (fun q => s.heap.size ≤ q) s h ad σ H locs → cells + mc ≤ 603072 ∧ slots + ms ≤ 7178346 → lv_has ls 8 [(0, .ref b), (1, .ref v1), (2, .ref (ad 0)), (3, .ref v3), (4, .int v4)] → W p l e room_1 s m #[Value.ref b] below meth c H locs cells slots (lw_Z below #[Value.ref b] s) (F0 m 422 ls []) := by
  intro v1 v3 v4 h σ mc ms cells slots H locs ls hw hM hbud hl
  have hx := C.1
  have hb := C.2.1
  have hown := C.2.2.2.2.2.1
  have hts := C.2.2.2.2.2.2.1
  unfold wp_L_law_422 at hw
  refine lv_goto (tgt := 899) hx hb dL_law_422 (by decide) ?_
  exact wk_L_law_899 C hst hZ hX hbl hK23 v1 v3 v4 h σ mc ms _ _ _ _ ls hw hM hbud (lv_sub hl [0, 1, 2, 3, 4] rfl)
set_option maxHeartbeats 8000000 in
theorem wk_L_law_378 {p : Program} {l : Launch} {e : Env} {s : State} {m : MethodId} {below : List Frame} {meth : Method} {c : Code} {D : va_G} {dA : Nat → ClassId} {ev : Nat → Nat} {b N : Nat} {f : Nat → Int32} {ad : Nat → Nat} (C : CxM p s m meth c #[Value.ref b] (fun q => s.heap.size ≤ q) "LeastSolutionsLaw" cL_law 8 ret) (hst : l.stackTraces = false) (hZ : ZX (fun q => s.heap.size ≤ q) s s.heap) (hX : va_X b N f s s.heap) (hbl : b < s.heap.size) {K23 : Nat → Nat → Int32 → Hp → St → Nat → Nat → Prop} (hK23 : ∀ (v1 : Nat) (v3 : Nat) (v4 : Int32) (h : Hp) (σ : St) (mc ms cells slots : Nat) (H : Heap) (locs : List Loc) (ls : Array Slot), K23 v1 v3 v4 h σ mc ms → wL D dA ev (fun q => s.heap.size ≤ q) s h ad σ H locs → cells + mc ≤ 603072 ∧ slots + ms ≤ 7178346 → lv_has ls 8 [(0, .ref b), (1, .ref v1), (2, .ref (ad 0)), (3, .ref v3), (4, .int v4)] → W p l e room_1 s m #[Value.ref b] below meth c H locs cells slots (lw_Z below #[Value.ref b] s) (F0 m 23 ls [])) : ∀ (v1 : Nat) (v3 : Nat) (v4 : Int32) (h : Hp) (σ : St) (mc ms cells slots : Nat) (H : Heap) (locs : List Loc) (ls : Array Slot), wp_L_law_378 ev ad N f K23 v1 v3 v4 h σ mc ms → wL D dA ev (fun q => s.heap.size ≤ q) s h ad σ H locs → cells + mc ≤ 603072 ∧ slots + ms ≤ 7178346 → lv_has ls 8 [(0, .ref b), (1, .ref v1), (2, .ref (ad 0)), (3, .ref v3), (4, .int v4)] → W p l e room_1 s m #[Value.ref b] below meth c H locs cells slots (lw_Z below #[Value.ref b] s) (F0 m 378 ls []) := by
  intro v1 v3 v4 h σ mc ms cells slots H locs ls hw hM hbud hl
  have hx := C.1
  have hb := C.2.1
  have hown := C.2.2.2.2.2.1
  have hts := C.2.2.2.2.2.2.1
  unfold wp_L_law_378 at hw
  refine lv_goto (tgt := 899) hx hb dL_law_378 (by decide) ?_
  exact wk_L_law_899 C hst hZ hX hbl hK23 v1 v3 v4 h σ mc ms _ _ _ _ ls hw hM hbud (lv_sub hl [0, 1, 2, 3, 4] rfl)
set_option maxHeartbeats 8000000 in
theorem wk_L_law_334 {p : Program} {l : Launch} {e : Env} {s : State} {m : MethodId} {below : List Frame} {meth : Method} {c : Code} {D : va_G} {dA : Nat → ClassId} {ev : Nat → Nat} {b N : Nat} {f : Nat → Int32} {ad : Nat → Nat} (C : CxM p s m meth c #[Value.ref b] (fun q => s.heap.size ≤ q) "LeastSolutionsLaw" cL_law 8 ret) (hst : l.stackTraces = false) (hZ : ZX (fun q => s.heap.size ≤ q) s s.heap) (hX : va_X b N f s s.heap) (hbl : b < s.heap.size) {K23 : Nat → Nat → Int32 → Hp → St → Nat → Nat → Prop} (hK23 : ∀ (v1 : Nat) (v3 : Nat) (v4 : Int32) (h : Hp) (σ : St) (mc ms cells slots : Nat) (H : Heap) (locs : List Loc) (ls : Array Slot), K23 v1 v3 v4 h σ mc ms → wL D dA ev (fun q => s.heap.size ≤ q) s h ad σ H locs → cells + mc ≤ 603072 ∧ slots + ms ≤ 7178346 → lv_has ls 8 [(0, .ref b), (1, .ref v1), (2, .ref (ad 0)), (3, .ref v3), (4, .int v4)] → W p l e room_1 s m #[Value.ref b] below meth c H locs cells slots (lw_Z below #[Value.ref b] s) (F0 m 23 ls [])) : ∀ (v1 : Nat) (v3 : Nat) (v4 : Int32) (h : Hp) (σ : St) (mc ms cells slots : Nat) (H : Heap) (locs : List Loc) (ls : Array Slot), wp_L_law_334 ev ad N f K23 v1 v3 v4 h σ mc ms → wL D dA ev (fun q => s.heap.size ≤ q) s h ad σ H locs → cells + mc ≤ 603072 ∧ slots + ms ≤ 7178346 → lv_has ls 8 [(0, .ref b), (1, .ref v1), (2, .ref (ad 0)), (3, .ref v3), (4, .int v4)] → W p l e room_1 s m #[Value.ref b] below meth c H locs cells slots (lw_Z below #[Value.ref b] s) (F0 m 334 ls []) := by
  intro v1 v3 v4 h σ mc ms cells slots H locs ls hw hM hbud hl
  have hx := C.1
  have hb := C.2.1
  have hown := C.2.2.2.2.2.1
  have hts := C.2.2.2.2.2.2.1
  unfold wp_L_law_334 at hw
  refine lv_goto (tgt := 899) hx hb dL_law_334 (by decide) ?_
  exact wk_L_law_899 C hst hZ hX hbl hK23 v1 v3 v4 h σ mc ms _ _ _ _ ls hw hM hbud (lv_sub hl [0, 1, 2, 3, 4] rfl)
set_option maxHeartbeats 8000000 in
theorem wk_L_law_23 {p : Program} {l : Launch} {e : Env} {s : State} {m : MethodId} {below : List Frame} {meth : Method} {c : Code} {D : va_G} {dA : Nat → ClassId} {ev : Nat → Nat} {b N : Nat} {f : Nat → Int32} {ad : Nat → Nat} (C : CxM p s m meth c #[Value.ref b] (fun q => s.heap.size ≤ q) "LeastSolutionsLaw" cL_law 8 ret) (hst : l.stackTraces = false) (hZ : ZX (fun q => s.heap.size ≤ q) s s.heap) (hX : va_X b N f s s.heap) (hbl : b < s.heap.size) : ∀ (n : Nat), ∀ (v1 : Nat) (v3 : Nat) (v4 : Int32) (h : Hp) (σ : St) (mc ms cells slots : Nat) (H : Heap) (locs : List Loc) (ls : Array Slot), wp_L_law_23 ev ad N f n v1 v3 v4 h σ mc ms → wL D dA ev (fun q => s.heap.size ≤ q) s h ad σ H locs → cells + mc ≤ 603072 ∧ slots + ms ≤ 7178346 → lv_has ls 8 [(0, .ref b), (1, .ref v1), (2, .ref (ad 0)), (3, .ref v3), (4, .int v4)] → W p l e room_1 s m #[Value.ref b] below meth c H locs cells slots (lw_Z below #[Value.ref b] s) (F0 m 23 ls []) := by
  intro n
  induction n with
  | zero => intro v1 v3 v4 h σ mc ms cells slots H locs ls hw; exact hw.elim
  | succ n23 ih =>
    intro v1 v3 v4 h σ mc ms cells slots H locs ls hw hM hbud hl
    have hx := C.1
    have hb := C.2.1
    have hown := C.2.2.2.2.2.1
    have hts := C.2.2.2.2.2.2.1
    unfold wp_L_law_23 at hw
    refine lv_iload hx hb dL_law_23 (lv_at hl 4 rfl) ?_
    refine lv_aload_n hx hb dL_law_25 rfl (lv_at hl 0 rfl) ?_
    refine va_slen C.1 C.2.1 hX hbl (Nat.not_le.mpr hbl) hM.1.2.2.2.1 dL_law_26 ?_
    refine lv_iconst (v := 4) hx hb dL_law_27 (by decide) ?_
    refine lv_isub hx hb dL_law_28 ?_
    refine lv_icmp_gt (tgt := 905) hx hb dL_law_29 (by decide) (fun hc => ?_) (fun hc => ?_)
    · replace hw := hw.1 hc
      refine lv_iconst (v := 1) hx hb dL_law_905 (by decide) ?_
      exact W.widen (by show cells ≤ 603072; omega) (by show slots ≤ 7178346; omega) (va_forget (fun q hq => hM.1.2.2.2.1.2.2 q hq) (lw_ret C.1 C.2.1 C.2.2.1 C.2.2.2.1 dL_law_906))
    · replace hw := hw.2 hc
      refine lv_aload_n hx hb dL_law_32 rfl (lv_at hl 0 rfl) ?_
      refine lv_iload hx hb dL_law_33 (lv_at hl 4 rfl) ?_
      have o1 := hw.1
      replace hw := hw.2
      refine va_sld C.1 C.2.1 hX hbl (Nat.not_le.mpr hbl) hM.1.2.2.2.1 o1 dL_law_35 ?_
      refine lv_bipush (v := 31) hx hb dL_law_36 (by decide) ?_
      refine lv_iand hx hb dL_law_38 ?_
      refine lv_topi (fun x2 ex2 => ?_)
      replace hw := hw x2 ex2
      by_cases hc0 : x2 = 0
      · replace hw := hw.1 hc0
        refine lv_tableIn (tgt := 124) hx hb dL_law_39 (by rw [hc0]; decide) (by rw [hc0]; decide) (by rw [hc0]; rfl) (by decide) ?_
        refine lv_aload_n hx hb dL_law_124 rfl (lv_at hl 1 rfl) ?_
        refine lv_aload_n hx hb dL_law_125 rfl (lv_at hl 0 rfl) ?_
        refine lv_iload hx hb dL_law_126 (lv_at hl 4 rfl) ?_
        refine lv_iconst (v := 1) hx hb dL_law_128 (by decide) ?_
        refine lv_iadd hx hb dL_law_129 ?_
        have o3 := hw.1
        replace hw := hw.2
        refine va_sld C.1 C.2.1 hX hbl (Nat.not_le.mpr hbl) hM.1.2.2.2.1 o3 dL_law_130 ?_
        refine lv_i2l hx hb dL_law_131 rfl ?_
        refine lv_bipush (v := 32) hx hb dL_law_132 (by decide) ?_
        refine lv_lshl hx hb dL_law_134 rfl ?_
        refine lv_aload_n hx hb dL_law_135 rfl (lv_at hl 0 rfl) ?_
        refine lv_iload hx hb dL_law_136 (lv_at hl 4 rfl) ?_
        refine lv_iconst (v := 2) hx hb dL_law_138 (by decide) ?_
        refine lv_iadd hx hb dL_law_139 ?_
        have o4 := hw.1
        replace hw := hw.2
        refine va_sld C.1 C.2.1 hX hbl (Nat.not_le.mpr hbl) hM.1.2.2.2.1 o4 dL_law_140 ?_
        refine lv_i2l hx hb dL_law_141 rfl ?_
        refine lv_ldc2 hx hb hown (hts _ q1694) dL_law_142 ?_
        refine lv_land hx hb dL_law_145 ?_
        refine lv_lor hx hb dL_law_146 ?_
        refine lv_aload_n hx hb dL_law_147 rfl (lv_at hl 0 rfl) ?_
        refine lv_iload hx hb dL_law_148 (lv_at hl 4 rfl) ?_
        refine lv_iconst (v := 3) hx hb dL_law_150 (by decide) ?_
        refine lv_iadd hx hb dL_law_151 ?_
        have o5 := hw.1
        replace hw := hw.2
        refine va_sld C.1 C.2.1 hX hbl (Nat.not_le.mpr hbl) hM.1.2.2.2.1 o5 dL_law_152 ?_
        have o8 := hw.1
        replace hw := hw.2
        refine rL_goi C hM (runX_V C hM.1 hl.1 0 2 (As := [.long (((((f ((v4 + 1) : Int32).toNatClampNeg)).toInt64) <<< ((32 : Int32).toInt64 &&& 63)) ||| ((((f ((v4 + 2) : Int32).toNatClampNeg)).toInt64) &&& 4294967295)), .int (f ((v4 + 3) : Int32).toNatClampNeg)]) rfl (by decide) o8 (mt_X1_type l D dA ev _ h v1 (((((f ((v4 + 1) : Int32).toNatClampNeg)).toInt64) <<< ((32 : Int32).toInt64 &&& 63)) ||| ((((f ((v4 + 2) : Int32).toNatClampNeg)).toInt64) &&& 4294967295)) (f ((v4 + 3) : Int32).toNatClampNeg)  _ hw) (lw_V q512 q513 q514 q75 q515) rfl rfl (by decide +kernel) ⟨Nat.le_of_ble_eq_true rfl, Nat.le_of_ble_eq_true rfl⟩ rfl (Nat.le_of_ble_eq_true rfl) rfl dL_law_153 ⟨by show cells + 0 ≤ 603072; omega, by show slots + 0 ≤ 7178346; omega⟩) (fun x7 h6 H locs hw hM => ?_)
        refine lv_aload_n hx hb dL_law_156 rfl (lv_at hl 2 rfl) ?_
        refine lv_aload_n hx hb dL_law_157 rfl (lv_at hl 0 rfl) ?_
        refine lv_iload hx hb dL_law_158 (lv_at hl 4 rfl) ?_
        refine lv_iconst (v := 1) hx hb dL_law_160 (by decide) ?_
        refine lv_iadd hx hb dL_law_161 ?_
        have o10 := hw.1
        replace hw := hw.2
        refine va_sld C.1 C.2.1 hX hbl (Nat.not_le.mpr hbl) hM.1.2.2.2.1 o10 dL_law_162 ?_
        refine lv_i2l hx hb dL_law_163 rfl ?_
        refine lv_bipush (v := 32) hx hb dL_law_164 (by decide) ?_
        refine lv_lshl hx hb dL_law_166 rfl ?_
        refine lv_aload_n hx hb dL_law_167 rfl (lv_at hl 0 rfl) ?_
        refine lv_iload hx hb dL_law_168 (lv_at hl 4 rfl) ?_
        refine lv_iconst (v := 2) hx hb dL_law_170 (by decide) ?_
        refine lv_iadd hx hb dL_law_171 ?_
        have o11 := hw.1
        replace hw := hw.2
        refine va_sld C.1 C.2.1 hX hbl (Nat.not_le.mpr hbl) hM.1.2.2.2.1 o11 dL_law_172 ?_
        refine lv_i2l hx hb dL_law_173 rfl ?_
        refine lv_ldc2 hx hb hown (hts _ q1694) dL_law_174 ?_
        refine lv_land hx hb dL_law_177 ?_
        refine lv_lor hx hb dL_law_178 ?_
        refine lv_aload_n hx hb dL_law_179 rfl (lv_at hl 0 rfl) ?_
        refine lv_iload hx hb dL_law_180 (lv_at hl 4 rfl) ?_
        refine lv_iconst (v := 3) hx hb dL_law_182 (by decide) ?_
        refine lv_iadd hx hb dL_law_183 ?_
        have o12 := hw.1
        replace hw := hw.2
        refine va_sld C.1 C.2.1 hX hbl (Nat.not_le.mpr hbl) hM.1.2.2.2.1 o12 dL_law_184 ?_
        refine rT_goi C hM (runT_V C hM hl.1 2 (As := [.long (((((f ((v4 + 1) : Int32).toNatClampNeg)).toInt64) <<< ((32 : Int32).toInt64 &&& 63)) ||| ((((f ((v4 + 2) : Int32).toNatClampNeg)).toInt64) &&& 4294967295)), .int (f ((v4 + 3) : Int32).toNatClampNeg)]) (mt_type l D dA ad _ σ (((((f ((v4 + 1) : Int32).toNatClampNeg)).toInt64) <<< ((32 : Int32).toInt64 &&& 63)) ||| ((((f ((v4 + 2) : Int32).toNatClampNeg)).toInt64) &&& 4294967295)) (f ((v4 + 3) : Int32).toNatClampNeg) _ hw) (lw_V q1504 q1505 q1506 q93 q1507) rfl rfl (by decide +kernel) ⟨Nat.le_of_ble_eq_true rfl, Nat.le_of_ble_eq_true rfl⟩ rfl (Nat.le_of_ble_eq_true rfl) rfl dL_law_185 ⟨by show cells + 0 ≤ 603072; omega, by show slots + 0 ≤ 7178346; omega⟩) (fun x13 σ14 H locs hw hM => ?_)
        have hbud : cells + 0 + mc ≤ 603072 ∧ slots + 0 + ms ≤ 7178346 := ⟨by omega, by omega⟩
        refine lv_icmp_eq (tgt := 899) hx hb dL_law_188 (by decide) (fun hc => ?_) (fun hc => ?_)
        · replace hw := hw.1 hc
          exact wk_L_law_899 C hst hZ hX hbl ih v1 v3 v4 h6 σ14 mc ms _ _ _ _ ls hw hM hbud (lv_sub hl [0, 1, 2, 3, 4] rfl)
        · replace hw := hw.2 hc
          refine lv_iconst (v := 0) hx hb dL_law_191 (by decide) ?_
          exact hw.elim
      · replace hw := hw.2 hc0
        by_cases hc1 : x2 = 1
        · replace hw := hw.1 hc1
          refine lv_tableIn (tgt := 193) hx hb dL_law_39 (by rw [hc1]; decide) (by rw [hc1]; decide) (by rw [hc1]; rfl) (by decide) ?_
          refine lv_aload_n hx hb dL_law_193 rfl (lv_at hl 1 rfl) ?_
          obtain ⟨c15, d16, mc17, ms18, emc17, ems18, hw⟩ := hw
          have o21 := hw.1
          replace hw := hw.2
          refine rLZ_goi C hM (runZ_V C hM.1 hZ hl.1 0 0 (As := []) rfl (by decide) o21 (mt_X1_read l hst D dA ev _ h v1  c15 d16 _ _ hw) (lw_V q519 q520 q521 q75 q522) rfl rfl (by decide +kernel) ⟨Nat.le_of_ble_eq_true rfl, Nat.le_of_ble_eq_true rfl⟩ rfl (Nat.le_of_ble_eq_true rfl) rfl dL_law_194 ⟨by show cells + c15 ≤ 603072; omega, by show slots + d16 ≤ 7178346; omega⟩) (fun x20 h19 H locs hw hM => ?_)
          have hbud : cells + c15 + mc17 ≤ 603072 ∧ slots + d16 + ms18 ≤ 7178346 := ⟨by omega, by omega⟩
          refine lv_aload_n hx hb dL_law_197 rfl (lv_at hl 2 rfl) ?_
          refine rT_goi C hM (runT_V C hM hl.1 0 (As := []) (mt_read l D dA ad _ σ  _ hw) (lw_V q1511 q1512 q1513 q93 q1514) rfl rfl (by decide +kernel) ⟨Nat.le_of_ble_eq_true rfl, Nat.le_of_ble_eq_true rfl⟩ rfl (Nat.le_of_ble_eq_true rfl) rfl dL_law_198 ⟨by show cells + c15 + 0 ≤ 603072; omega, by show slots + d16 + 0 ≤ 7178346; omega⟩) (fun x23 σ24 H locs hw hM => ?_)
          have hbud : cells + c15 + 0 + mc17 ≤ 603072 ∧ slots + d16 + 0 + ms18 ≤ 7178346 := ⟨by omega, by omega⟩
          refine lv_icmp_eq (tgt := 899) hx hb dL_law_201 (by decide) (fun hc => ?_) (fun hc => ?_)
          · replace hw := hw.1 hc
            exact wk_L_law_899 C hst hZ hX hbl ih v1 v3 v4 h19 σ24 mc17 ms18 _ _ _ _ ls hw hM hbud (lv_sub hl [0, 1, 2, 3, 4] rfl)
          · replace hw := hw.2 hc
            refine lv_iconst (v := 0) hx hb dL_law_204 (by decide) ?_
            exact hw.elim
        · replace hw := hw.2 hc1
          by_cases hc2 : x2 = 2
          · replace hw := hw.1 hc2
            refine lv_tableIn (tgt := 206) hx hb dL_law_39 (by rw [hc2]; decide) (by rw [hc2]; decide) (by rw [hc2]; rfl) (by decide) ?_
            refine lv_aload_n hx hb dL_law_206 rfl (lv_at hl 1 rfl) ?_
            have o27 := hw.1
            replace hw := hw.2
            refine rL_goi C hM (runX_V C hM.1 hl.1 0 0 (As := []) rfl (by decide) o27 (mt_X1_place l D dA ev _ h v1  _ hw) (lw_V q765 q766 q767 q75 q768) rfl rfl (by decide +kernel) ⟨Nat.le_of_ble_eq_true rfl, Nat.le_of_ble_eq_true rfl⟩ rfl (Nat.le_of_ble_eq_true rfl) rfl dL_law_207 ⟨by show cells + 0 ≤ 603072; omega, by show slots + 0 ≤ 7178346; omega⟩) (fun x26 h25 H locs hw hM => ?_)
            refine lv_aload_n hx hb dL_law_210 rfl (lv_at hl 2 rfl) ?_
            refine rT_goi C hM (runT_V C hM hl.1 0 (As := []) (mt_place l D dA ad _ σ  _ hw) (lw_V q1547 q1548 q1549 q93 q1550) rfl rfl (by decide +kernel) ⟨Nat.le_of_ble_eq_true rfl, Nat.le_of_ble_eq_true rfl⟩ rfl (Nat.le_of_ble_eq_true rfl) rfl dL_law_211 ⟨by show cells + 0 ≤ 603072; omega, by show slots + 0 ≤ 7178346; omega⟩) (fun x29 σ30 H locs hw hM => ?_)
            have hbud : cells + 0 + mc ≤ 603072 ∧ slots + 0 + ms ≤ 7178346 := ⟨by omega, by omega⟩
            refine lv_icmp_eq (tgt := 899) hx hb dL_law_214 (by decide) (fun hc => ?_) (fun hc => ?_)
            · replace hw := hw.1 hc
              exact wk_L_law_899 C hst hZ hX hbl ih v1 v3 v4 h25 σ30 mc ms _ _ _ _ ls hw hM hbud (lv_sub hl [0, 1, 2, 3, 4] rfl)
            · replace hw := hw.2 hc
              refine lv_iconst (v := 0) hx hb dL_law_217 (by decide) ?_
              exact hw.elim
          · replace hw := hw.2 hc2
            by_cases hc3 : x2 = 3
            · replace hw := hw.1 hc3
              refine lv_tableIn (tgt := 219) hx hb dL_law_39 (by rw [hc3]; decide) (by rw [hc3]; decide) (by rw [hc3]; rfl) (by decide) ?_
              refine lv_aload_n hx hb dL_law_219 rfl (lv_at hl 1 rfl) ?_
              refine lv_aload_n hx hb dL_law_220 rfl (lv_at hl 0 rfl) ?_
              refine lv_iload hx hb dL_law_221 (lv_at hl 4 rfl) ?_
              refine lv_iconst (v := 1) hx hb dL_law_223 (by decide) ?_
              refine lv_iadd hx hb dL_law_224 ?_
              have o31 := hw.1
              replace hw := hw.2
              refine va_sld C.1 C.2.1 hX hbl (Nat.not_le.mpr hbl) hM.1.2.2.2.1 o31 dL_law_225 ?_
              have o34 := hw.1
              replace hw := hw.2
              refine rL_goi C hM (runX_V C hM.1 hl.1 0 1 (As := [.int (f ((v4 + 1) : Int32).toNatClampNeg)]) rfl (by decide) o34 (mt_X1_count l D dA ev _ h v1 (f ((v4 + 1) : Int32).toNatClampNeg)  _ hw) (lw_V q769 q770 q771 q75 q772) rfl rfl (by decide +kernel) ⟨Nat.le_of_ble_eq_true rfl, Nat.le_of_ble_eq_true rfl⟩ rfl (Nat.le_of_ble_eq_true rfl) rfl dL_law_226 ⟨by show cells + 0 ≤ 603072; omega, by show slots + 0 ≤ 7178346; omega⟩) (fun x33 h32 H locs hw hM => ?_)
              refine lv_aload_n hx hb dL_law_229 rfl (lv_at hl 2 rfl) ?_
              refine lv_aload_n hx hb dL_law_230 rfl (lv_at hl 0 rfl) ?_
              refine lv_iload hx hb dL_law_231 (lv_at hl 4 rfl) ?_
              refine lv_iconst (v := 1) hx hb dL_law_233 (by decide) ?_
              refine lv_iadd hx hb dL_law_234 ?_
              have o36 := hw.1
              replace hw := hw.2
              refine va_sld C.1 C.2.1 hX hbl (Nat.not_le.mpr hbl) hM.1.2.2.2.1 o36 dL_law_235 ?_
              refine rT_goi C hM (runT_V C hM hl.1 1 (As := [.int (f ((v4 + 1) : Int32).toNatClampNeg)]) (mt_count l D dA ad _ σ (f ((v4 + 1) : Int32).toNatClampNeg) _ hw) (lw_V q1551 q1552 q1553 q93 q1554) rfl rfl (by decide +kernel) ⟨Nat.le_of_ble_eq_true rfl, Nat.le_of_ble_eq_true rfl⟩ rfl (Nat.le_of_ble_eq_true rfl) rfl dL_law_236 ⟨by show cells + 0 ≤ 603072; omega, by show slots + 0 ≤ 7178346; omega⟩) (fun x37 σ38 H locs hw hM => ?_)
              have hbud : cells + 0 + mc ≤ 603072 ∧ slots + 0 + ms ≤ 7178346 := ⟨by omega, by omega⟩
              refine lv_icmp_eq (tgt := 899) hx hb dL_law_239 (by decide) (fun hc => ?_) (fun hc => ?_)
              · replace hw := hw.1 hc
                exact wk_L_law_899 C hst hZ hX hbl ih v1 v3 v4 h32 σ38 mc ms _ _ _ _ ls hw hM hbud (lv_sub hl [0, 1, 2, 3, 4] rfl)
              · replace hw := hw.2 hc
                refine lv_iconst (v := 0) hx hb dL_law_242 (by decide) ?_
                exact hw.elim
            · replace hw := hw.2 hc3
              by_cases hc4 : x2 = 4
              · replace hw := hw.1 hc4
                refine lv_tableIn (tgt := 244) hx hb dL_law_39 (by rw [hc4]; decide) (by rw [hc4]; decide) (by rw [hc4]; rfl) (by decide) ?_
                refine lv_aload_n hx hb dL_law_244 rfl (lv_at hl 1 rfl) ?_
                refine lv_aload_n hx hb dL_law_245 rfl (lv_at hl 0 rfl) ?_
                refine lv_iload hx hb dL_law_246 (lv_at hl 4 rfl) ?_
                refine lv_iconst (v := 1) hx hb dL_law_248 (by decide) ?_
                refine lv_iadd hx hb dL_law_249 ?_
                have o39 := hw.1
                replace hw := hw.2
                refine va_sld C.1 C.2.1 hX hbl (Nat.not_le.mpr hbl) hM.1.2.2.2.1 o39 dL_law_250 ?_
                have o42 := hw.1
                replace hw := hw.2
                refine rL_goi C hM (runX_V C hM.1 hl.1 0 1 (As := [.int (f ((v4 + 1) : Int32).toNatClampNeg)]) rfl (by decide) o42 (mt_X1_letter l D dA ev _ h v1 (f ((v4 + 1) : Int32).toNatClampNeg)  _ hw) (lw_V q773 q774 q775 q75 q776) rfl rfl (by decide +kernel) ⟨Nat.le_of_ble_eq_true rfl, Nat.le_of_ble_eq_true rfl⟩ rfl (Nat.le_of_ble_eq_true rfl) rfl dL_law_251 ⟨by show cells + 0 ≤ 603072; omega, by show slots + 0 ≤ 7178346; omega⟩) (fun x41 h40 H locs hw hM => ?_)
                refine lv_aload_n hx hb dL_law_254 rfl (lv_at hl 2 rfl) ?_
                refine lv_aload_n hx hb dL_law_255 rfl (lv_at hl 0 rfl) ?_
                refine lv_iload hx hb dL_law_256 (lv_at hl 4 rfl) ?_
                refine lv_iconst (v := 1) hx hb dL_law_258 (by decide) ?_
                refine lv_iadd hx hb dL_law_259 ?_
                have o44 := hw.1
                replace hw := hw.2
                refine va_sld C.1 C.2.1 hX hbl (Nat.not_le.mpr hbl) hM.1.2.2.2.1 o44 dL_law_260 ?_
                refine rT_goi C hM (runT_V C hM hl.1 1 (As := [.int (f ((v4 + 1) : Int32).toNatClampNeg)]) (mt_letter l D dA ad _ σ (f ((v4 + 1) : Int32).toNatClampNeg) _ hw) (lw_V q1555 q1556 q1557 q93 q1558) rfl rfl (by decide +kernel) ⟨Nat.le_of_ble_eq_true rfl, Nat.le_of_ble_eq_true rfl⟩ rfl (Nat.le_of_ble_eq_true rfl) rfl dL_law_261 ⟨by show cells + 0 ≤ 603072; omega, by show slots + 0 ≤ 7178346; omega⟩) (fun x45 σ46 H locs hw hM => ?_)
                have hbud : cells + 0 + mc ≤ 603072 ∧ slots + 0 + ms ≤ 7178346 := ⟨by omega, by omega⟩
                refine lv_icmp_eq (tgt := 899) hx hb dL_law_264 (by decide) (fun hc => ?_) (fun hc => ?_)
                · replace hw := hw.1 hc
                  exact wk_L_law_899 C hst hZ hX hbl ih v1 v3 v4 h40 σ46 mc ms _ _ _ _ ls hw hM hbud (lv_sub hl [0, 1, 2, 3, 4] rfl)
                · replace hw := hw.2 hc
                  refine lv_iconst (v := 0) hx hb dL_law_267 (by decide) ?_
                  exact hw.elim
              · replace hw := hw.2 hc4
                by_cases hc5 : x2 = 5
                · replace hw := hw.1 hc5
                  refine lv_tableIn (tgt := 269) hx hb dL_law_39 (by rw [hc5]; decide) (by rw [hc5]; decide) (by rw [hc5]; rfl) (by decide) ?_
                  refine lv_aload_n hx hb dL_law_269 rfl (lv_at hl 1 rfl) ?_
                  refine lv_aload_n hx hb dL_law_270 rfl (lv_at hl 0 rfl) ?_
                  refine lv_iload hx hb dL_law_271 (lv_at hl 4 rfl) ?_
                  refine lv_iconst (v := 1) hx hb dL_law_273 (by decide) ?_
                  refine lv_iadd hx hb dL_law_274 ?_
                  have o47 := hw.1
                  replace hw := hw.2
                  refine va_sld C.1 C.2.1 hX hbl (Nat.not_le.mpr hbl) hM.1.2.2.2.1 o47 dL_law_275 ?_
                  refine lv_aload_n hx hb dL_law_276 rfl (lv_at hl 0 rfl) ?_
                  refine lv_iload hx hb dL_law_277 (lv_at hl 4 rfl) ?_
                  refine lv_iconst (v := 2) hx hb dL_law_279 (by decide) ?_
                  refine lv_iadd hx hb dL_law_280 ?_
                  have o48 := hw.1
                  replace hw := hw.2
                  refine va_sld C.1 C.2.1 hX hbl (Nat.not_le.mpr hbl) hM.1.2.2.2.1 o48 dL_law_281 ?_
                  refine lv_aload_n hx hb dL_law_282 rfl (lv_at hl 3 rfl) ?_
                  obtain ⟨c49, d50, mc51, ms52, emc51, ems52, hw⟩ := hw
                  refine rLZ_goi C hM (runZ_SW C hM.1 hZ hl.1 4 (As := [.ref v1, .int (f ((v4 + 1) : Int32).toNatClampNeg), .int (f ((v4 + 2) : Int32).toNatClampNeg), .ref v3]) (mt_X0_number l hst D dA ev _ h v1 (f ((v4 + 1) : Int32).toNatClampNeg) (f ((v4 + 2) : Int32).toNatClampNeg) v3  c49 d50 _ _ hw) (lw_SW q837 q838 q74 q839) rfl rfl (by decide +kernel) ⟨Nat.le_of_ble_eq_true rfl, Nat.le_of_ble_eq_true rfl⟩ rfl (Nat.le_of_ble_eq_true rfl) rfl dL_law_283 ⟨by show cells + c49 ≤ 603072; omega, by show slots + d50 ≤ 7178346; omega⟩) (fun x54 h53 H locs hw hM => ?_)
                  have hbud : cells + c49 + mc51 ≤ 603072 ∧ slots + d50 + ms52 ≤ 7178346 := ⟨by omega, by omega⟩
                  refine lv_istore (lv' := [(5, .int x54), (0, .ref b), (1, .ref v1), (2, .ref (ad 0)), (3, .ref v3), (4, .int v4)]) hx hb dL_law_286 hl (by decide) rfl (fun ls hl => ?_)
                  refine lv_aload_n hx hb dL_law_288 rfl (lv_at hl 3 rfl) ?_
                  refine lv_aload_n hx hb dL_law_289 rfl (lv_at hl 1 rfl) ?_
                  refine lv_iload hx hb dL_law_290 (lv_at hl 5 rfl) ?_
                  refine lv_iconst (v := 1) hx hb dL_law_292 (by decide) ?_
                  refine lv_iadd hx hb dL_law_293 ?_
                  have o56 := hw.1
                  replace hw := hw.2
                  refine va_sld C.1 C.2.1 hX hbl (Nat.not_le.mpr hbl) hM.1.2.2.2.1 o56 dL_law_294 ?_
                  refine lv_aload_n hx hb dL_law_295 rfl (lv_at hl 1 rfl) ?_
                  refine lv_iload hx hb dL_law_296 (lv_at hl 5 rfl) ?_
                  refine lv_iconst (v := 2) hx hb dL_law_298 (by decide) ?_
                  refine lv_iadd hx hb dL_law_299 ?_
                  have o57 := hw.1
                  replace hw := hw.2
                  refine va_sld C.1 C.2.1 hX hbl (Nat.not_le.mpr hbl) hM.1.2.2.2.1 o57 dL_law_300 ?_
                  refine rT_goi C hM (runT_V C hM hl.1 2 (As := [.int (f ((v4 + 1) : Int32).toNatClampNeg), .int (f ((v4 + 2) : Int32).toNatClampNeg)]) (mt_number l D dA ad _ σ (f ((v4 + 1) : Int32).toNatClampNeg) (f ((v4 + 2) : Int32).toNatClampNeg) _ hw) (lw_V q1559 q1560 q1561 q93 q1562) rfl rfl (by decide +kernel) ⟨Nat.le_of_ble_eq_true rfl, Nat.le_of_ble_eq_true rfl⟩ rfl (Nat.le_of_ble_eq_true rfl) rfl dL_law_301 ⟨by show cells + c49 + 0 ≤ 603072; omega, by show slots + d50 + 0 ≤ 7178346; omega⟩) (fun x58 σ59 H locs hw hM => ?_)
                  have hbud : cells + c49 + 0 + mc51 ≤ 603072 ∧ slots + d50 + 0 + ms52 ≤ 7178346 := ⟨by omega, by omega⟩
                  refine lv_istore (lv' := [(6, .int x58), (5, .int x54), (0, .ref b), (1, .ref v1), (2, .ref (ad 0)), (3, .ref v3), (4, .int v4)]) hx hb dL_law_304 hl (by decide) rfl (fun ls hl => ?_)
                  refine lv_aload_n hx hb dL_law_306 rfl (lv_at hl 4 rfl) ?_
                  refine rT_goi C hM (runT_V C hM hl.1 0 (As := []) (mt_thrown l D dA ad _ σ59  _ hw) (lw_V q1500 q1501 q1502 q93 q1503) rfl rfl (by decide +kernel) ⟨Nat.le_of_ble_eq_true rfl, Nat.le_of_ble_eq_true rfl⟩ rfl (Nat.le_of_ble_eq_true rfl) rfl dL_law_307 ⟨by show cells + c49 + 0 + 0 ≤ 603072; omega, by show slots + d50 + 0 + 0 ≤ 7178346; omega⟩) (fun x60 σ61 H locs hw hM => ?_)
                  have hbud : cells + c49 + 0 + 0 + mc51 ≤ 603072 ∧ slots + d50 + 0 + 0 + ms52 ≤ 7178346 := ⟨by omega, by omega⟩
                  refine lv_iload hx hb dL_law_310 (lv_at hl 1 rfl) ?_
                  refine lv_icmp_eq (tgt := 317) hx hb dL_law_312 (by decide) (fun hc => ?_) (fun hc => ?_)
                  · replace hw := hw.1 hc
                    refine lv_iload hx hb dL_law_317 (lv_at hl 1 rfl) ?_
                    refine lv_if_ne (tgt := 334) hx hb dL_law_319 (by decide) (fun hc => ?_) (fun hc => ?_)
                    · replace hw := hw.1 hc
                      exact wk_L_law_334 C hst hZ hX hbl ih v1 v3 v4 h53 σ61 mc51 ms52 _ _ _ _ ls hw hM hbud (lv_sub hl [2, 3, 4, 5, 6] rfl)
                    · replace hw := hw.2 hc
                      refine lv_aload_n hx hb dL_law_322 rfl (lv_at hl 5 rfl) ?_
                      refine lv_iconst (v := 0) hx hb dL_law_323 (by decide) ?_
                      have o62 := hw.1
                      replace hw := hw.2
                      have o63 := hw.1
                      replace hw := hw.2
                      refine rX_lald C hM.1 o62 o63 dL_law_324 ?_
                      refine lv_iload hx hb dL_law_325 (lv_at hl 0 rfl) ?_
                      refine lv_i2l hx hb dL_law_327 rfl ?_
                      refine W.lcmp hx hb dL_law_328 ?_
                      refine lv_if_eq (tgt := 334) hx hb dL_law_329 (by decide) (fun hc => ?_) (fun hc => ?_)
                      · replace hw := hw.1 hc
                        exact wk_L_law_334 C hst hZ hX hbl ih v1 v3 v4 h53 σ61 mc51 ms52 _ _ _ _ ls hw hM hbud (lv_sub hl [2, 3, 4, 5, 6] rfl)
                      · replace hw := hw.2 hc
                        refine lv_iconst (v := 0) hx hb dL_law_332 (by decide) ?_
                        exact hw.elim
                  · replace hw := hw.2 hc
                    refine lv_iconst (v := 0) hx hb dL_law_315 (by decide) ?_
                    exact hw.elim
                · replace hw := hw.2 hc5
                  by_cases hc6 : x2 = 6
                  · replace hw := hw.1 hc6
                    refine lv_tableIn (tgt := 337) hx hb dL_law_39 (by rw [hc6]; decide) (by rw [hc6]; decide) (by rw [hc6]; rfl) (by decide) ?_
                    refine lv_aload_n hx hb dL_law_337 rfl (lv_at hl 1 rfl) ?_
                    refine lv_aload_n hx hb dL_law_338 rfl (lv_at hl 3 rfl) ?_
                    obtain ⟨c64, d65, mc66, ms67, emc66, ems67, hw⟩ := hw
                    refine rLZ_goi C hM (runZ_SW C hM.1 hZ hl.1 2 (As := [.ref v1, .ref v3]) (mt_X0_solvable l hst D dA ev _ h v1 v3  c64 d65 _ _ hw) (lw_SW q891 q892 q74 q893) rfl rfl (by decide +kernel) ⟨Nat.le_of_ble_eq_true rfl, Nat.le_of_ble_eq_true rfl⟩ rfl (Nat.le_of_ble_eq_true rfl) rfl dL_law_339 ⟨by show cells + c64 ≤ 603072; omega, by show slots + d65 ≤ 7178346; omega⟩) (fun x69 h68 H locs hw hM => ?_)
                    have hbud : cells + c64 + mc66 ≤ 603072 ∧ slots + d65 + ms67 ≤ 7178346 := ⟨by omega, by omega⟩
                    refine lv_istore (lv' := [(5, .int x69), (0, .ref b), (1, .ref v1), (2, .ref (ad 0)), (3, .ref v3), (4, .int v4)]) hx hb dL_law_342 hl (by decide) rfl (fun ls hl => ?_)
                    refine lv_aload_n hx hb dL_law_344 rfl (lv_at hl 3 rfl) ?_
                    refine rT_goi C hM (runT_V C hM hl.1 0 (As := []) (mt_solvable l D dA ad _ σ  _ hw) (lw_V q1563 q1564 q1565 q93 q1566) rfl rfl (by decide +kernel) ⟨Nat.le_of_ble_eq_true rfl, Nat.le_of_ble_eq_true rfl⟩ rfl (Nat.le_of_ble_eq_true rfl) rfl dL_law_345 ⟨by show cells + c64 + 0 ≤ 603072; omega, by show slots + d65 + 0 ≤ 7178346; omega⟩) (fun x71 σ72 H locs hw hM => ?_)
                    have hbud : cells + c64 + 0 + mc66 ≤ 603072 ∧ slots + d65 + 0 + ms67 ≤ 7178346 := ⟨by omega, by omega⟩
                    refine lv_istore (lv' := [(6, .int x71), (5, .int x69), (0, .ref b), (1, .ref v1), (2, .ref (ad 0)), (3, .ref v3), (4, .int v4)]) hx hb dL_law_348 hl (by decide) rfl (fun ls hl => ?_)
                    refine lv_aload_n hx hb dL_law_350 rfl (lv_at hl 4 rfl) ?_
                    refine rT_goi C hM (runT_V C hM hl.1 0 (As := []) (mt_thrown l D dA ad _ σ72  _ hw) (lw_V q1500 q1501 q1502 q93 q1503) rfl rfl (by decide +kernel) ⟨Nat.le_of_ble_eq_true rfl, Nat.le_of_ble_eq_true rfl⟩ rfl (Nat.le_of_ble_eq_true rfl) rfl dL_law_351 ⟨by show cells + c64 + 0 + 0 ≤ 603072; omega, by show slots + d65 + 0 + 0 ≤ 7178346; omega⟩) (fun x73 σ74 H locs hw hM => ?_)
                    have hbud : cells + c64 + 0 + 0 + mc66 ≤ 603072 ∧ slots + d65 + 0 + 0 + ms67 ≤ 7178346 := ⟨by omega, by omega⟩
                    refine lv_iload hx hb dL_law_354 (lv_at hl 1 rfl) ?_
                    refine lv_icmp_eq (tgt := 361) hx hb dL_law_356 (by decide) (fun hc => ?_) (fun hc => ?_)
                    · replace hw := hw.1 hc
                      refine lv_iload hx hb dL_law_361 (lv_at hl 1 rfl) ?_
                      refine lv_if_ne (tgt := 378) hx hb dL_law_363 (by decide) (fun hc => ?_) (fun hc => ?_)
                      · replace hw := hw.1 hc
                        exact wk_L_law_378 C hst hZ hX hbl ih v1 v3 v4 h68 σ74 mc66 ms67 _ _ _ _ ls hw hM hbud (lv_sub hl [2, 3, 4, 5, 6] rfl)
                      · replace hw := hw.2 hc
                        refine lv_aload_n hx hb dL_law_366 rfl (lv_at hl 5 rfl) ?_
                        refine lv_iconst (v := 0) hx hb dL_law_367 (by decide) ?_
                        have o75 := hw.1
                        replace hw := hw.2
                        have o76 := hw.1
                        replace hw := hw.2
                        refine rX_lald C hM.1 o75 o76 dL_law_368 ?_
                        refine lv_iload hx hb dL_law_369 (lv_at hl 0 rfl) ?_
                        refine lv_i2l hx hb dL_law_371 rfl ?_
                        refine W.lcmp hx hb dL_law_372 ?_
                        refine lv_if_eq (tgt := 378) hx hb dL_law_373 (by decide) (fun hc => ?_) (fun hc => ?_)
                        · replace hw := hw.1 hc
                          exact wk_L_law_378 C hst hZ hX hbl ih v1 v3 v4 h68 σ74 mc66 ms67 _ _ _ _ ls hw hM hbud (lv_sub hl [2, 3, 4, 5, 6] rfl)
                        · replace hw := hw.2 hc
                          refine lv_iconst (v := 0) hx hb dL_law_376 (by decide) ?_
                          exact hw.elim
                    · replace hw := hw.2 hc
                      refine lv_iconst (v := 0) hx hb dL_law_359 (by decide) ?_
                      exact hw.elim
                  · replace hw := hw.2 hc6
                    by_cases hc7 : x2 = 7
                    · replace hw := hw.1 hc7
                      refine lv_tableIn (tgt := 381) hx hb dL_law_39 (by rw [hc7]; decide) (by rw [hc7]; decide) (by rw [hc7]; rfl) (by decide) ?_
                      refine lv_aload_n hx hb dL_law_381 rfl (lv_at hl 1 rfl) ?_
                      refine lv_aload_n hx hb dL_law_382 rfl (lv_at hl 3 rfl) ?_
                      obtain ⟨c77, d78, mc79, ms80, emc79, ems80, hw⟩ := hw
                      refine rLZ_goi C hM (runZ_SW C hM.1 hZ hl.1 2 (As := [.ref v1, .ref v3]) (mt_X0_kernel l hst D dA ev _ h v1 v3  c77 d78 _ _ hw) (lw_SW q899 q900 q74 q901) rfl rfl (by decide +kernel) ⟨Nat.le_of_ble_eq_true rfl, Nat.le_of_ble_eq_true rfl⟩ rfl (Nat.le_of_ble_eq_true rfl) rfl dL_law_383 ⟨by show cells + c77 ≤ 603072; omega, by show slots + d78 ≤ 7178346; omega⟩) (fun x82 h81 H locs hw hM => ?_)
                      have hbud : cells + c77 + mc79 ≤ 603072 ∧ slots + d78 + ms80 ≤ 7178346 := ⟨by omega, by omega⟩
                      refine lv_istore (lv' := [(5, .int x82), (0, .ref b), (1, .ref v1), (2, .ref (ad 0)), (3, .ref v3), (4, .int v4)]) hx hb dL_law_386 hl (by decide) rfl (fun ls hl => ?_)
                      refine lv_aload_n hx hb dL_law_388 rfl (lv_at hl 3 rfl) ?_
                      refine rT_goi C hM (runT_V C hM hl.1 0 (As := []) (mt_kernel l D dA ad _ σ  _ hw) (lw_V q1606 q1607 q1608 q93 q1609) rfl rfl (by decide +kernel) ⟨Nat.le_of_ble_eq_true rfl, Nat.le_of_ble_eq_true rfl⟩ rfl (Nat.le_of_ble_eq_true rfl) rfl dL_law_389 ⟨by show cells + c77 + 0 ≤ 603072; omega, by show slots + d78 + 0 ≤ 7178346; omega⟩) (fun x84 σ85 H locs hw hM => ?_)
                      have hbud : cells + c77 + 0 + mc79 ≤ 603072 ∧ slots + d78 + 0 + ms80 ≤ 7178346 := ⟨by omega, by omega⟩
                      refine lv_istore (lv' := [(6, .int x84), (5, .int x82), (0, .ref b), (1, .ref v1), (2, .ref (ad 0)), (3, .ref v3), (4, .int v4)]) hx hb dL_law_392 hl (by decide) rfl (fun ls hl => ?_)
                      refine lv_aload_n hx hb dL_law_394 rfl (lv_at hl 4 rfl) ?_
                      refine rT_goi C hM (runT_V C hM hl.1 0 (As := []) (mt_thrown l D dA ad _ σ85  _ hw) (lw_V q1500 q1501 q1502 q93 q1503) rfl rfl (by decide +kernel) ⟨Nat.le_of_ble_eq_true rfl, Nat.le_of_ble_eq_true rfl⟩ rfl (Nat.le_of_ble_eq_true rfl) rfl dL_law_395 ⟨by show cells + c77 + 0 + 0 ≤ 603072; omega, by show slots + d78 + 0 + 0 ≤ 7178346; omega⟩) (fun x86 σ87 H locs hw hM => ?_)
                      have hbud : cells + c77 + 0 + 0 + mc79 ≤ 603072 ∧ slots + d78 + 0 + 0 + ms80 ≤ 7178346 := ⟨by omega, by omega⟩
                      refine lv_iload hx hb dL_law_398 (lv_at hl 1 rfl) ?_
                      refine lv_icmp_eq (tgt := 405) hx hb dL_law_400 (by decide) (fun hc => ?_) (fun hc => ?_)
                      · replace hw := hw.1 hc
                        refine lv_iload hx hb dL_law_405 (lv_at hl 1 rfl) ?_
                        refine lv_if_ne (tgt := 422) hx hb dL_law_407 (by decide) (fun hc => ?_) (fun hc => ?_)
                        · replace hw := hw.1 hc
                          exact wk_L_law_422 C hst hZ hX hbl ih v1 v3 v4 h81 σ87 mc79 ms80 _ _ _ _ ls hw hM hbud (lv_sub hl [2, 3, 4, 5, 6] rfl)
                        · replace hw := hw.2 hc
                          refine lv_aload_n hx hb dL_law_410 rfl (lv_at hl 5 rfl) ?_
                          refine lv_iconst (v := 0) hx hb dL_law_411 (by decide) ?_
                          have o88 := hw.1
                          replace hw := hw.2
                          have o89 := hw.1
                          replace hw := hw.2
                          refine rX_lald C hM.1 o88 o89 dL_law_412 ?_
                          refine lv_iload hx hb dL_law_413 (lv_at hl 0 rfl) ?_
                          refine lv_i2l hx hb dL_law_415 rfl ?_
                          refine W.lcmp hx hb dL_law_416 ?_
                          refine lv_if_eq (tgt := 422) hx hb dL_law_417 (by decide) (fun hc => ?_) (fun hc => ?_)
                          · replace hw := hw.1 hc
                            exact wk_L_law_422 C hst hZ hX hbl ih v1 v3 v4 h81 σ87 mc79 ms80 _ _ _ _ ls hw hM hbud (lv_sub hl [2, 3, 4, 5, 6] rfl)
                          · replace hw := hw.2 hc
                            refine lv_iconst (v := 0) hx hb dL_law_420 (by decide) ?_
                            exact hw.elim
                      · replace hw := hw.2 hc
                        refine lv_iconst (v := 0) hx hb dL_law_403 (by decide) ?_
                        exact hw.elim
                    · replace hw := hw.2 hc7
                      by_cases hc8 : x2 = 8
                      · replace hw := hw.1 hc8
                        refine lv_tableIn (tgt := 425) hx hb dL_law_39 (by rw [hc8]; decide) (by rw [hc8]; decide) (by rw [hc8]; rfl) (by decide) ?_
                        refine lv_aload_n hx hb dL_law_425 rfl (lv_at hl 1 rfl) ?_
                        refine lv_aload_n hx hb dL_law_426 rfl (lv_at hl 0 rfl) ?_
                        refine lv_iload hx hb dL_law_427 (lv_at hl 4 rfl) ?_
                        refine lv_iconst (v := 1) hx hb dL_law_429 (by decide) ?_
                        refine lv_iadd hx hb dL_law_430 ?_
                        have o90 := hw.1
                        replace hw := hw.2
                        refine va_sld C.1 C.2.1 hX hbl (Nat.not_le.mpr hbl) hM.1.2.2.2.1 o90 dL_law_431 ?_
                        refine lv_aload_n hx hb dL_law_432 rfl (lv_at hl 0 rfl) ?_
                        refine lv_iload hx hb dL_law_433 (lv_at hl 4 rfl) ?_
                        refine lv_iconst (v := 2) hx hb dL_law_435 (by decide) ?_
                        refine lv_iadd hx hb dL_law_436 ?_
                        have o91 := hw.1
                        replace hw := hw.2
                        refine va_sld C.1 C.2.1 hX hbl (Nat.not_le.mpr hbl) hM.1.2.2.2.1 o91 dL_law_437 ?_
                        refine lv_aload_n hx hb dL_law_438 rfl (lv_at hl 3 rfl) ?_
                        obtain ⟨c92, d93, mc94, ms95, emc94, ems95, hw⟩ := hw
                        refine rLZ_goi C hM (runZ_SW C hM.1 hZ hl.1 4 (As := [.ref v1, .int (f ((v4 + 1) : Int32).toNatClampNeg), .int (f ((v4 + 2) : Int32).toNatClampNeg), .ref v3]) (mt_X0_kernelAt l hst D dA ev _ h v1 (f ((v4 + 1) : Int32).toNatClampNeg) (f ((v4 + 2) : Int32).toNatClampNeg) v3  c92 d93 _ _ hw) (lw_SW q910 q911 q74 q912) rfl rfl (by decide +kernel) ⟨Nat.le_of_ble_eq_true rfl, Nat.le_of_ble_eq_true rfl⟩ rfl (Nat.le_of_ble_eq_true rfl) rfl dL_law_439 ⟨by show cells + c92 ≤ 603072; omega, by show slots + d93 ≤ 7178346; omega⟩) (fun x97 h96 H locs hw hM => ?_)
                        have hbud : cells + c92 + mc94 ≤ 603072 ∧ slots + d93 + ms95 ≤ 7178346 := ⟨by omega, by omega⟩
                        refine lv_istore (lv' := [(5, .int x97), (0, .ref b), (1, .ref v1), (2, .ref (ad 0)), (3, .ref v3), (4, .int v4)]) hx hb dL_law_442 hl (by decide) rfl (fun ls hl => ?_)
                        refine lv_aload_n hx hb dL_law_444 rfl (lv_at hl 3 rfl) ?_
                        refine lv_aload_n hx hb dL_law_445 rfl (lv_at hl 1 rfl) ?_
                        refine lv_iload hx hb dL_law_446 (lv_at hl 5 rfl) ?_
                        refine lv_iconst (v := 1) hx hb dL_law_448 (by decide) ?_
                        refine lv_iadd hx hb dL_law_449 ?_
                        have o99 := hw.1
                        replace hw := hw.2
                        refine va_sld C.1 C.2.1 hX hbl (Nat.not_le.mpr hbl) hM.1.2.2.2.1 o99 dL_law_450 ?_
                        refine lv_aload_n hx hb dL_law_451 rfl (lv_at hl 1 rfl) ?_
                        refine lv_iload hx hb dL_law_452 (lv_at hl 5 rfl) ?_
                        refine lv_iconst (v := 2) hx hb dL_law_454 (by decide) ?_
                        refine lv_iadd hx hb dL_law_455 ?_
                        have o100 := hw.1
                        replace hw := hw.2
                        refine va_sld C.1 C.2.1 hX hbl (Nat.not_le.mpr hbl) hM.1.2.2.2.1 o100 dL_law_456 ?_
                        refine rT_gol C hM (runT_V C hM hl.1 2 (As := [.int (f ((v4 + 1) : Int32).toNatClampNeg), .int (f ((v4 + 2) : Int32).toNatClampNeg)]) (mt_kernelAt l D dA ad _ σ (f ((v4 + 1) : Int32).toNatClampNeg) (f ((v4 + 2) : Int32).toNatClampNeg) _ hw) (lw_V q1610 q1611 q1612 q93 q1613) rfl rfl (by decide +kernel) ⟨Nat.le_of_ble_eq_true rfl, Nat.le_of_ble_eq_true rfl⟩ rfl (Nat.le_of_ble_eq_true rfl) rfl dL_law_457 ⟨by show cells + c92 + 0 ≤ 603072; omega, by show slots + d93 + 0 ≤ 7178346; omega⟩) (fun y101 σ102 H locs hw hM => ?_)
                        have hbud : cells + c92 + 0 + mc94 ≤ 603072 ∧ slots + d93 + 0 + ms95 ≤ 7178346 := ⟨by omega, by omega⟩
                        refine lv_lstore (lv' := [(6, .long y101), (5, .int x97), (0, .ref b), (1, .ref v1), (2, .ref (ad 0)), (3, .ref v3), (4, .int v4)]) hx hb dL_law_460 hl (by decide) rfl (fun ls hl => ?_)
                        refine lv_aload_n hx hb dL_law_462 rfl (lv_at hl 4 rfl) ?_
                        refine rT_goi C hM (runT_V C hM hl.1 0 (As := []) (mt_thrown l D dA ad _ σ102  _ hw) (lw_V q1500 q1501 q1502 q93 q1503) rfl rfl (by decide +kernel) ⟨Nat.le_of_ble_eq_true rfl, Nat.le_of_ble_eq_true rfl⟩ rfl (Nat.le_of_ble_eq_true rfl) rfl dL_law_463 ⟨by show cells + c92 + 0 + 0 ≤ 603072; omega, by show slots + d93 + 0 + 0 ≤ 7178346; omega⟩) (fun x103 σ104 H locs hw hM => ?_)
                        have hbud : cells + c92 + 0 + 0 + mc94 ≤ 603072 ∧ slots + d93 + 0 + 0 + ms95 ≤ 7178346 := ⟨by omega, by omega⟩
                        refine lv_iload hx hb dL_law_466 (lv_at hl 1 rfl) ?_
                        refine lv_icmp_eq (tgt := 473) hx hb dL_law_468 (by decide) (fun hc => ?_) (fun hc => ?_)
                        · replace hw := hw.1 hc
                          refine lv_iload hx hb dL_law_473 (lv_at hl 1 rfl) ?_
                          refine lv_if_ne (tgt := 489) hx hb dL_law_475 (by decide) (fun hc => ?_) (fun hc => ?_)
                          · replace hw := hw.1 hc
                            exact wk_L_law_489 C hst hZ hX hbl ih v1 v3 v4 h96 σ104 mc94 ms95 _ _ _ _ ls hw hM hbud (lv_sub hl [2, 3, 4, 5, 6] rfl)
                          · replace hw := hw.2 hc
                            refine lv_aload_n hx hb dL_law_478 rfl (lv_at hl 5 rfl) ?_
                            refine lv_iconst (v := 0) hx hb dL_law_479 (by decide) ?_
                            have o105 := hw.1
                            replace hw := hw.2
                            have o106 := hw.1
                            replace hw := hw.2
                            refine rX_lald C hM.1 o105 o106 dL_law_480 ?_
                            refine lv_lload hx hb dL_law_481 (lv_at hl 0 rfl) ?_
                            refine W.lcmp hx hb dL_law_483 ?_
                            refine lv_if_eq (tgt := 489) hx hb dL_law_484 (by decide) (fun hc => ?_) (fun hc => ?_)
                            · replace hw := hw.1 hc
                              exact wk_L_law_489 C hst hZ hX hbl ih v1 v3 v4 h96 σ104 mc94 ms95 _ _ _ _ ls hw hM hbud (lv_sub hl [2, 3, 4, 5, 6] rfl)
                            · replace hw := hw.2 hc
                              refine lv_iconst (v := 0) hx hb dL_law_487 (by decide) ?_
                              exact hw.elim
                        · replace hw := hw.2 hc
                          refine lv_iconst (v := 0) hx hb dL_law_471 (by decide) ?_
                          exact hw.elim
                      · replace hw := hw.2 hc8
                        by_cases hc9 : x2 = 9
                        · replace hw := hw.1 hc9
                          refine lv_tableIn (tgt := 492) hx hb dL_law_39 (by rw [hc9]; decide) (by rw [hc9]; decide) (by rw [hc9]; rfl) (by decide) ?_
                          refine lv_aload_n hx hb dL_law_492 rfl (lv_at hl 1 rfl) ?_
                          refine lv_aload_n hx hb dL_law_493 rfl (lv_at hl 0 rfl) ?_
                          refine lv_iload hx hb dL_law_494 (lv_at hl 4 rfl) ?_
                          refine lv_iconst (v := 1) hx hb dL_law_496 (by decide) ?_
                          refine lv_iadd hx hb dL_law_497 ?_
                          have o107 := hw.1
                          replace hw := hw.2
                          refine va_sld C.1 C.2.1 hX hbl (Nat.not_le.mpr hbl) hM.1.2.2.2.1 o107 dL_law_498 ?_
                          refine lv_aload_n hx hb dL_law_499 rfl (lv_at hl 0 rfl) ?_
                          refine lv_iload hx hb dL_law_500 (lv_at hl 4 rfl) ?_
                          refine lv_iconst (v := 2) hx hb dL_law_502 (by decide) ?_
                          refine lv_iadd hx hb dL_law_503 ?_
                          have o108 := hw.1
                          replace hw := hw.2
                          refine va_sld C.1 C.2.1 hX hbl (Nat.not_le.mpr hbl) hM.1.2.2.2.1 o108 dL_law_504 ?_
                          refine lv_aload_n hx hb dL_law_505 rfl (lv_at hl 3 rfl) ?_
                          obtain ⟨c109, d110, mc111, ms112, emc111, ems112, hw⟩ := hw
                          refine rLZ_goi C hM (runZ_SW C hM.1 hZ hl.1 4 (As := [.ref v1, .int (f ((v4 + 1) : Int32).toNatClampNeg), .int (f ((v4 + 2) : Int32).toNatClampNeg), .ref v3]) (mt_X0_work l hst D dA ev _ h v1 (f ((v4 + 1) : Int32).toNatClampNeg) (f ((v4 + 2) : Int32).toNatClampNeg) v3  c109 d110 _ _ hw) (lw_SW q921 q922 q74 q923) rfl rfl (by decide +kernel) ⟨Nat.le_of_ble_eq_true rfl, Nat.le_of_ble_eq_true rfl⟩ rfl (Nat.le_of_ble_eq_true rfl) rfl dL_law_506 ⟨by show cells + c109 ≤ 603072; omega, by show slots + d110 ≤ 7178346; omega⟩) (fun x114 h113 H locs hw hM => ?_)
                          have hbud : cells + c109 + mc111 ≤ 603072 ∧ slots + d110 + ms112 ≤ 7178346 := ⟨by omega, by omega⟩
                          refine lv_istore (lv' := [(5, .int x114), (0, .ref b), (1, .ref v1), (2, .ref (ad 0)), (3, .ref v3), (4, .int v4)]) hx hb dL_law_509 hl (by decide) rfl (fun ls hl => ?_)
                          refine lv_aload_n hx hb dL_law_511 rfl (lv_at hl 3 rfl) ?_
                          refine lv_aload_n hx hb dL_law_512 rfl (lv_at hl 1 rfl) ?_
                          refine lv_iload hx hb dL_law_513 (lv_at hl 5 rfl) ?_
                          refine lv_iconst (v := 1) hx hb dL_law_515 (by decide) ?_
                          refine lv_iadd hx hb dL_law_516 ?_
                          have o116 := hw.1
                          replace hw := hw.2
                          refine va_sld C.1 C.2.1 hX hbl (Nat.not_le.mpr hbl) hM.1.2.2.2.1 o116 dL_law_517 ?_
                          refine lv_aload_n hx hb dL_law_518 rfl (lv_at hl 1 rfl) ?_
                          refine lv_iload hx hb dL_law_519 (lv_at hl 5 rfl) ?_
                          refine lv_iconst (v := 2) hx hb dL_law_521 (by decide) ?_
                          refine lv_iadd hx hb dL_law_522 ?_
                          have o117 := hw.1
                          replace hw := hw.2
                          refine va_sld C.1 C.2.1 hX hbl (Nat.not_le.mpr hbl) hM.1.2.2.2.1 o117 dL_law_523 ?_
                          refine rT_goi C hM (runT_V C hM hl.1 2 (As := [.int (f ((v4 + 1) : Int32).toNatClampNeg), .int (f ((v4 + 2) : Int32).toNatClampNeg)]) (mt_work l D dA ad _ σ (f ((v4 + 1) : Int32).toNatClampNeg) (f ((v4 + 2) : Int32).toNatClampNeg) _ hw) (lw_V q1618 q1619 q1620 q93 q1621) rfl rfl (by decide +kernel) ⟨Nat.le_of_ble_eq_true rfl, Nat.le_of_ble_eq_true rfl⟩ rfl (Nat.le_of_ble_eq_true rfl) rfl dL_law_524 ⟨by show cells + c109 + 0 ≤ 603072; omega, by show slots + d110 + 0 ≤ 7178346; omega⟩) (fun x118 σ119 H locs hw hM => ?_)
                          have hbud : cells + c109 + 0 + mc111 ≤ 603072 ∧ slots + d110 + 0 + ms112 ≤ 7178346 := ⟨by omega, by omega⟩
                          refine lv_istore (lv' := [(6, .int x118), (5, .int x114), (0, .ref b), (1, .ref v1), (2, .ref (ad 0)), (3, .ref v3), (4, .int v4)]) hx hb dL_law_527 hl (by decide) rfl (fun ls hl => ?_)
                          refine lv_aload_n hx hb dL_law_529 rfl (lv_at hl 4 rfl) ?_
                          refine rT_goi C hM (runT_V C hM hl.1 0 (As := []) (mt_thrown l D dA ad _ σ119  _ hw) (lw_V q1500 q1501 q1502 q93 q1503) rfl rfl (by decide +kernel) ⟨Nat.le_of_ble_eq_true rfl, Nat.le_of_ble_eq_true rfl⟩ rfl (Nat.le_of_ble_eq_true rfl) rfl dL_law_530 ⟨by show cells + c109 + 0 + 0 ≤ 603072; omega, by show slots + d110 + 0 + 0 ≤ 7178346; omega⟩) (fun x120 σ121 H locs hw hM => ?_)
                          have hbud : cells + c109 + 0 + 0 + mc111 ≤ 603072 ∧ slots + d110 + 0 + 0 + ms112 ≤ 7178346 := ⟨by omega, by omega⟩
                          refine lv_iload hx hb dL_law_533 (lv_at hl 1 rfl) ?_
                          refine lv_icmp_eq (tgt := 540) hx hb dL_law_535 (by decide) (fun hc => ?_) (fun hc => ?_)
                          · replace hw := hw.1 hc
                            refine lv_iload hx hb dL_law_540 (lv_at hl 1 rfl) ?_
                            refine lv_if_ne (tgt := 557) hx hb dL_law_542 (by decide) (fun hc => ?_) (fun hc => ?_)
                            · replace hw := hw.1 hc
                              exact wk_L_law_557 C hst hZ hX hbl ih v1 v3 v4 h113 σ121 mc111 ms112 _ _ _ _ ls hw hM hbud (lv_sub hl [2, 3, 4, 5, 6] rfl)
                            · replace hw := hw.2 hc
                              refine lv_aload_n hx hb dL_law_545 rfl (lv_at hl 5 rfl) ?_
                              refine lv_iconst (v := 0) hx hb dL_law_546 (by decide) ?_
                              have o122 := hw.1
                              replace hw := hw.2
                              have o123 := hw.1
                              replace hw := hw.2
                              refine rX_lald C hM.1 o122 o123 dL_law_547 ?_
                              refine lv_iload hx hb dL_law_548 (lv_at hl 0 rfl) ?_
                              refine lv_i2l hx hb dL_law_550 rfl ?_
                              refine W.lcmp hx hb dL_law_551 ?_
                              refine lv_if_eq (tgt := 557) hx hb dL_law_552 (by decide) (fun hc => ?_) (fun hc => ?_)
                              · replace hw := hw.1 hc
                                exact wk_L_law_557 C hst hZ hX hbl ih v1 v3 v4 h113 σ121 mc111 ms112 _ _ _ _ ls hw hM hbud (lv_sub hl [2, 3, 4, 5, 6] rfl)
                              · replace hw := hw.2 hc
                                refine lv_iconst (v := 0) hx hb dL_law_555 (by decide) ?_
                                exact hw.elim
                          · replace hw := hw.2 hc
                            refine lv_iconst (v := 0) hx hb dL_law_538 (by decide) ?_
                            exact hw.elim
                        · replace hw := hw.2 hc9
                          by_cases hc10 : x2 = 10
                          · replace hw := hw.1 hc10
                            refine lv_tableIn (tgt := 560) hx hb dL_law_39 (by rw [hc10]; decide) (by rw [hc10]; decide) (by rw [hc10]; rfl) (by decide) ?_
                            refine lv_aload_n hx hb dL_law_560 rfl (lv_at hl 1 rfl) ?_
                            refine lv_aload_n hx hb dL_law_561 rfl (lv_at hl 0 rfl) ?_
                            refine lv_iload hx hb dL_law_562 (lv_at hl 4 rfl) ?_
                            refine lv_iconst (v := 1) hx hb dL_law_564 (by decide) ?_
                            refine lv_iadd hx hb dL_law_565 ?_
                            have o124 := hw.1
                            replace hw := hw.2
                            refine va_sld C.1 C.2.1 hX hbl (Nat.not_le.mpr hbl) hM.1.2.2.2.1 o124 dL_law_566 ?_
                            refine lv_aload_n hx hb dL_law_567 rfl (lv_at hl 0 rfl) ?_
                            refine lv_iload hx hb dL_law_568 (lv_at hl 4 rfl) ?_
                            refine lv_iconst (v := 2) hx hb dL_law_570 (by decide) ?_
                            refine lv_iadd hx hb dL_law_571 ?_
                            have o125 := hw.1
                            replace hw := hw.2
                            refine va_sld C.1 C.2.1 hX hbl (Nat.not_le.mpr hbl) hM.1.2.2.2.1 o125 dL_law_572 ?_
                            refine lv_aload_n hx hb dL_law_573 rfl (lv_at hl 0 rfl) ?_
                            refine lv_iload hx hb dL_law_574 (lv_at hl 4 rfl) ?_
                            refine lv_iconst (v := 3) hx hb dL_law_576 (by decide) ?_
                            refine lv_iadd hx hb dL_law_577 ?_
                            have o126 := hw.1
                            replace hw := hw.2
                            refine va_sld C.1 C.2.1 hX hbl (Nat.not_le.mpr hbl) hM.1.2.2.2.1 o126 dL_law_578 ?_
                            refine lv_aload_n hx hb dL_law_579 rfl (lv_at hl 3 rfl) ?_
                            obtain ⟨c127, d128, mc129, ms130, emc129, ems130, hw⟩ := hw
                            refine rLZ_goi C hM (runZ_SW C hM.1 hZ hl.1 5 (As := [.ref v1, .int (f ((v4 + 1) : Int32).toNatClampNeg), .int (f ((v4 + 2) : Int32).toNatClampNeg), .int (f ((v4 + 3) : Int32).toNatClampNeg), .ref v3]) (mt_X0_at l hst D dA ev _ h v1 (f ((v4 + 1) : Int32).toNatClampNeg) (f ((v4 + 2) : Int32).toNatClampNeg) (f ((v4 + 3) : Int32).toNatClampNeg) v3  c127 d128 _ _ hw) (lw_SW q1313 q1314 q74 q1315) rfl rfl (by decide +kernel) ⟨Nat.le_of_ble_eq_true rfl, Nat.le_of_ble_eq_true rfl⟩ rfl (Nat.le_of_ble_eq_true rfl) rfl dL_law_580 ⟨by show cells + c127 ≤ 603072; omega, by show slots + d128 ≤ 7178346; omega⟩) (fun x132 h131 H locs hw hM => ?_)
                            have hbud : cells + c127 + mc129 ≤ 603072 ∧ slots + d128 + ms130 ≤ 7178346 := ⟨by omega, by omega⟩
                            refine lv_istore (lv' := [(5, .int x132), (0, .ref b), (1, .ref v1), (2, .ref (ad 0)), (3, .ref v3), (4, .int v4)]) hx hb dL_law_583 hl (by decide) rfl (fun ls hl => ?_)
                            refine lv_aload_n hx hb dL_law_585 rfl (lv_at hl 3 rfl) ?_
                            refine lv_aload_n hx hb dL_law_586 rfl (lv_at hl 1 rfl) ?_
                            refine lv_iload hx hb dL_law_587 (lv_at hl 5 rfl) ?_
                            refine lv_iconst (v := 1) hx hb dL_law_589 (by decide) ?_
                            refine lv_iadd hx hb dL_law_590 ?_
                            have o134 := hw.1
                            replace hw := hw.2
                            refine va_sld C.1 C.2.1 hX hbl (Nat.not_le.mpr hbl) hM.1.2.2.2.1 o134 dL_law_591 ?_
                            refine lv_aload_n hx hb dL_law_592 rfl (lv_at hl 1 rfl) ?_
                            refine lv_iload hx hb dL_law_593 (lv_at hl 5 rfl) ?_
                            refine lv_iconst (v := 2) hx hb dL_law_595 (by decide) ?_
                            refine lv_iadd hx hb dL_law_596 ?_
                            have o135 := hw.1
                            replace hw := hw.2
                            refine va_sld C.1 C.2.1 hX hbl (Nat.not_le.mpr hbl) hM.1.2.2.2.1 o135 dL_law_597 ?_
                            refine lv_aload_n hx hb dL_law_598 rfl (lv_at hl 1 rfl) ?_
                            refine lv_iload hx hb dL_law_599 (lv_at hl 5 rfl) ?_
                            refine lv_iconst (v := 3) hx hb dL_law_601 (by decide) ?_
                            refine lv_iadd hx hb dL_law_602 ?_
                            have o136 := hw.1
                            replace hw := hw.2
                            refine va_sld C.1 C.2.1 hX hbl (Nat.not_le.mpr hbl) hM.1.2.2.2.1 o136 dL_law_603 ?_
                            refine rT_goi C hM (runT_V C hM hl.1 3 (As := [.int (f ((v4 + 1) : Int32).toNatClampNeg), .int (f ((v4 + 2) : Int32).toNatClampNeg), .int (f ((v4 + 3) : Int32).toNatClampNeg)]) (mt_at l D dA ad _ σ (f ((v4 + 1) : Int32).toNatClampNeg) (f ((v4 + 2) : Int32).toNatClampNeg) (f ((v4 + 3) : Int32).toNatClampNeg) _ hw) (lw_V q1654 q1655 q1656 q93 q1657) rfl rfl (by decide +kernel) ⟨Nat.le_of_ble_eq_true rfl, Nat.le_of_ble_eq_true rfl⟩ rfl (Nat.le_of_ble_eq_true rfl) rfl dL_law_604 ⟨by show cells + c127 + 0 ≤ 603072; omega, by show slots + d128 + 0 ≤ 7178346; omega⟩) (fun x137 σ138 H locs hw hM => ?_)
                            have hbud : cells + c127 + 0 + mc129 ≤ 603072 ∧ slots + d128 + 0 + ms130 ≤ 7178346 := ⟨by omega, by omega⟩
                            refine lv_istore (lv' := [(6, .int x137), (5, .int x132), (0, .ref b), (1, .ref v1), (2, .ref (ad 0)), (3, .ref v3), (4, .int v4)]) hx hb dL_law_607 hl (by decide) rfl (fun ls hl => ?_)
                            refine lv_aload_n hx hb dL_law_609 rfl (lv_at hl 4 rfl) ?_
                            refine rT_goi C hM (runT_V C hM hl.1 0 (As := []) (mt_thrown l D dA ad _ σ138  _ hw) (lw_V q1500 q1501 q1502 q93 q1503) rfl rfl (by decide +kernel) ⟨Nat.le_of_ble_eq_true rfl, Nat.le_of_ble_eq_true rfl⟩ rfl (Nat.le_of_ble_eq_true rfl) rfl dL_law_610 ⟨by show cells + c127 + 0 + 0 ≤ 603072; omega, by show slots + d128 + 0 + 0 ≤ 7178346; omega⟩) (fun x139 σ140 H locs hw hM => ?_)
                            have hbud : cells + c127 + 0 + 0 + mc129 ≤ 603072 ∧ slots + d128 + 0 + 0 + ms130 ≤ 7178346 := ⟨by omega, by omega⟩
                            refine lv_iload hx hb dL_law_613 (lv_at hl 1 rfl) ?_
                            refine lv_icmp_eq (tgt := 620) hx hb dL_law_615 (by decide) (fun hc => ?_) (fun hc => ?_)
                            · replace hw := hw.1 hc
                              refine lv_iload hx hb dL_law_620 (lv_at hl 1 rfl) ?_
                              refine lv_if_ne (tgt := 637) hx hb dL_law_622 (by decide) (fun hc => ?_) (fun hc => ?_)
                              · replace hw := hw.1 hc
                                exact wk_L_law_637 C hst hZ hX hbl ih v1 v3 v4 h131 σ140 mc129 ms130 _ _ _ _ ls hw hM hbud (lv_sub hl [2, 3, 4, 5, 6] rfl)
                              · replace hw := hw.2 hc
                                refine lv_aload_n hx hb dL_law_625 rfl (lv_at hl 5 rfl) ?_
                                refine lv_iconst (v := 0) hx hb dL_law_626 (by decide) ?_
                                have o141 := hw.1
                                replace hw := hw.2
                                have o142 := hw.1
                                replace hw := hw.2
                                refine rX_lald C hM.1 o141 o142 dL_law_627 ?_
                                refine lv_iload hx hb dL_law_628 (lv_at hl 0 rfl) ?_
                                refine lv_i2l hx hb dL_law_630 rfl ?_
                                refine W.lcmp hx hb dL_law_631 ?_
                                refine lv_if_eq (tgt := 637) hx hb dL_law_632 (by decide) (fun hc => ?_) (fun hc => ?_)
                                · replace hw := hw.1 hc
                                  exact wk_L_law_637 C hst hZ hX hbl ih v1 v3 v4 h131 σ140 mc129 ms130 _ _ _ _ ls hw hM hbud (lv_sub hl [2, 3, 4, 5, 6] rfl)
                                · replace hw := hw.2 hc
                                  refine lv_iconst (v := 0) hx hb dL_law_635 (by decide) ?_
                                  exact hw.elim
                            · replace hw := hw.2 hc
                              refine lv_iconst (v := 0) hx hb dL_law_618 (by decide) ?_
                              exact hw.elim
                          · replace hw := hw.2 hc10
                            by_cases hc11 : x2 = 11
                            · replace hw := hw.1 hc11
                              refine lv_tableIn (tgt := 640) hx hb dL_law_39 (by rw [hc11]; decide) (by rw [hc11]; decide) (by rw [hc11]; rfl) (by decide) ?_
                              refine lv_aload_n hx hb dL_law_640 rfl (lv_at hl 1 rfl) ?_
                              refine lv_aload_n hx hb dL_law_641 rfl (lv_at hl 0 rfl) ?_
                              refine lv_iload hx hb dL_law_642 (lv_at hl 4 rfl) ?_
                              refine lv_iconst (v := 1) hx hb dL_law_644 (by decide) ?_
                              refine lv_iadd hx hb dL_law_645 ?_
                              have o143 := hw.1
                              replace hw := hw.2
                              refine va_sld C.1 C.2.1 hX hbl (Nat.not_le.mpr hbl) hM.1.2.2.2.1 o143 dL_law_646 ?_
                              refine lv_aload_n hx hb dL_law_647 rfl (lv_at hl 0 rfl) ?_
                              refine lv_iload hx hb dL_law_648 (lv_at hl 4 rfl) ?_
                              refine lv_iconst (v := 2) hx hb dL_law_650 (by decide) ?_
                              refine lv_iadd hx hb dL_law_651 ?_
                              have o144 := hw.1
                              replace hw := hw.2
                              refine va_sld C.1 C.2.1 hX hbl (Nat.not_le.mpr hbl) hM.1.2.2.2.1 o144 dL_law_652 ?_
                              obtain ⟨c145, d146, mc147, ms148, emc147, ems148, hw⟩ := hw
                              refine rLZ_goi C hM (runZ_SW C hM.1 hZ hl.1 3 (As := [.ref v1, .int (f ((v4 + 1) : Int32).toNatClampNeg), .int (f ((v4 + 2) : Int32).toNatClampNeg)]) (mt_X0_tell l hst D dA ev _ h v1 (f ((v4 + 1) : Int32).toNatClampNeg) (f ((v4 + 2) : Int32).toNatClampNeg)  c145 d146 _ _ hw) (lw_SW q1320 q1321 q74 q1322) rfl rfl (by decide +kernel) ⟨Nat.le_of_ble_eq_true rfl, Nat.le_of_ble_eq_true rfl⟩ rfl (Nat.le_of_ble_eq_true rfl) rfl dL_law_653 ⟨by show cells + c145 ≤ 603072; omega, by show slots + d146 ≤ 7178346; omega⟩) (fun x150 h149 H locs hw hM => ?_)
                              have hbud : cells + c145 + mc147 ≤ 603072 ∧ slots + d146 + ms148 ≤ 7178346 := ⟨by omega, by omega⟩
                              refine lv_istore (lv' := [(5, .int x150), (0, .ref b), (1, .ref v1), (2, .ref (ad 0)), (3, .ref v3), (4, .int v4)]) hx hb dL_law_656 hl (by decide) rfl (fun ls hl => ?_)
                              refine lv_aload_n hx hb dL_law_658 rfl (lv_at hl 3 rfl) ?_
                              refine lv_aload_n hx hb dL_law_659 rfl (lv_at hl 1 rfl) ?_
                              refine lv_iload hx hb dL_law_660 (lv_at hl 5 rfl) ?_
                              refine lv_iconst (v := 1) hx hb dL_law_662 (by decide) ?_
                              refine lv_iadd hx hb dL_law_663 ?_
                              have o152 := hw.1
                              replace hw := hw.2
                              refine va_sld C.1 C.2.1 hX hbl (Nat.not_le.mpr hbl) hM.1.2.2.2.1 o152 dL_law_664 ?_
                              refine lv_aload_n hx hb dL_law_665 rfl (lv_at hl 1 rfl) ?_
                              refine lv_iload hx hb dL_law_666 (lv_at hl 5 rfl) ?_
                              refine lv_iconst (v := 2) hx hb dL_law_668 (by decide) ?_
                              refine lv_iadd hx hb dL_law_669 ?_
                              have o153 := hw.1
                              replace hw := hw.2
                              refine va_sld C.1 C.2.1 hX hbl (Nat.not_le.mpr hbl) hM.1.2.2.2.1 o153 dL_law_670 ?_
                              refine rT_gov C hM (runT_V C hM hl.1 2 (As := [.int (f ((v4 + 1) : Int32).toNatClampNeg), .int (f ((v4 + 2) : Int32).toNatClampNeg)]) (mt_tell l D dA ad _ σ (f ((v4 + 1) : Int32).toNatClampNeg) (f ((v4 + 2) : Int32).toNatClampNeg) _ hw) (lw_V q1658 q1659 q1660 q93 q1661) rfl rfl (by decide +kernel) ⟨Nat.le_of_ble_eq_true rfl, Nat.le_of_ble_eq_true rfl⟩ rfl (Nat.le_of_ble_eq_true rfl) rfl dL_law_671 ⟨by show cells + c145 + 0 ≤ 603072; omega, by show slots + d146 + 0 ≤ 7178346; omega⟩) (fun σ154 H locs hw hM => ?_)
                              have hbud : cells + c145 + 0 + mc147 ≤ 603072 ∧ slots + d146 + 0 + ms148 ≤ 7178346 := ⟨by omega, by omega⟩
                              refine lv_aload_n hx hb dL_law_674 rfl (lv_at hl 3 rfl) ?_
                              refine rT_goi C hM (runT_V C hM hl.1 0 (As := []) (mt_thrown l D dA ad _ σ154  _ hw) (lw_V q1500 q1501 q1502 q93 q1503) rfl rfl (by decide +kernel) ⟨Nat.le_of_ble_eq_true rfl, Nat.le_of_ble_eq_true rfl⟩ rfl (Nat.le_of_ble_eq_true rfl) rfl dL_law_675 ⟨by show cells + c145 + 0 + 0 ≤ 603072; omega, by show slots + d146 + 0 + 0 ≤ 7178346; omega⟩) (fun x155 σ156 H locs hw hM => ?_)
                              have hbud : cells + c145 + 0 + 0 + mc147 ≤ 603072 ∧ slots + d146 + 0 + 0 + ms148 ≤ 7178346 := ⟨by omega, by omega⟩
                              refine lv_iload hx hb dL_law_678 (lv_at hl 0 rfl) ?_
                              refine lv_icmp_eq (tgt := 685) hx hb dL_law_680 (by decide) (fun hc => ?_) (fun hc => ?_)
                              · replace hw := hw.1 hc
                                refine lv_goto (tgt := 899) hx hb dL_law_685 (by decide) ?_
                                exact wk_L_law_899 C hst hZ hX hbl ih v1 v3 v4 h149 σ156 mc147 ms148 _ _ _ _ ls hw hM hbud (lv_sub hl [1, 2, 3, 4, 5] rfl)
                              · replace hw := hw.2 hc
                                refine lv_iconst (v := 0) hx hb dL_law_683 (by decide) ?_
                                exact hw.elim
                            · replace hw := hw.2 hc11
                              by_cases hc12 : x2 = 12
                              · replace hw := hw.1 hc12
                                refine lv_tableIn (tgt := 688) hx hb dL_law_39 (by rw [hc12]; decide) (by rw [hc12]; decide) (by rw [hc12]; rfl) (by decide) ?_
                                refine lv_aload_n hx hb dL_law_688 rfl (lv_at hl 1 rfl) ?_
                                refine lv_aload_n hx hb dL_law_689 rfl (lv_at hl 3 rfl) ?_
                                obtain ⟨c157, d158, mc159, ms160, emc159, ems160, hw⟩ := hw
                                refine rLZ_goi C hM (runZ_SW C hM.1 hZ hl.1 2 (As := [.ref v1, .ref v3]) (mt_X0_holds l hst D dA ev _ h v1 v3  c157 d158 _ _ hw) (lw_SW q1330 q1331 q74 q1332) rfl rfl (by decide +kernel) ⟨Nat.le_of_ble_eq_true rfl, Nat.le_of_ble_eq_true rfl⟩ rfl (Nat.le_of_ble_eq_true rfl) rfl dL_law_690 ⟨by show cells + c157 ≤ 603072; omega, by show slots + d158 ≤ 7178346; omega⟩) (fun x162 h161 H locs hw hM => ?_)
                                have hbud : cells + c157 + mc159 ≤ 603072 ∧ slots + d158 + ms160 ≤ 7178346 := ⟨by omega, by omega⟩
                                refine lv_istore (lv' := [(5, .int x162), (0, .ref b), (1, .ref v1), (2, .ref (ad 0)), (3, .ref v3), (4, .int v4)]) hx hb dL_law_693 hl (by decide) rfl (fun ls hl => ?_)
                                refine lv_aload_n hx hb dL_law_695 rfl (lv_at hl 3 rfl) ?_
                                refine rT_goi C hM (runT_V C hM hl.1 0 (As := []) (mt_holds l D dA ad _ σ  _ hw) (lw_V q1662 q1663 q1664 q93 q1665) rfl rfl (by decide +kernel) ⟨Nat.le_of_ble_eq_true rfl, Nat.le_of_ble_eq_true rfl⟩ rfl (Nat.le_of_ble_eq_true rfl) rfl dL_law_696 ⟨by show cells + c157 + 0 ≤ 603072; omega, by show slots + d158 + 0 ≤ 7178346; omega⟩) (fun x164 σ165 H locs hw hM => ?_)
                                have hbud : cells + c157 + 0 + mc159 ≤ 603072 ∧ slots + d158 + 0 + ms160 ≤ 7178346 := ⟨by omega, by omega⟩
                                refine lv_istore (lv' := [(6, .int x164), (5, .int x162), (0, .ref b), (1, .ref v1), (2, .ref (ad 0)), (3, .ref v3), (4, .int v4)]) hx hb dL_law_699 hl (by decide) rfl (fun ls hl => ?_)
                                refine lv_aload_n hx hb dL_law_701 rfl (lv_at hl 4 rfl) ?_
                                refine rT_goi C hM (runT_V C hM hl.1 0 (As := []) (mt_thrown l D dA ad _ σ165  _ hw) (lw_V q1500 q1501 q1502 q93 q1503) rfl rfl (by decide +kernel) ⟨Nat.le_of_ble_eq_true rfl, Nat.le_of_ble_eq_true rfl⟩ rfl (Nat.le_of_ble_eq_true rfl) rfl dL_law_702 ⟨by show cells + c157 + 0 + 0 ≤ 603072; omega, by show slots + d158 + 0 + 0 ≤ 7178346; omega⟩) (fun x166 σ167 H locs hw hM => ?_)
                                have hbud : cells + c157 + 0 + 0 + mc159 ≤ 603072 ∧ slots + d158 + 0 + 0 + ms160 ≤ 7178346 := ⟨by omega, by omega⟩
                                refine lv_iload hx hb dL_law_705 (lv_at hl 1 rfl) ?_
                                refine lv_icmp_eq (tgt := 712) hx hb dL_law_707 (by decide) (fun hc => ?_) (fun hc => ?_)
                                · replace hw := hw.1 hc
                                  refine lv_iload hx hb dL_law_712 (lv_at hl 1 rfl) ?_
                                  refine lv_if_ne (tgt := 729) hx hb dL_law_714 (by decide) (fun hc => ?_) (fun hc => ?_)
                                  · replace hw := hw.1 hc
                                    exact wk_L_law_729 C hst hZ hX hbl ih v1 v3 v4 h161 σ167 mc159 ms160 _ _ _ _ ls hw hM hbud (lv_sub hl [2, 3, 4, 5, 6] rfl)
                                  · replace hw := hw.2 hc
                                    refine lv_aload_n hx hb dL_law_717 rfl (lv_at hl 5 rfl) ?_
                                    refine lv_iconst (v := 0) hx hb dL_law_718 (by decide) ?_
                                    have o168 := hw.1
                                    replace hw := hw.2
                                    have o169 := hw.1
                                    replace hw := hw.2
                                    refine rX_lald C hM.1 o168 o169 dL_law_719 ?_
                                    refine lv_iload hx hb dL_law_720 (lv_at hl 0 rfl) ?_
                                    refine lv_i2l hx hb dL_law_722 rfl ?_
                                    refine W.lcmp hx hb dL_law_723 ?_
                                    refine lv_if_eq (tgt := 729) hx hb dL_law_724 (by decide) (fun hc => ?_) (fun hc => ?_)
                                    · replace hw := hw.1 hc
                                      exact wk_L_law_729 C hst hZ hX hbl ih v1 v3 v4 h161 σ167 mc159 ms160 _ _ _ _ ls hw hM hbud (lv_sub hl [2, 3, 4, 5, 6] rfl)
                                    · replace hw := hw.2 hc
                                      refine lv_iconst (v := 0) hx hb dL_law_727 (by decide) ?_
                                      exact hw.elim
                                · replace hw := hw.2 hc
                                  refine lv_iconst (v := 0) hx hb dL_law_710 (by decide) ?_
                                  exact hw.elim
                              · replace hw := hw.2 hc12
                                by_cases hc13 : x2 = 13
                                · replace hw := hw.1 hc13
                                  refine lv_tableIn (tgt := 732) hx hb dL_law_39 (by rw [hc13]; decide) (by rw [hc13]; decide) (by rw [hc13]; rfl) (by decide) ?_
                                  refine lv_aload_n hx hb dL_law_732 rfl (lv_at hl 1 rfl) ?_
                                  obtain ⟨c170, d171, mc172, ms173, emc172, ems173, hw⟩ := hw
                                  have o176 := hw.1
                                  replace hw := hw.2
                                  refine rLZ_goi C hM (runZ_V C hM.1 hZ hl.1 0 0 (As := []) rfl (by decide) o176 (mt_X1_split l hst D dA ev _ h v1  c170 d171 _ _ hw) (lw_V q777 q778 q779 q75 q780) rfl rfl (by decide +kernel) ⟨Nat.le_of_ble_eq_true rfl, Nat.le_of_ble_eq_true rfl⟩ rfl (Nat.le_of_ble_eq_true rfl) rfl dL_law_733 ⟨by show cells + c170 ≤ 603072; omega, by show slots + d171 ≤ 7178346; omega⟩) (fun x175 h174 H locs hw hM => ?_)
                                  have hbud : cells + c170 + mc172 ≤ 603072 ∧ slots + d171 + ms173 ≤ 7178346 := ⟨by omega, by omega⟩
                                  refine lv_aload_n hx hb dL_law_736 rfl (lv_at hl 2 rfl) ?_
                                  refine rT_goi C hM (runT_V C hM hl.1 0 (As := []) (mt_split l D dA ad _ σ  _ hw) (lw_V q1670 q1671 q1672 q93 q1673) rfl rfl (by decide +kernel) ⟨Nat.le_of_ble_eq_true rfl, Nat.le_of_ble_eq_true rfl⟩ rfl (Nat.le_of_ble_eq_true rfl) rfl dL_law_737 ⟨by show cells + c170 + 0 ≤ 603072; omega, by show slots + d171 + 0 ≤ 7178346; omega⟩) (fun x178 σ179 H locs hw hM => ?_)
                                  have hbud : cells + c170 + 0 + mc172 ≤ 603072 ∧ slots + d171 + 0 + ms173 ≤ 7178346 := ⟨by omega, by omega⟩
                                  refine lv_icmp_eq (tgt := 899) hx hb dL_law_740 (by decide) (fun hc => ?_) (fun hc => ?_)
                                  · replace hw := hw.1 hc
                                    exact wk_L_law_899 C hst hZ hX hbl ih v1 v3 v4 h174 σ179 mc172 ms173 _ _ _ _ ls hw hM hbud (lv_sub hl [0, 1, 2, 3, 4] rfl)
                                  · replace hw := hw.2 hc
                                    refine lv_iconst (v := 0) hx hb dL_law_743 (by decide) ?_
                                    exact hw.elim
                                · replace hw := hw.2 hc13
                                  by_cases hc14 : x2 = 14
                                  · replace hw := hw.1 hc14
                                    refine lv_tableIn (tgt := 745) hx hb dL_law_39 (by rw [hc14]; decide) (by rw [hc14]; decide) (by rw [hc14]; rfl) (by decide) ?_
                                    refine lv_aload_n hx hb dL_law_745 rfl (lv_at hl 1 rfl) ?_
                                    refine lv_aload_n hx hb dL_law_746 rfl (lv_at hl 0 rfl) ?_
                                    refine lv_iload hx hb dL_law_747 (lv_at hl 4 rfl) ?_
                                    refine lv_iconst (v := 1) hx hb dL_law_749 (by decide) ?_
                                    refine lv_iadd hx hb dL_law_750 ?_
                                    have o180 := hw.1
                                    replace hw := hw.2
                                    refine va_sld C.1 C.2.1 hX hbl (Nat.not_le.mpr hbl) hM.1.2.2.2.1 o180 dL_law_751 ?_
                                    have o183 := hw.1
                                    replace hw := hw.2
                                    refine rL_goi C hM (runX_V C hM.1 hl.1 0 1 (As := [.int (f ((v4 + 1) : Int32).toNatClampNeg)]) rfl (by decide) o183 (mt_X1_times l D dA ev _ h v1 (f ((v4 + 1) : Int32).toNatClampNeg)  _ hw) (lw_V q825 q826 q827 q75 q828) rfl rfl (by decide +kernel) ⟨Nat.le_of_ble_eq_true rfl, Nat.le_of_ble_eq_true rfl⟩ rfl (Nat.le_of_ble_eq_true rfl) rfl dL_law_752 ⟨by show cells + 0 ≤ 603072; omega, by show slots + 0 ≤ 7178346; omega⟩) (fun x182 h181 H locs hw hM => ?_)
                                    refine lv_aload_n hx hb dL_law_755 rfl (lv_at hl 2 rfl) ?_
                                    refine lv_aload_n hx hb dL_law_756 rfl (lv_at hl 0 rfl) ?_
                                    refine lv_iload hx hb dL_law_757 (lv_at hl 4 rfl) ?_
                                    refine lv_iconst (v := 1) hx hb dL_law_759 (by decide) ?_
                                    refine lv_iadd hx hb dL_law_760 ?_
                                    have o185 := hw.1
                                    replace hw := hw.2
                                    refine va_sld C.1 C.2.1 hX hbl (Nat.not_le.mpr hbl) hM.1.2.2.2.1 o185 dL_law_761 ?_
                                    refine rT_goi C hM (runT_V C hM hl.1 1 (As := [.int (f ((v4 + 1) : Int32).toNatClampNeg)]) (mt_times l D dA ad _ σ (f ((v4 + 1) : Int32).toNatClampNeg) _ hw) (lw_V q1674 q1675 q1676 q93 q1677) rfl rfl (by decide +kernel) ⟨Nat.le_of_ble_eq_true rfl, Nat.le_of_ble_eq_true rfl⟩ rfl (Nat.le_of_ble_eq_true rfl) rfl dL_law_762 ⟨by show cells + 0 ≤ 603072; omega, by show slots + 0 ≤ 7178346; omega⟩) (fun x186 σ187 H locs hw hM => ?_)
                                    have hbud : cells + 0 + mc ≤ 603072 ∧ slots + 0 + ms ≤ 7178346 := ⟨by omega, by omega⟩
                                    refine lv_icmp_eq (tgt := 899) hx hb dL_law_765 (by decide) (fun hc => ?_) (fun hc => ?_)
                                    · replace hw := hw.1 hc
                                      exact wk_L_law_899 C hst hZ hX hbl ih v1 v3 v4 h181 σ187 mc ms _ _ _ _ ls hw hM hbud (lv_sub hl [0, 1, 2, 3, 4] rfl)
                                    · replace hw := hw.2 hc
                                      refine lv_iconst (v := 0) hx hb dL_law_768 (by decide) ?_
                                      exact hw.elim
                                  · replace hw := hw.2 hc14
                                    by_cases hc15 : x2 = 15
                                    · replace hw := hw.1 hc15
                                      refine lv_tableIn (tgt := 770) hx hb dL_law_39 (by rw [hc15]; decide) (by rw [hc15]; decide) (by rw [hc15]; rfl) (by decide) ?_
                                      refine lv_aload_n hx hb dL_law_770 rfl (lv_at hl 1 rfl) ?_
                                      refine lv_aload_n hx hb dL_law_771 rfl (lv_at hl 0 rfl) ?_
                                      refine lv_iload hx hb dL_law_772 (lv_at hl 4 rfl) ?_
                                      refine lv_iconst (v := 1) hx hb dL_law_774 (by decide) ?_
                                      refine lv_iadd hx hb dL_law_775 ?_
                                      have o188 := hw.1
                                      replace hw := hw.2
                                      refine va_sld C.1 C.2.1 hX hbl (Nat.not_le.mpr hbl) hM.1.2.2.2.1 o188 dL_law_776 ?_
                                      refine lv_aload_n hx hb dL_law_777 rfl (lv_at hl 0 rfl) ?_
                                      refine lv_iload hx hb dL_law_778 (lv_at hl 4 rfl) ?_
                                      refine lv_iconst (v := 2) hx hb dL_law_780 (by decide) ?_
                                      refine lv_iadd hx hb dL_law_781 ?_
                                      have o189 := hw.1
                                      replace hw := hw.2
                                      refine va_sld C.1 C.2.1 hX hbl (Nat.not_le.mpr hbl) hM.1.2.2.2.1 o189 dL_law_782 ?_
                                      obtain ⟨c190, d191, mc192, ms193, emc192, ems193, hw⟩ := hw
                                      refine rLZ_goi C hM (runZ_SW C hM.1 hZ hl.1 3 (As := [.ref v1, .int (f ((v4 + 1) : Int32).toNatClampNeg), .int (f ((v4 + 2) : Int32).toNatClampNeg)]) (mt_X0_cost l hst D dA ev _ h v1 (f ((v4 + 1) : Int32).toNatClampNeg) (f ((v4 + 2) : Int32).toNatClampNeg)  c190 d191 _ _ hw) (lw_SW q1334 q1335 q74 q1336) rfl rfl (by decide +kernel) ⟨Nat.le_of_ble_eq_true rfl, Nat.le_of_ble_eq_true rfl⟩ rfl (Nat.le_of_ble_eq_true rfl) rfl dL_law_783 ⟨by show cells + c190 ≤ 603072; omega, by show slots + d191 ≤ 7178346; omega⟩) (fun x195 h194 H locs hw hM => ?_)
                                      have hbud : cells + c190 + mc192 ≤ 603072 ∧ slots + d191 + ms193 ≤ 7178346 := ⟨by omega, by omega⟩
                                      refine lv_istore (lv' := [(5, .int x195), (0, .ref b), (1, .ref v1), (2, .ref (ad 0)), (3, .ref v3), (4, .int v4)]) hx hb dL_law_786 hl (by decide) rfl (fun ls hl => ?_)
                                      refine lv_aload_n hx hb dL_law_788 rfl (lv_at hl 3 rfl) ?_
                                      refine lv_aload_n hx hb dL_law_789 rfl (lv_at hl 1 rfl) ?_
                                      refine lv_iload hx hb dL_law_790 (lv_at hl 5 rfl) ?_
                                      refine lv_iconst (v := 1) hx hb dL_law_792 (by decide) ?_
                                      refine lv_iadd hx hb dL_law_793 ?_
                                      have o197 := hw.1
                                      replace hw := hw.2
                                      refine va_sld C.1 C.2.1 hX hbl (Nat.not_le.mpr hbl) hM.1.2.2.2.1 o197 dL_law_794 ?_
                                      refine lv_aload_n hx hb dL_law_795 rfl (lv_at hl 1 rfl) ?_
                                      refine lv_iload hx hb dL_law_796 (lv_at hl 5 rfl) ?_
                                      refine lv_iconst (v := 2) hx hb dL_law_798 (by decide) ?_
                                      refine lv_iadd hx hb dL_law_799 ?_
                                      have o198 := hw.1
                                      replace hw := hw.2
                                      refine va_sld C.1 C.2.1 hX hbl (Nat.not_le.mpr hbl) hM.1.2.2.2.1 o198 dL_law_800 ?_
                                      refine rT_gov C hM (runT_V C hM hl.1 2 (As := [.int (f ((v4 + 1) : Int32).toNatClampNeg), .int (f ((v4 + 2) : Int32).toNatClampNeg)]) (mt_cost l D dA ad _ σ (f ((v4 + 1) : Int32).toNatClampNeg) (f ((v4 + 2) : Int32).toNatClampNeg) _ hw) (lw_V q1678 q1679 q1680 q93 q1681) rfl rfl (by decide +kernel) ⟨Nat.le_of_ble_eq_true rfl, Nat.le_of_ble_eq_true rfl⟩ rfl (Nat.le_of_ble_eq_true rfl) rfl dL_law_801 ⟨by show cells + c190 + 0 ≤ 603072; omega, by show slots + d191 + 0 ≤ 7178346; omega⟩) (fun σ199 H locs hw hM => ?_)
                                      have hbud : cells + c190 + 0 + mc192 ≤ 603072 ∧ slots + d191 + 0 + ms193 ≤ 7178346 := ⟨by omega, by omega⟩
                                      refine lv_aload_n hx hb dL_law_804 rfl (lv_at hl 3 rfl) ?_
                                      refine rT_goi C hM (runT_V C hM hl.1 0 (As := []) (mt_thrown l D dA ad _ σ199  _ hw) (lw_V q1500 q1501 q1502 q93 q1503) rfl rfl (by decide +kernel) ⟨Nat.le_of_ble_eq_true rfl, Nat.le_of_ble_eq_true rfl⟩ rfl (Nat.le_of_ble_eq_true rfl) rfl dL_law_805 ⟨by show cells + c190 + 0 + 0 ≤ 603072; omega, by show slots + d191 + 0 + 0 ≤ 7178346; omega⟩) (fun x200 σ201 H locs hw hM => ?_)
                                      have hbud : cells + c190 + 0 + 0 + mc192 ≤ 603072 ∧ slots + d191 + 0 + 0 + ms193 ≤ 7178346 := ⟨by omega, by omega⟩
                                      refine lv_iload hx hb dL_law_808 (lv_at hl 0 rfl) ?_
                                      refine lv_icmp_eq (tgt := 815) hx hb dL_law_810 (by decide) (fun hc => ?_) (fun hc => ?_)
                                      · replace hw := hw.1 hc
                                        refine lv_goto (tgt := 899) hx hb dL_law_815 (by decide) ?_
                                        exact wk_L_law_899 C hst hZ hX hbl ih v1 v3 v4 h194 σ201 mc192 ms193 _ _ _ _ ls hw hM hbud (lv_sub hl [1, 2, 3, 4, 5] rfl)
                                      · replace hw := hw.2 hc
                                        refine lv_iconst (v := 0) hx hb dL_law_813 (by decide) ?_
                                        exact hw.elim
                                    · replace hw := hw.2 hc15
                                      by_cases hc16 : x2 = 16
                                      · replace hw := hw.1 hc16
                                        refine lv_tableIn (tgt := 818) hx hb dL_law_39 (by rw [hc16]; decide) (by rw [hc16]; decide) (by rw [hc16]; rfl) (by decide) ?_
                                        refine lv_aload_n hx hb dL_law_818 rfl (lv_at hl 1 rfl) ?_
                                        refine lv_aload_n hx hb dL_law_819 rfl (lv_at hl 0 rfl) ?_
                                        refine lv_iload hx hb dL_law_820 (lv_at hl 4 rfl) ?_
                                        refine lv_iconst (v := 1) hx hb dL_law_822 (by decide) ?_
                                        refine lv_iadd hx hb dL_law_823 ?_
                                        have o202 := hw.1
                                        replace hw := hw.2
                                        refine va_sld C.1 C.2.1 hX hbl (Nat.not_le.mpr hbl) hM.1.2.2.2.1 o202 dL_law_824 ?_
                                        refine lv_aload_n hx hb dL_law_825 rfl (lv_at hl 3 rfl) ?_
                                        obtain ⟨c203, d204, mc205, ms206, emc205, ems206, hw⟩ := hw
                                        refine rLZ_goi C hM (runZ_SW C hM.1 hZ hl.1 3 (As := [.ref v1, .int (f ((v4 + 1) : Int32).toNatClampNeg), .ref v3]) (mt_X0_best l hst D dA ev _ h v1 (f ((v4 + 1) : Int32).toNatClampNeg) v3  c203 d204 _ _ hw) (lw_SW q1341 q1342 q74 q1343) rfl rfl (by decide +kernel) ⟨Nat.le_of_ble_eq_true rfl, Nat.le_of_ble_eq_true rfl⟩ rfl (Nat.le_of_ble_eq_true rfl) rfl dL_law_826 ⟨by show cells + c203 ≤ 603072; omega, by show slots + d204 ≤ 7178346; omega⟩) (fun x208 h207 H locs hw hM => ?_)
                                        have hbud : cells + c203 + mc205 ≤ 603072 ∧ slots + d204 + ms206 ≤ 7178346 := ⟨by omega, by omega⟩
                                        refine lv_istore (lv' := [(5, .int x208), (0, .ref b), (1, .ref v1), (2, .ref (ad 0)), (3, .ref v3), (4, .int v4)]) hx hb dL_law_829 hl (by decide) rfl (fun ls hl => ?_)
                                        refine lv_aload_n hx hb dL_law_831 rfl (lv_at hl 3 rfl) ?_
                                        refine lv_aload_n hx hb dL_law_832 rfl (lv_at hl 1 rfl) ?_
                                        refine lv_iload hx hb dL_law_833 (lv_at hl 5 rfl) ?_
                                        refine lv_iconst (v := 1) hx hb dL_law_835 (by decide) ?_
                                        refine lv_iadd hx hb dL_law_836 ?_
                                        have o210 := hw.1
                                        replace hw := hw.2
                                        refine va_sld C.1 C.2.1 hX hbl (Nat.not_le.mpr hbl) hM.1.2.2.2.1 o210 dL_law_837 ?_
                                        refine rT_goi C hM (runT_V C hM hl.1 1 (As := [.int (f ((v4 + 1) : Int32).toNatClampNeg)]) (mt_best l D dA ad _ σ (f ((v4 + 1) : Int32).toNatClampNeg) _ hw) (lw_V q1682 q1683 q1684 q93 q1685) rfl rfl (by decide +kernel) ⟨Nat.le_of_ble_eq_true rfl, Nat.le_of_ble_eq_true rfl⟩ rfl (Nat.le_of_ble_eq_true rfl) rfl dL_law_838 ⟨by show cells + c203 + 0 ≤ 603072; omega, by show slots + d204 + 0 ≤ 7178346; omega⟩) (fun x211 σ212 H locs hw hM => ?_)
                                        have hbud : cells + c203 + 0 + mc205 ≤ 603072 ∧ slots + d204 + 0 + ms206 ≤ 7178346 := ⟨by omega, by omega⟩
                                        refine lv_istore (lv' := [(6, .int x211), (5, .int x208), (0, .ref b), (1, .ref v1), (2, .ref (ad 0)), (3, .ref v3), (4, .int v4)]) hx hb dL_law_841 hl (by decide) rfl (fun ls hl => ?_)
                                        refine lv_aload_n hx hb dL_law_843 rfl (lv_at hl 4 rfl) ?_
                                        refine rT_goi C hM (runT_V C hM hl.1 0 (As := []) (mt_thrown l D dA ad _ σ212  _ hw) (lw_V q1500 q1501 q1502 q93 q1503) rfl rfl (by decide +kernel) ⟨Nat.le_of_ble_eq_true rfl, Nat.le_of_ble_eq_true rfl⟩ rfl (Nat.le_of_ble_eq_true rfl) rfl dL_law_844 ⟨by show cells + c203 + 0 + 0 ≤ 603072; omega, by show slots + d204 + 0 + 0 ≤ 7178346; omega⟩) (fun x213 σ214 H locs hw hM => ?_)
                                        have hbud : cells + c203 + 0 + 0 + mc205 ≤ 603072 ∧ slots + d204 + 0 + 0 + ms206 ≤ 7178346 := ⟨by omega, by omega⟩
                                        refine lv_iload hx hb dL_law_847 (lv_at hl 1 rfl) ?_
                                        refine lv_icmp_eq (tgt := 854) hx hb dL_law_849 (by decide) (fun hc => ?_) (fun hc => ?_)
                                        · replace hw := hw.1 hc
                                          refine lv_iload hx hb dL_law_854 (lv_at hl 1 rfl) ?_
                                          refine lv_if_ne (tgt := 871) hx hb dL_law_856 (by decide) (fun hc => ?_) (fun hc => ?_)
                                          · replace hw := hw.1 hc
                                            exact wk_L_law_871 C hst hZ hX hbl ih v1 v3 v4 h207 σ214 mc205 ms206 _ _ _ _ ls hw hM hbud (lv_sub hl [2, 3, 4, 5, 6] rfl)
                                          · replace hw := hw.2 hc
                                            refine lv_aload_n hx hb dL_law_859 rfl (lv_at hl 5 rfl) ?_
                                            refine lv_iconst (v := 0) hx hb dL_law_860 (by decide) ?_
                                            have o215 := hw.1
                                            replace hw := hw.2
                                            have o216 := hw.1
                                            replace hw := hw.2
                                            refine rX_lald C hM.1 o215 o216 dL_law_861 ?_
                                            refine lv_iload hx hb dL_law_862 (lv_at hl 0 rfl) ?_
                                            refine lv_i2l hx hb dL_law_864 rfl ?_
                                            refine W.lcmp hx hb dL_law_865 ?_
                                            refine lv_if_eq (tgt := 871) hx hb dL_law_866 (by decide) (fun hc => ?_) (fun hc => ?_)
                                            · replace hw := hw.1 hc
                                              exact wk_L_law_871 C hst hZ hX hbl ih v1 v3 v4 h207 σ214 mc205 ms206 _ _ _ _ ls hw hM hbud (lv_sub hl [2, 3, 4, 5, 6] rfl)
                                            · replace hw := hw.2 hc
                                              refine lv_iconst (v := 0) hx hb dL_law_869 (by decide) ?_
                                              exact hw.elim
                                        · replace hw := hw.2 hc
                                          refine lv_iconst (v := 0) hx hb dL_law_852 (by decide) ?_
                                          exact hw.elim
                                      · replace hw := hw.2 hc16
                                        by_cases hc17 : x2 = 17
                                        · replace hw := hw.1 hc17
                                          refine lv_tableIn (tgt := 874) hx hb dL_law_39 (by rw [hc17]; decide) (by rw [hc17]; decide) (by rw [hc17]; rfl) (by decide) ?_
                                          refine lv_aload_n hx hb dL_law_874 rfl (lv_at hl 1 rfl) ?_
                                          refine lv_aload_n hx hb dL_law_875 rfl (lv_at hl 0 rfl) ?_
                                          refine lv_iload hx hb dL_law_876 (lv_at hl 4 rfl) ?_
                                          refine lv_iconst (v := 1) hx hb dL_law_878 (by decide) ?_
                                          refine lv_iadd hx hb dL_law_879 ?_
                                          have o217 := hw.1
                                          replace hw := hw.2
                                          refine va_sld C.1 C.2.1 hX hbl (Nat.not_le.mpr hbl) hM.1.2.2.2.1 o217 dL_law_880 ?_
                                          have o220 := hw.1
                                          replace hw := hw.2
                                          refine rL_goi C hM (runX_V C hM.1 hl.1 0 1 (As := [.int (f ((v4 + 1) : Int32).toNatClampNeg)]) rfl (by decide) o220 (mt_X1_bestAt l D dA ev _ h v1 (f ((v4 + 1) : Int32).toNatClampNeg)  _ hw) (lw_V q829 q830 q831 q75 q832) rfl rfl (by decide +kernel) ⟨Nat.le_of_ble_eq_true rfl, Nat.le_of_ble_eq_true rfl⟩ rfl (Nat.le_of_ble_eq_true rfl) rfl dL_law_881 ⟨by show cells + 0 ≤ 603072; omega, by show slots + 0 ≤ 7178346; omega⟩) (fun x219 h218 H locs hw hM => ?_)
                                          refine lv_aload_n hx hb dL_law_884 rfl (lv_at hl 2 rfl) ?_
                                          refine lv_aload_n hx hb dL_law_885 rfl (lv_at hl 0 rfl) ?_
                                          refine lv_iload hx hb dL_law_886 (lv_at hl 4 rfl) ?_
                                          refine lv_iconst (v := 1) hx hb dL_law_888 (by decide) ?_
                                          refine lv_iadd hx hb dL_law_889 ?_
                                          have o222 := hw.1
                                          replace hw := hw.2
                                          refine va_sld C.1 C.2.1 hX hbl (Nat.not_le.mpr hbl) hM.1.2.2.2.1 o222 dL_law_890 ?_
                                          refine rT_goi C hM (runT_V C hM hl.1 1 (As := [.int (f ((v4 + 1) : Int32).toNatClampNeg)]) (mt_bestAt l D dA ad _ σ (f ((v4 + 1) : Int32).toNatClampNeg) _ hw) (lw_V q1690 q1691 q1692 q93 q1693) rfl rfl (by decide +kernel) ⟨Nat.le_of_ble_eq_true rfl, Nat.le_of_ble_eq_true rfl⟩ rfl (Nat.le_of_ble_eq_true rfl) rfl dL_law_891 ⟨by show cells + 0 ≤ 603072; omega, by show slots + 0 ≤ 7178346; omega⟩) (fun x223 σ224 H locs hw hM => ?_)
                                          have hbud : cells + 0 + mc ≤ 603072 ∧ slots + 0 + ms ≤ 7178346 := ⟨by omega, by omega⟩
                                          refine lv_icmp_eq (tgt := 899) hx hb dL_law_894 (by decide) (fun hc => ?_) (fun hc => ?_)
                                          · replace hw := hw.1 hc
                                            exact wk_L_law_899 C hst hZ hX hbl ih v1 v3 v4 h218 σ224 mc ms _ _ _ _ ls hw hM hbud (lv_sub hl [0, 1, 2, 3, 4] rfl)
                                          · replace hw := hw.2 hc
                                            refine lv_iconst (v := 0) hx hb dL_law_897 (by decide) ?_
                                            exact hw.elim
                                        · replace hw := hw.2 hc17
                                          refine lv_tableOut (tgt := 899) hx hb dL_law_39 (by have n0 := lv_neT hc0 (a := 0) (by decide); have n1 := lv_neT hc1 (a := 1) (by decide); have n2 := lv_neT hc2 (a := 2) (by decide); have n3 := lv_neT hc3 (a := 3) (by decide); have n4 := lv_neT hc4 (a := 4) (by decide); have n5 := lv_neT hc5 (a := 5) (by decide); have n6 := lv_neT hc6 (a := 6) (by decide); have n7 := lv_neT hc7 (a := 7) (by decide); have n8 := lv_neT hc8 (a := 8) (by decide); have n9 := lv_neT hc9 (a := 9) (by decide); have n10 := lv_neT hc10 (a := 10) (by decide); have n11 := lv_neT hc11 (a := 11) (by decide); have n12 := lv_neT hc12 (a := 12) (by decide); have n13 := lv_neT hc13 (a := 13) (by decide); have n14 := lv_neT hc14 (a := 14) (by decide); have n15 := lv_neT hc15 (a := 15) (by decide); have n16 := lv_neT hc16 (a := 16) (by decide); have n17 := lv_neT hc17 (a := 17) (by decide); omega) (by decide) ?_
                                          exact wk_L_law_899 C hst hZ hX hbl ih v1 v3 v4 h σ mc ms _ _ _ _ ls hw hM hbud (lv_sub hl [0, 1, 2, 3, 4] rfl)
set_option maxHeartbeats 8000000 in
theorem wk_L_law {p : Program} {l : Launch} {e : Env} {s : State} {m : MethodId} {below : List Frame} {meth : Method} {c : Code} {D : va_G} {dA : Nat → ClassId} {ev : Nat → Nat} {b N : Nat} {f : Nat → Int32} (C : CxM p s m meth c #[Value.ref b] (fun q => s.heap.size ≤ q) "LeastSolutionsLaw" cL_law 8 ret) (hst : l.stackTraces = false) (hZ : ZX (fun q => s.heap.size ≤ q) s s.heap) (hX : va_X b N f s s.heap) (hbl : b < s.heap.size) {h : Hp} (hM : wX D dA ev (fun q => s.heap.size ≤ q) s h s.heap []) (hw : wp_L_law ev N f h) : W p l e room_1 s m #[Value.ref b] below meth c s.heap [] 0 0 (lw_Z below #[Value.ref b] s) (entryFrame m ([Value.ref b] : List Value).toArray 8) := by
  have hx := C.1
  have hb := C.2.1
  have hown := C.2.2.2.2.2.1
  have hts := C.2.2.2.2.2.2.1
  have hl := lv_entry [.ref b] (n := 8) (Nat.le_of_ble_eq_true rfl)
  rw [lg_entry_eq]
  generalize (lg_sl ([.ref b] : List Value) ++ List.replicate (8 - (lg_sl ([.ref b] : List Value)).length) Slot.unset).toArray = ls at hl ⊢
  have hl : lv_has ls 8 [(0, .ref b)] := hl
  have hbud : 0 + 603072 ≤ 603072 ∧ 0 + 7178346 ≤ 7178346 := ⟨by omega, by omega⟩
  unfold wp_L_law at hw
  obtain ⟨mc1, ms2, emc1, ems2, hw⟩ := hw
  refine rX_new C hM 0 rfl in_X1 (by decide) tyX1 tyX1_ok q112 q113 q75 (fun j hj => by match j, hj with | 0, _ => rfl | 1, _ => rfl | 2, _ => rfl | 3, _ => rfl | 4, _ => rfl | 5, _ => rfl | 6, _ => rfl | 7, _ => rfl | 8, _ => rfl | 9, _ => rfl | 10, _ => rfl | 11, _ => rfl | 12, _ => rfl | 13, _ => rfl | 14, _ => rfl | 15, _ => rfl | j + 16, hj => exact absurd hj (by omega)) (by show 0 + 1 ≤ 603072; omega) (by show 0 + 16 ≤ 7178346; omega) dL_law_0 (fun q3 h4 H hqq3 eσ hM => ?_)
  replace hw := hw q3 hqq3 h4 eσ
  clear eσ
  have hbud : 0 + 1 + mc1 ≤ 603072 ∧ 0 + 16 + ms2 ≤ 7178346 := ⟨by omega, by omega⟩
  refine lv_dup hx hb dL_law_3 rfl ?_
  obtain ⟨c5, d6, mc7, ms8, emc7, ems8, hw⟩ := hw
  refine rZ_gov C hM (runZ_I C hM hZ hl.1 0 (As := []) (mt_X1_init l hst D dA ev _ h4 q3  c5 d6 _ _ hw) q116 q75 q114 q115 rfl rfl rfl (by decide +kernel) ⟨Nat.le_of_ble_eq_true rfl, Nat.le_of_ble_eq_true rfl⟩ rfl (Nat.le_of_ble_eq_true rfl) rfl dL_law_4 ⟨by show 0 + 1 + c5 ≤ 603072; omega, by show 0 + 16 + d6 ≤ 7178346; omega⟩) (fun _ _ _ _ _ _ hx _ _ _ _ => hx.elim) (fun h9 H locs hw hM => ?_)
  have hbud : 0 + 1 + c5 + mc7 ≤ 603072 ∧ 0 + 16 + d6 + ms8 ≤ 7178346 := ⟨by omega, by omega⟩
  refine lv_astore_n (lv' := [(1, .ref q3), (0, .ref b)]) hx hb dL_law_7 rfl hl (by decide) rfl (fun ls hl => ?_)
  obtain ⟨mc11, ms12, emc11, ems12, hw⟩ := hw
  refine rX_new C hM 9 rfl in_X10 (by decide) tyX10 tyX10_ok q1383 q1384 q93 (fun j hj => by match j, hj with | 0, _ => rfl | 1, _ => rfl | 2, _ => rfl | 3, _ => rfl | 4, _ => rfl | 5, _ => rfl | 6, _ => rfl | 7, _ => rfl | 8, _ => rfl | 9, _ => rfl | 10, _ => rfl | 11, _ => rfl | 12, _ => rfl | 13, _ => rfl | 14, _ => rfl | 15, _ => rfl | 16, _ => rfl | 17, _ => rfl | 18, _ => rfl | 19, _ => rfl | 20, _ => rfl | 21, _ => rfl | 22, _ => rfl | 23, _ => rfl | 24, _ => rfl | 25, _ => rfl | 26, _ => rfl | 27, _ => rfl | 28, _ => rfl | 29, _ => rfl | 30, _ => rfl | 31, _ => rfl | 32, _ => rfl | 33, _ => rfl | 34, _ => rfl | 35, _ => rfl | j + 36, hj => exact absurd hj (by omega)) (by show 0 + 1 + c5 + 1 ≤ 603072; omega) (by show 0 + 16 + d6 + 36 ≤ 7178346; omega) dL_law_8 (fun q13 h14 H hqq13 eσ hM => ?_)
  replace hw := hw q13 hqq13 h14 eσ
  clear eσ
  have hbud : 0 + 1 + c5 + 1 + mc11 ≤ 603072 ∧ 0 + 16 + d6 + 36 + ms12 ≤ 7178346 := ⟨by omega, by omega⟩
  refine lv_dup hx hb dL_law_11 rfl ?_
  obtain ⟨c15, d16, mc17, ms18, emc17, ems18, hw⟩ := hw
  refine rX_gov C hM (runX_I C hM hl.1 0 (As := []) (mt_X10_init l D dA ev _ h14 q13  c15 d16 _ hw) q1387 q93 q1385 q1386 rfl rfl rfl (by decide +kernel) ⟨Nat.le_of_ble_eq_true rfl, Nat.le_of_ble_eq_true rfl⟩ rfl (Nat.le_of_ble_eq_true rfl) rfl dL_law_12 ⟨by show 0 + 1 + c5 + 1 + c15 ≤ 603072; omega, by show 0 + 16 + d6 + 36 + d16 ≤ 7178346; omega⟩) (fun h19 H locs hw hM => ?_)
  have hbud : 0 + 1 + c5 + 1 + c15 + mc17 ≤ 603072 ∧ 0 + 16 + d6 + 36 + d16 + ms18 ≤ 7178346 := ⟨by omega, by omega⟩
  refine lv_astore_n (lv' := [(2, .ref q13), (1, .ref q3), (0, .ref b)]) hx hb dL_law_15 rfl hl (by decide) rfl (fun ls hl => ?_)
  refine lv_iconst (v := 1) hx hb dL_law_16 (by decide) ?_
  obtain ⟨mc22, ms23, emc22, ems23, hw⟩ := hw
  refine rX_newl C hM (N := 1) q334 (by decide) (by decide) (by decide) (by show 0 + 1 + c5 + 1 + c15 + 1 ≤ 603072; omega) (by show 0 + 16 + d6 + 36 + d16 + 1 ≤ 7178346; omega) dL_law_17 (fun q24 h25 H hqq24 eσ hM => ?_)
  replace hw := hw q24 hqq24 h25 eσ
  clear eσ
  have hbud : 0 + 1 + c5 + 1 + c15 + 1 + mc22 ≤ 603072 ∧ 0 + 16 + d6 + 36 + d16 + 1 + ms23 ≤ 7178346 := ⟨by omega, by omega⟩
  refine lv_astore_n (lv' := [(3, .ref q24), (2, .ref q13), (1, .ref q3), (0, .ref b)]) hx hb dL_law_19 rfl hl (by decide) rfl (fun ls hl => ?_)
  refine lv_iconst (v := 0) hx hb dL_law_20 (by decide) ?_
  refine lv_istore (lv' := [(4, .int 0), (3, .ref q24), (2, .ref q13), (1, .ref q3), (0, .ref b)]) hx hb dL_law_21 hl (by decide) rfl (fun ls hl => ?_)
  obtain ⟨ad, σ, h9, ead, hsp, n23, hw⟩ := hw
  rw [← ead] at hl
  exact wk_L_law_23 C hst hZ hX hbl n23 q3 q24 0 h9 σ mc22 ms23 _ _ _ _ ls hw (wL_split hM hsp) hbud (lv_sub hl [4, 3, 2, 1, 0] rfl)
