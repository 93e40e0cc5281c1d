/-! ROW: arrays of arrays, made at once -/
set_option maxRecDepth 100000
/-- n arrays of kind ki and length k, and above them one of kind ko that holds them, at q, q+1 .. -/
def nM (h : Hp) (q ko ki n k : Nat) : Hp :=
  (h.1 ++ q :: (List.range n).map (fun j => q + 1 + j),
   fun a => if a = q then ko else if q < a ∧ a ≤ q + n then ki else h.2.1 a,
   fun a => if a = q then n else if q < a ∧ a ≤ q + n then k else h.2.2.1 a,
   h.2.2.2.1, h.2.2.2.2.1,
   fun a => if q ≤ a ∧ a ≤ q + n then (fun _ => 0) else h.2.2.2.2.2.1 a,
   fun a => if q ≤ a ∧ a ≤ q + n then (fun _ => 0) else h.2.2.2.2.2.2.1 a,
   fun a => if a = q then (fun j => if j < n then some (q + 1 + j) else none) else if q < a ∧ a ≤ q + n then (fun _ => none) else h.2.2.2.2.2.2.2 a)
theorem outerX (c : ClassId) (N h0 : Nat) : ∀ i, Jvm.Free.Multi.outerC c N h0 i = { cls := c, slots := (Jvm.Free.Multi.outerC c N h0 i).slots, vm := .none }
  | 0 => rfl
  | i + 1 => by
    have ih := outerX c N h0 i
    show (Jvm.Free.Multi.outerC c N h0 i).setSlot i (.ref (h0 + 1 + i)) = _
    rw [Jvm.Free.Multi.outerC]
    rw [ih]
    rfl
theorem outerV (c : ClassId) (N h0 : Nat) : Jvm.Free.Multi.outerC c N h0 N = vp_cell c (N, .inr (.inr (.inr (.inr (fun j => if j < N then some (h0 + 1 + j) else none))))) := by
  rw [outerX, vp_cell_q]
  unfold arrV
  congr 1
  refine Array.ext_getElem? fun j => ?_
  by_cases hj : j < N
  · rw [Jvm.Free.Multi.outerC_slot c N h0 N j hj, if_pos hj]
    simp [hj, va_rf]
  · have hs := (Jvm.Free.Multi.outerC_facts c N h0 N).2.2
    rw [Array.getElem?_eq_none (by omega), Array.getElem?_eq_none (by simp; omega)]
theorem innerV (c : ClassId) (M : Nat) (v : Value) : Jvm.Free.Multi.innerC c M v = arrV c M (fun _ => v) := by
  unfold Jvm.Free.Multi.innerC arrV
  congr 1
  refine Array.ext_getElem? fun j => ?_
  by_cases hj : j < M
  · simp [hj]
  · rw [Array.getElem?_eq_none (by simp; omega), Array.getElem?_eq_none (by simp; omega)]
section
variable {p : Program} {l : Launch} {e : Env} {R : Room} {s : State} {m : MethodId} {args : Array Value} {below : List Frame} {meth : Method} {c : Code} {H : Heap} {locs : List Loc} {cells slots : Nat} {Q : State → Prop} {pc : Nat} {ls : Array Slot} {rest : List Value} {D : va_G} {dA : Nat → ClassId} {ev : Nat → Nat} {A : Nat → Prop} {h : Hp} {cc : ByteArray} {nL : Nat} {ret : Option FieldType} {own : String} {a : Nat}
theorem wX_lt (hM : wX D dA ev A s h H locs) {b : Nat} (hb : b ∈ h.1) : b < H.size := by
  obtain ⟨k, hk⟩ := wsX_get (dA := dA) hb
  exact (hM.2.1 k _ hk).lt
theorem wX_in (hM : wX D dA ev A s h H locs) {b : Nat} (hb : b ∈ h.1) : A b := by
  obtain ⟨k, hk⟩ := wsX_get (dA := dA) hb
  exact hM.2.2.1.2 k _ hk
theorem wX_nodup (hM : wX D dA ev A s h H locs) : h.1.Nodup := by
  refine List.pairwise_iff_getElem.mpr (fun i j hi hj hij hh => ?_)
  have e1 : h.1[i]? = some h.1[i] := List.getElem?_eq_getElem hi
  have e2 : h.1[j]? = some h.1[i] := by rw [List.getElem?_eq_getElem hj, hh]
  have h1 : (wsX dA h)[i]? = some (h.1[i], cellOf dA h h.1[i]) := by
    show (h.1.map _)[i]? = _
    rw [List.getElem?_map, e1]; rfl
  have h2 : (wsX dA h)[j]? = some (h.1[i], cellOf dA h h.1[i]) := by
    show (h.1.map _)[j]? = _
    rw [List.getElem?_map, e2]; rfl
  have := hM.2.2.1.1 i j _ _ h1 h2 rfl
  omega
/-- a world from its cells, one by one -/
theorem wsX_P {H1 : Heap} {h2 : Hp} (hh : ∀ b ∈ h2.1, va_at D vwCl (b, cellOf dA h2 b) H1) : va_P D vwCl (wsX dA h2) H1 := by
  intro k x hx
  obtain ⟨b, hb, rfl⟩ := List.mem_map.mp (List.mem_of_getElem? (show (h2.1.map (fun a => (a, cellOf dA h2 a)))[k]? = some x from hx))
  exact hh b hb
theorem wsX_D {h2 : Hp} (hn : h2.1.Nodup) (hA : ∀ b ∈ h2.1, A b) : va_D A (wsX dA h2) := by
  have key : ∀ (k : Nat) (x : Nat × va_E), (wsX dA h2)[k]? = some x → h2.1[k]? = some x.1 := by
    intro k x hx
    have hx' : (h2.1.map (fun a => (a, cellOf dA h2 a)))[k]? = some x := hx
    rw [List.getElem?_map] at hx'
    obtain ⟨b, hb, rfl⟩ := Option.map_eq_some_iff.mp hx'
    exact hb
  refine ⟨fun i j x y hi hj hxy => ?_, fun k x hx => hA _ (List.mem_of_getElem? (key k x hx))⟩
  have h1 := key i x hi
  have h2' := key j y hj
  rw [← hxy] at h2'
  have hi' := (List.getElem?_eq_some_iff.mp h1).1
  exact (List.getElem?_inj hi' hn).mp (h1.trans h2'.symm)
theorem rX_multi (C : CxM p s m meth c args A own cc nL ret) (hM : wX D dA ev A s h H locs) (ko ki : Nat) {idx n k : Nat} {ty : FieldType} (hk0 : (ko = 4 ∧ ki = 0 ∧ ty = .int) ∨ (ko = 5 ∧ ki = 3 ∧ ty = .long)) (hl : Cond.classLink own idx ("[" ++ (FieldType.array ty).toString) ∈ lw_all) (harr : Cond.arrayClass ty ∈ lw_all) (hov : AAx ty s) (hn : n < 1000 ∧ k < 1000) {n9 k9 : Int32} (hn9 : ¬ n9 < 0 ∧ n9.toNatClampNeg = n) (hk9 : ¬ k9 < 0 ∧ k9.toNatClampNeg = k) (hcells : cells + (1 + n) ≤ R.cells) (hslots : slots + (n + n * k) ≤ R.slots) (hdg : decode cc pc = .ok (.multianewarray idx 2, 4))
    (kk : ∀ (q : Nat) (h2 : Hp) (H1 : Heap), (∀ b ∈ h.1, b < q) → h2 = nM h q (20 + ko) (20 + ki) n k → wX D dA ev A s h2 H1 locs → W p l e R s m args below meth c H1 locs (cells + (1 + n)) (slots + (n + n * k)) Q (F0 m (pc + 4) ls (.ref q :: rest))) :
    W p l e R s m args below meth c H locs cells slots Q (F0 m pc ls (.int k9 :: .int n9 :: rest)) := by
  intro T hT X
  subst hT
  obtain ⟨hn9, rfl⟩ := hn9
  obtain ⟨hk9, rfl⟩ := hk9
  have hdv : (fits ty (defaultValue ty) = true ∧ (defaultValue ty).isDefault = true) ∧ componentBytes ty ≤ 8 := by
    rcases hk0 with ⟨-, -, rfl⟩ | ⟨-, -, rfl⟩ <;> exact ⟨⟨rfl, rfl⟩, by decide⟩
  have hkb : k9.toNatClampNeg * componentBytes ty ≤ 1000 * 8 := Nat.mul_le_mul (by omega) hdv.2
  have hover : (Cond.arrayOver (.array ty)).before args s = true := hov
  obtain ⟨vm₁, cA, comp, hW, hfA, hfC, -, -, X1, st⟩ := X.multianewarray2F C.1 (own := own) (index := idx) (ty := ty) C.2.2.2.2.2.1 (C.2.2.2.2.2.2.1 _ hl) hover (C.2.2.2.2.2.2.1 _ harr) (g := F0 m pc ls (.int k9 :: .int n9 :: rest)) rfl (by rw [C.2.1]; exact hdg) rfl hn9 hk9 (by omega) (by omega) (by omega) hdv.1.1 hdv.1.2 hcells hslots
  have hcA : cA = dA ko := by
    rcases hk0 with ⟨rfl, -, rfl⟩ | ⟨rfl, -, rfl⟩
    · exact Option.some.inj (hfA.symm.trans (hM.1.2 4 (dA 4, .array .int) rfl).2)
    · exact Option.some.inj (hfA.symm.trans (hM.1.2 5 (dA 5, .array .long) rfl).2)
  have hcC : comp = dA ki := by
    rcases hk0 with ⟨-, rfl, rfl⟩ | ⟨-, rfl, rfl⟩
    · exact Option.some.inj (hfC.symm.trans (hM.1.2 0 (dA 0, .int) rfl).2)
    · exact Option.some.inj (hfC.symm.trans (hM.1.2 3 (dA 3, .long) rfl).2)
  subst hcA
  subst hcC
  have hlt := fun b hb => wX_lt hM (b := b) hb
  have hAq : ∀ q, T.heap.size ≤ q → A q := fun q hq => C.2.2.2.2.2.2.2 q (Nat.le_trans hM.2.2.2.1.1 hq)
  have hsz : ∀ q, q < T.heap.size → (Jvm.Free.Multi.fill (T.setVm vm₁) (dA ko) (dA ki) n9.toNatClampNeg k9.toNatClampNeg (defaultValue ty) n9.toNatClampNeg).heap[q]? = T.heap[q]? := fun q hq => Jvm.Free.Multi.fill_old (T.setVm vm₁) (dA ko) (dA ki) n9.toNatClampNeg k9.toNatClampNeg (defaultValue ty) hq n9.toNatClampNeg
  have hf := Jvm.Free.Multi.fill_facts (T.setVm vm₁) (dA ko) (dA ki) n9.toNatClampNeg k9.toNatClampNeg (defaultValue ty) n9.toNatClampNeg
  have hi := Jvm.Free.Multi.fill_inner (T.setVm vm₁) (dA ko) (dA ki) n9.toNatClampNeg k9.toNatClampNeg (defaultValue ty) n9.toNatClampNeg
  generalize Jvm.Free.Multi.fill (T.setVm vm₁) (dA ko) (dA ki) n9.toNatClampNeg k9.toNatClampNeg (defaultValue ty) n9.toNatClampNeg = T2 at *
  have hf2 : T2.heap[T.heap.size]? = some (Jvm.Free.Multi.outerC (dA ko) n9.toNatClampNeg T.heap.size n9.toNatClampNeg) := hf.2.1
  have hi2 : ∀ j, j < n9.toNatClampNeg → T2.heap[T.heap.size + 1 + j]? = some (Jvm.Free.Multi.innerC (dA ki) k9.toNatClampNeg (defaultValue ty)) := fun j hj => hi j hj
  have hs2 : T2.heap.size = T.heap.size + 1 + n9.toNatClampNeg := hf.1
  generalize n9.toNatClampNeg = n at *
  generalize k9.toNatClampNeg = k at *
  generalize hq : T.heap.size = q at *
  have hmem : ∀ b, b ∈ (nM h q (20 + ko) (20 + ki) n k).1 → b ∈ h.1 ∨ b = q ∨ (q < b ∧ b ≤ q + n) := by
    intro b hb
    rcases List.mem_append.mp hb with z | z
    · exact Or.inl z
    · rcases List.mem_cons.mp z with z | z
      · exact Or.inr (Or.inl z)
      · obtain ⟨j, hj, rfl⟩ := List.mem_map.mp z
        have := List.mem_range.mp hj
        exact Or.inr (Or.inr ⟨by omega, by omega⟩)
  have hM2 : wX D dA ev A s (nM h q (20 + ko) (20 + ki) n k) T2.heap locs := by
    refine ⟨hM.1, wsX_P (fun b hb => ?_), wsX_D ?_ ?_, ⟨Nat.le_trans hM.2.2.2.1.1 (by rw [hq]; omega), fun x h1 h2 => (hsz x (by have := hM.2.2.2.1.1; omega)).trans (hM.2.2.2.1.2.1 x h1 h2), hM.2.2.2.1.2.2⟩, hM.2.2.2.2⟩
    · rcases hmem b hb with z | rfl | ⟨z1, z2⟩
      · have hb1 := hlt b z
        obtain ⟨k1, hk1⟩ := wsX_get (dA := dA) z
        have hat := hM.2.1 k1 _ hk1
        have ec : cellOf dA (nM h q (20 + ko) (20 + ki) n k) b = cellOf dA h b := by
          simp only [cellOf, nM, if_neg (show ¬ b = q by omega), if_neg (show ¬ (q < b ∧ b ≤ q + n) by omega), if_neg (show ¬ (q ≤ b ∧ b ≤ q + n) by omega)]
        rw [ec]
        exact hat.kept (hsz b (by omega))
      · have ec : cellOf dA (nM h b (20 + ko) (20 + ki) n k) b = .inl (dA ko, n, .inr (.inr (.inr (.inr (fun j => if j < n then some (b + 1 + j) else none))))) := by
          have h4 : 4 ≤ ko := by omega
          simp only [cellOf, cellAt, nM, if_true, Nat.le_refl, true_and, Nat.le_add_right, if_neg (show ¬ 20 + ko < 20 by omega), if_neg (show ¬ 20 + ko < 23 by omega), if_neg (show ¬ 20 + ko = 23 by omega), Nat.add_sub_cancel_left]
        rw [ec]
        show T2.heap[b]? = _
        rw [hf2, outerV]
      · have e1 : b = q + 1 + (b - q - 1) := by omega
        have hc2 := hi2 (b - q - 1) (by omega)
        rw [← e1] at hc2
        show va_at D vwCl (b, _) T2.heap
        rcases hk0 with ⟨rfl, rfl, rfl⟩ | ⟨rfl, rfl, rfl⟩
        · have ec : cellOf dA (nM h q (20 + 4) (20 + 0) n k) b = .inl (dA 0, k, .inl (fun _ => 0)) := by
            simp only [cellOf, cellAt, nM, if_neg (show ¬ b = q by omega), if_pos (show q < b ∧ b ≤ q + n from ⟨z1, z2⟩), if_pos (show q ≤ b ∧ b ≤ q + n by omega)]
            rfl
          rw [ec]
          show T2.heap[b]? = _
          rw [hc2, innerV]
          rfl
        · have ec : cellOf dA (nM h q (20 + 5) (20 + 3) n k) b = .inl (dA 3, k, .inr (.inl (fun _ => 0))) := by
            simp only [cellOf, cellAt, nM, if_neg (show ¬ b = q by omega), if_pos (show q < b ∧ b ≤ q + n from ⟨z1, z2⟩), if_pos (show q ≤ b ∧ b ≤ q + n by omega)]
            rfl
          rw [ec]
          show T2.heap[b]? = _
          rw [hc2, innerV]
          rfl
    · show (h.1 ++ q :: (List.range n).map (fun j => q + 1 + j)).Nodup
      rw [List.nodup_append]
      refine ⟨wX_nodup hM, List.nodup_cons.mpr ⟨fun z => ?_, ?_⟩, fun x hx y hy => ?_⟩
      · obtain ⟨j, -, hj⟩ := List.mem_map.mp z
        omega
      · refine List.Pairwise.map _ (fun x y hxy => ?_) List.nodup_range
        intro z
        exact hxy (by omega)
      · have := hlt x hx
        rcases List.mem_cons.mp hy with z | z
        · omega
        · obtain ⟨j, -, rfl⟩ := List.mem_map.mp z
          omega
    · intro b hb
      rcases hmem b hb with z | rfl | ⟨z1, z2⟩
      · exact wX_in hM z
      · exact hAq _ (Nat.le_refl _)
      · exact hAq _ (by omega)
  have X2 : Stand p l e R s m args below meth c T2 locs (cells + (1 + n)) (slots + (n + n * k)) := by
    have e1 : cells + 1 + n = cells + (1 + n) := by omega
    have e2 : slots + n + n * k = slots + (n + n * k) := by omega
    rw [← e1, ← e2]; exact X1
  obtain ⟨t, a1, b1⟩ := kk q _ T2.heap (fun b hb => hlt b hb) rfl hM2 T2 rfl X2
  exact ⟨t, st t a1, b1⟩
theorem rX_newz (C : CxM p s m meth c args A own cc nL ret) (hM : wX D dA ev A s h H locs) {n : Int32} {N : Nat} (harr : Cond.arrayClass .boolean ∈ lw_all) (hn : ¬ n < 0) (hNN : n.toNatClampNeg = N) (hby : N * 1 ≤ 536870912) (hcells : cells + 1 ≤ R.cells) (hslots : slots + N ≤ R.slots) (hdg : decode cc pc = .ok (.newarray .boolean, 2))
    (kk : ∀ (q : Nat) (h2 : Hp) (H1 : Heap), q ∉ h.1 → h2 = nA h q 22 N → wX D dA ev A s h2 H1 locs → W p l e R s m args below meth c H1 locs (cells + 1) (slots + N) Q (F0 m (pc + 2) ls (.ref q :: rest))) : W p l e R s m args below meth c H locs cells slots Q (F0 m pc ls (.int n :: rest)) := by
  refine va_newa (a0 := (N, .inl (fun _ => 0))) (atype := .boolean) C.1 C.2.1 (C.2.2.2.2.2.2.1 _ harr) (ty := .boolean) rfl hM.1 hM.2.1 hM.2.2.1 hM.2.2.2.1 C.2.2.2.2.2.2.2 (fun _ => rfl) hn hNN hby hcells hslots hdg (fun q cA H1 hK h1 h2 h3 => ?_)
  have ec := tyX_one 2 rfl hK
  subst ec
  have hq := wX_fresh h2
  have e : wsX dA h ++ [(q, .inl (dA 2, N, .inl (fun _ => 0)))] = wsX dA (nA h q 22 N) := by
    refine wsX_push hq rfl ?_ cellOf_ne_nA
    rw [cell_A (n := 2) hok_nA (by omega)]
    simp [nA, va_up, hN]
  exact kk q _ H1 hq rfl ⟨hM.1, by rw [← e]; exact h1, by rw [← e]; exact h2, h3, hM.2.2.2.2⟩
end
