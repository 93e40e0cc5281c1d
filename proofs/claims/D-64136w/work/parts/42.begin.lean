/-! FROM THE LAW'S ENTRY TO PLAIN LEAN: what is left is wp_L_law of the empty heap, for every script -/
def h00 : Hp := ([], fun _ => 0, fun _ => 0, fun _ _ => 0, fun _ _ => none, fun _ _ => 0, fun _ _ => 0, fun _ _ => none)
theorem law_start (pure : ∀ (ev : Nat → Nat) (N : Nat) (f : Nat → Int32), EvOk ev → N ≤ 256 → wp_L_law ev N f h00) {p : Program} {e : Env} {s : State} {m : MethodId} {below : List Frame} {meth : Method} {c : Code} (l : Launch) (hflags : l.flags = flags0) {b L : Nat} {xs : Nat → Int32} (hL : L ≤ 256) (C0 : lw_At p s m meth c b L xs) : W p l e room_1 s m #[Value.ref b] below meth c s.heap [] 0 0 (lw_Z below #[Value.ref b] s) (entryFrame m ([Value.ref b] : List Value).toArray 8) := by
  obtain ⟨hx, hb, hr, hml, hown, hts, hX, hbl, hlocks, hgv⟩ := C0
  have hts1 : ∀ w ∈ lw_all, w.before #[Value.ref b] s = true := fun w hw => hts w (lw_all_tbl hw)
  have C : CxM p s m meth c #[Value.ref b] (fun q => s.heap.size ≤ q) "LeastSolutionsLaw" cL_law 8 ret := ⟨hx, hb, hr, hlocks, hml, hown, hts1, fun q h => h⟩
  obtain ⟨D, hD⟩ := s_cls hts1
  obtain ⟨dA, hdA⟩ := s_tys hts1 hts
  obtain ⟨ev, hE, hZ, hev⟩ := s_env hts (flat_of_before _ hgv)
  have hst : l.stackTraces = false := by unfold Launch.stackTraces; rw [hflags]; decide +kernel
  have hM : wX D dA ev (fun q => s.heap.size ≤ q) s h00 s.heap [] := ⟨⟨hD, hdA⟩, fun k q hq => (by cases hq), ⟨fun i j x y hi _ _ => (by cases hi), fun k q hq => (by cases hq)⟩, va_S.rf, hE⟩
  exact wk_L_law C hst hZ hX hbl hM (pure ev L xs hev hL)
