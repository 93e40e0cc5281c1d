/-! THE COMPONENT'S LATTICE: one row, all rows -/
/-- what the rows make of a vector stands in its first coordinates -/
def xLin (A : Nat → Nat → Int) (lo hi : Nat) (V : Nat → Nat → Int) : Prop := ∀ j, lo ≤ j → j < hi → ∀ s, s < 4 → V j s = qF (A s) (fun c => V j (4 + c))
theorem xLin_gath {A : Nat → Nat → Int} {lo f m c : Nat} {V V2 : Nat → Nat → Int} (g : qGath f m c V V2) (hl : lo ≤ f) (h : xLin A lo m V) : xLin A lo m V2 := by
  intro j j1 j2 s hs
  by_cases w : j < f
  · rw [qGath_lt g (.inl w)]; exact h j j1 j2 s hs
  · have := qGath_lin g (fun i => if i = 7 then -1 else A s i) (fun i => if i = 7 then s else 4 + i) 8 (fun j j1 j2 => ?_) j (by omega) j2
    · simp only [qS] at this
      simp only [qF, qS]
      simp at this
      grind
    · have := h j (by omega) j2 s hs
      simp only [qF, qS] at this
      simp only [qS]
      simp
      grind
theorem xLin_red {A : Nat → Nat → Int} {z s k : Nat} {q : Nat → Int} {V : Nat → Nat → Int} (h : xLin A z (z + k) V) (hs : s < k) : xLin A z (z + k) (qRed z s q V) := by
  intro j j1 j2 r hr
  have a := h j j1 j2 r hr
  have b := h (z + s) (by omega) (by omega) r hr
  unfold qRed
  by_cases w : z ≤ j ∧ j < z + s
  · rw [if_pos w, a, b]
    have : qF (A r) (fun c => if z ≤ j ∧ j < z + s then V j (4 + c) - q (j - z) * V (z + s) (4 + c) else V j (4 + c)) = qF (A r) (fun c => V j (4 + c)) - q (j - z) * qF (A r) (fun c => V (z + s) (4 + c)) := by
      unfold qF
      rw [← qS_mul, ← qS_sub]
      exact qS_congr fun c _ => by show A r c * (if z ≤ j ∧ j < z + s then _ else _) = _; rw [if_pos w]; grind
    rw [this]
  · rw [if_neg w, a]
    unfold qF
    exact qS_congr fun c _ => by show _ = A r c * (if z ≤ j ∧ j < z + s then _ else _); rw [if_neg w]
def qRb : Nat → Nat
  | 0 => 200
  | 1 => 320200
  | 2 => 320200 * 480001
  | _ => 320200 * 480001 * 30720001
theorem qRb_fit (ρ : Nat) : qRb ρ < 2 ^ 63 := by
  unfold qRb; split <;> decide
def xWs (D : Nat → Prop) (h : Hp) (a0 o e n r ρ k z : Nat) (A : Nat → Nat → Int) (w V : Nat → Nat → Int) (yy : Nat → Int64) : Prop :=
  z + k = n ∧ xL D h a0 o e n V ∧ (∀ i, i < k → ∀ col, col < 7 → V (z + i) (4 + col) = w i col) ∧ xLin A z (z + k) V ∧ xS h a0 e z yy (qSol n r A) ∧
  (qSol n r A → ρ ≤ 3 → ∃ v : Nat → Int, v 6 = 1 ∧ qAll n r A v ∧ ∀ s, s < 4 → yy s = Int64.ofInt (-qF (A s) v) ∧ (qF (A s) v).natAbs ≤ qRb ρ)
def xWh (D : Nat → Prop) (h : Hp) (a0 o e n r : Nat) (A : Nat → Nat → Int) : Prop := ∃ (ρ k z : Nat) (a : Nat → Nat → Int) (b cN : Nat → Nat) (w V : Nat → Nat → Int) (yy : Nat → Int64), qInv n r ρ k A a b cN w ∧ xWs D h a0 o e n r ρ k z A w V yy
theorem hI_F {D : Nat → Prop} {o e a0 : Nat} {h h2 : Hp} (f : xF D o e a0 h h2) {a : Nat} (ha : a ≠ a0) (k : Nat) : hI h2 a k = hI h a k := by unfold hI; rw [f.2.2.2.1 a ha]
theorem hok_F {D : Nat → Prop} {o e a0 : Nat} {h h2 : Hp} (f : xF D o e a0 h h2) (a k : Nat) : hok h2 a k ↔ hok h a k := by unfold hok; rw [f.1, f.2.1]
theorem hN_F {D : Nat → Prop} {o e a0 : Nat} {h h2 : Hp} (f : xF D o e a0 h h2) (a : Nat) : hN h2 a = hN h a := by unfold hN; rw [f.2.2.1]
theorem hR_F {D : Nat → Prop} {o e a0 : Nat} {h h2 : Hp} (f : xF D o e a0 h h2) (a k : Nat) : hR h2 a k = hR h a k := by unfold hR; rw [f.2.2.2.2.1]
theorem hA_F {D : Nat → Prop} {o e a0 : Nat} {h h2 : Hp} (f : xF D o e a0 h h2) (a : Nat) (i : Int32) : hA h2 a i = hA h a i := by unfold hA; rw [f.2.2.2.2.2.1]
theorem hO_F {D : Nat → Prop} {o e a0 : Nat} {h h2 : Hp} (f : xF D o e a0 h h2) {a : Nat} (ha : a ≠ o) (i : Int32) : hO h2 a i = hO h a i := by unfold hO; rw [f.2.2.2.2.2.2.2 a ha]
theorem hJ_F {D : Nat → Prop} {o e a0 : Nat} {h h2 : Hp} (f : xF D o e a0 h h2) {a : Nat} (ha : ¬ D a) (hb : a ≠ e) (i : Int32) : hJ h2 a i = hJ h a i := by unfold hJ; rw [f.2.2.2.2.2.2.1 a ha hb]
/-- the pivot's number in any row -/
theorem q_rowcol {n r ρ k z s rr : Nat} {A a : Nat → Nat → Int} {b cN : Nat → Nat} {w V V2 : Nat → Nat → Int} (h : qInv n r ρ k A a b cN w) (hρ : ρ ≤ 2) (hA : ∀ s, qRow n (A s)) (g : qGath z (z + k) rr V V2) (hr : ∀ i, i < k → V (z + i) rr = qF (A rr) (w i)) (hs : ∀ i, i < k → V (z + i) s = qF (A s) (w i)) : (qRb ρ : Nat) + qRb ρ * (V2 z s).natAbs ≤ qRb (ρ + 1) := by
  have K := h.1
  have kn := K.1
  have hk : ρ + k ≤ 6 := by omega
  have w1 : ∀ j, z ≤ j → j < z + k → (V j s).natAbs ≤ qMt ρ * 20 := by
    intro j j1 j2
    obtain ⟨i, rfl⟩ := Nat.exists_eq_add_of_le j1
    rw [hs i (by omega)]
    exact qKB_x K (by omega) (qInv_row h fun s _ => hA s) (hA s) (by omega)
  have fin : ∀ Dd : Nat, qPr z (z + k) rr s V Dd → (V2 z s).natAbs ≤ qMt ρ * 20 ∨ (V2 z s).natAbs ≤ 2 * Dd := fun Dd hp => (qGath_a g hp w1).2
  have pr : ∀ i j, z ≤ i → i < z + k → z ≤ j → j < z + k → ∃ x y, x < k ∧ y < k ∧ qM (fun i => V i rr) (fun i => V i s) i j = qF (A rr) (w x) * qF (A s) (w y) - qF (A rr) (w y) * qF (A s) (w x) := by
    intro i j i1 i2 j1 j2
    obtain ⟨x, rfl⟩ := Nat.exists_eq_add_of_le i1
    obtain ⟨y, rfl⟩ := Nat.exists_eq_add_of_le j1
    refine ⟨x, y, by omega, by omega, ?_⟩
    simp only [qM]
    rw [hr x (by omega), hr y (by omega), hs x (by omega), hs y (by omega)]
  have rows := qInv_row h fun s _ => hA s
  have hρ3 : ρ = 0 ∨ ρ = 1 ∨ ρ = 2 := by omega
  rcases hρ3 with rfl | rfl | rfl
  · have : (V2 z s).natAbs ≤ 1600 := by
      have := fin 800 (fun i j i1 i2 j1 j2 => by
        obtain ⟨x, y, hx, hy, e⟩ := pr i j i1 i2 j1 j2
        rw [e]; exact qKB_pair0 K (hA rr) (hA s) hx hy)
      have : qMt 0 = 1 := rfl
      omega
    have := Nat.mul_le_mul_left (qRb 0) this
    simp only [qRb] at *; omega
  · have : (V2 z s).natAbs ≤ 480000 := by
      have := fin 240000 (fun i j i1 i2 j1 j2 => by
        obtain ⟨x, y, hx, hy, e⟩ := pr i j i1 i2 j1 j2
        rw [e]; refine Nat.le_trans (qKB_pair K (by omega) rows (hA rr) (hA s) hx hy) ?_
        have : qMt (1 + 1) = 2400 := rfl
        rw [this]; omega)
      have : qMt 1 = 40 := rfl
      omega
    have := Nat.mul_le_mul_left (qRb 1) this
    simp only [qRb] at *; omega
  · have : (V2 z s).natAbs ≤ 30720000 := by
      have := fin 15360000 (fun i j i1 i2 j1 j2 => by
        obtain ⟨x, y, hx, hy, e⟩ := pr i j i1 i2 j1 j2
        rw [e]; refine Nat.le_trans (qKB_pair K (by omega) rows (hA rr) (hA s) hx hy) ?_
        have : qMt (2 + 1) = 192000 := rfl
        rw [this]; omega)
      have : qMt 2 = 2400 := rfl
      omega
    have := Nat.mul_le_mul_left (qRb 2) this
    simp only [qRb] at *; omega
/-- coordinates 16 + i set anew -/
def xRe (z : Nat) (V : Nat → Nat → Int) : Nat → Nat → Int := fun j c => if c < 16 then V j c else if j + 16 = z + c then 1 else 0
theorem xRe_lo (z : Nat) (V : Nat → Nat → Int) (j : Nat) {c : Nat} (h : c < 16) : xRe z V j c = V j c := if_pos h
theorem xRe_hi (z : Nat) (V : Nat → Nat → Int) (i l : Nat) : xRe z V (z + i) (16 + l) = if i = l then 1 else 0 := by
  unfold xRe
  rw [if_neg (by omega)]
  by_cases w : i = l
  · rw [if_pos w, if_pos (by omega)]
  · rw [if_neg w, if_neg (by omega)]
theorem sp_X5_row {ev : Nat → Nat} {D : Nat → Prop} {a0 o e n r b : Nat} {A : Nat → Nat → Int} {Q : Hp → Prop} {K : Nat → Nat → Int32 → Hp → Prop} {h : Hp} (hr : r < 4) (hA : ∀ s, qRow n (A s)) (W : xWh D h a0 o e n r A) (q : ∀ h2, xF D o e a0 h h2 → xWh D h2 a0 o e n (r + 1) A → K a0 b (Int32.ofNat (r + 1)) h2) : wp_X5_settle ev h a0 (Int32.ofNat r) (fun h2 => ∃ n165, wp_X5_work_165 ev Q K n165 a0 b (Int32.ofNat r) 0 h2) := by
  obtain ⟨ρ, k, z, a, bb, cN, w, V0, yy, inv, hz, L0, hV0, lin0, S, hv⟩ := W
  have hk : ρ + k = n := inv.1.1.1
  have hn : n ≤ 6 := inv.1.1.2.1
  have hρ : ρ ≤ 3 := by have := inv.2.1; omega
  have hN := qKB_HN inv.1
  -- coordinates
  have hV : ∀ i, i < k → ∀ col, col < 7 → xRe z V0 (z + i) (4 + col) = w i col := fun i hi col hc => by rw [xRe_lo _ _ _ (by omega)]; exact hV0 i hi col hc
  have hVs : ∀ s, s < 4 → ∀ i, i < k → xRe z V0 (z + i) s = qF (A s) (w i) := fun s hs i hi => by
    rw [xRe_lo _ _ _ (by omega), lin0 (z + i) (by omega) (by omega) s hs]
    unfold qF
    exact qS_congr fun c hc => by show A s c * V0 (z + i) (4 + c) = _; rw [hV0 i hi c hc]
  have hVu : ∀ i l, i < k → l < k → xRe z V0 (z + i) (16 + l) = if i = l then 1 else 0 := fun i l _ _ => xRe_hi z V0 i l
  have L : xL D h a0 o e n (xRe z V0) := by
    obtain ⟨d, L0⟩ := L0; exact ⟨d, xLd_congr L0 fun j c _ hc => xRe_lo _ _ _ (by omega)⟩
  have lin : xLin A z (z + k) (xRe z V0) := fun j j1 j2 s hs => by
    obtain ⟨i, rfl⟩ := Nat.exists_eq_add_of_le j1
    rw [hVs s hs i (by omega)]
    unfold qF
    exact qS_congr fun c hc => by show _ = A s c * xRe z V0 (z + i) (4 + c); rw [hV i (by omega) c hc]
  generalize hVV : xRe z V0 = V at hV hVs hVu L lin
  have hVr := hVs r hr
  have hX : ∀ j, z ≤ j → j < n → (V j r).natAbs < 2 ^ 63 := fun j j1 j2 => by
    obtain ⟨i, rfl⟩ := Nat.exists_eq_add_of_le j1
    rw [hVr i (by omega)]; exact q_rowfit inv.1 hρ (qInv_row inv fun s _ => hA s) (hA r) (by omega)
  have hvv : ∃ v : Nat → Int, qSol n r A → v 6 = 1 ∧ qAll n r A v ∧ ∀ s, s < 4 → yy s = Int64.ofInt (-qF (A s) v) ∧ (qF (A s) v).natAbs ≤ qRb ρ := by
    by_cases s : qSol n r A
    · obtain ⟨v, hh⟩ := hv s hρ; exact ⟨v, fun _ => hh⟩
    · exact ⟨fun _ => 0, fun h => absurd h s⟩
  obtain ⟨v, hvv⟩ := hvv
  have hAs : ∀ s, s < r + 1 → qRow n (A s) := fun s _ => hA s
  refine sp_X5_settle (z := z) (n := n) (V := V) (y := fun s => -qF (A s) v) (by omega) hr L S (fun hs => ⟨fun s h4 => ((hvv hs).2.2 s h4).1, by have := ((hvv hs).2.2 r hr).2; have := qRb_fit ρ; show (-qF (A r) v).natAbs < 2 ^ 63; omega⟩) hX (fun hzz h2 f2 L2 S2 => ?_) fun h2 V2 y2 zn f2 L2 g pos S2 hy2 => ?_
  · -- the row makes nothing of the kernel
    have hz2 : ∀ i, i < k → qF (A r) (w i) = 0 := fun i hi => by rw [← hVr i hi]; exact hzz (z + i) (by omega) (by omega)
    have inv2 := qInv_idle inv hz2
    have lead := qInv_lead inv (fun s hs => hA s) (by omega)
    have solq : qSol n (r + 1) A ↔ (qSol n r A ∧ -qF (A r) v = 0) := by
      constructor
      · intro h
        have s := qSol_le h
        have st := qSol_idle inv hz2 (hvv s).1 (hvv s).2.1
        exact ⟨s, by have := st.2 h; omega⟩
      · intro ⟨s, e⟩
        have st := qSol_idle inv hz2 (hvv s).1 (hvv s).2.1
        exact ⟨v, (hvv s).1, st.1 (by omega)⟩
    refine ⟨n + 1, sp_X5_work_165 (P := fun s c V => qLi k z cN w s c V ∧ xLin A z (z + k) V) hz S2.1 (fun s c V hs hcn p => qLi_fit hN hn (fun i hi => by have := lead i hi; omega) hs p.1) (fun s c V hs hcn p h0 => ⟨qLi_no hN hn hs p.1 h0, p.2⟩) (fun s c V V2 hs hcn p g pos => ?_) (fun h3 V3 s c f3 L3 p hs _ => q h3 (xF_trans f2 (xG_F f3)) ?_) n 0 0 V h2 (by omega) (Nat.zero_le _) (xG_refl _) L2 ⟨fun i hi => by omega, fun j _ _ col hc => by omega⟩ (.inr ⟨⟨hV, fun i hi => by omega, fun _ => Nat.zero_le _⟩, lin⟩)⟩
    · have y := qLi_yes hN hn (fun i hi => by have := lead i hi; omega) hs p.1 g pos
      exact ⟨y.1, y.2, xLin_red (xLin_gath g (by omega) p.2) hs⟩
    · have S3 := xS_G f3 (xL_e L2).2.2.2.2 S2
      refine ⟨ρ, k, z, a, bb, cN, w, V3, yy, inv2, hz, L3, p.1.1, p.2, ⟨S3.1, S3.2.1, ?_⟩, fun hs _ => ?_⟩
      · rcases S3.2.2 with ⟨s1, s2⟩ | ⟨s1, s2⟩
        · exact .inl ⟨solq.mpr s1, s2⟩
        · exact .inr ⟨fun h => s1 (solq.mp h), s2⟩
      · obtain ⟨s, e⟩ := solq.mp hs
        obtain ⟨v6, hal, hr2⟩ := hvv s
        exact ⟨v, v6, (qSol_idle inv hz2 v6 hal).1 (by omega), hr2⟩
  · -- the row counts
    rw [← hz] at g
    have k0 : 0 < k := by omega
    have p0 : V2 z r ≠ 0 := by omega
    obtain ⟨R, hR1, hR2, hR3⟩ : ∃ R, R < k ∧ qF (A r) (w R) ≠ 0 ∧ ∀ i, R < i → i < k → qF (A r) (w i) = 0 := by
      rcases q_last (x := fun i => qF (A r) (w i)) k with hz0 | hR
      · exfalso
        have := q_pivrow (row := A r) g hV hVr z (Nat.le_refl _) (by omega)
        have md := q_made g hV hVu z (Nat.le_refl _) (by omega)
        rw [this] at p0
        exact p0 (qSpan_F ⟨_, md⟩ hz0)
      · exact hR
    have ok : qOk n ρ k R a bb cN w (A r) := ⟨inv.1, hρ, qInv_row inv fun s _ => hA s, hA r, hR1, hR2, hR3⟩
    have ld0 := qLd_0 ok hV hVr hVu g
    have lin2 := xLin_gath g (Nat.le_refl _) lin
    have lin2' : xLin A (z + 1) (z + 1 + (k - 1)) V2 := fun j j1 j2 s hs => lin2 j (by omega) (by omega) s hs
    have solq : qSol n (r + 1) A ↔ (qSol n r A ∧ V2 z r ∣ -qF (A r) v) := by
      constructor
      · intro h
        have s := qSol_le h
        have st := qSol_step inv g hV hVr hVu p0 (hvv s).1 (hvv s).2.1
        exact ⟨s, Int.dvd_neg.mpr (st.2 h)⟩
      · intro ⟨s, e⟩
        have st := qSol_step inv g hV hVr hVu p0 (hvv s).1 (hvv s).2.1
        obtain ⟨s6, al⟩ := st.1 (Int.dvd_neg.mp e)
        exact ⟨_, s6, al⟩
    refine ⟨n + 1, sp_X5_work_165 (z := z + 1) (k := k - 1) (P := fun s c V => qLd n ρ k R (z + 1) cN w (A r) s c V ∧ xLin A (z + 1) (z + 1 + (k - 1)) V) (by omega) S2.1 (fun s c V hs hcn p => qLd_fit ok hs hcn p.1) (fun s c V hs hcn p h0 => ⟨qLd_no ok p.1 h0, p.2⟩) (fun s c V V2 hs hcn p g pos => ?_) (fun h3 V3 s c f3 L3 p hs he => q h3 (xF_trans f2 (xG_F f3)) ?_) n 0 0 V2 h2 (by omega) (Nat.zero_le _) (xG_refl _) L2 ⟨fun i hi => by omega, fun j _ _ col hc => by omega⟩ (.inr ⟨ld0, lin2'⟩)⟩
    · have y := qLd_yes ok hs hcn p.1 g pos
      exact ⟨y.1, y.2, xLin_red (xLin_gath g (by omega) p.2) hs⟩
    · obtain ⟨se, kb, sp⟩ := qLd_end ok p.1 hs he
      have inv2 := qInv_step inv kb sp (qLd_span hR1 p.1 se)
      have S3 := xS_G f3 (xL_e L2).2.2.2.2 S2
      refine ⟨ρ + 1, k - 1, z + 1, _, _, _, qVw (z + 1) V3, V3, y2, inv2, by omega, L3, fun i hi col hc => by unfold qVw; rw [if_pos hc], p.2, ⟨S3.1, S3.2.1, ?_⟩, fun hs hρ2 => ?_⟩
      · rcases S3.2.2 with ⟨s1, s2⟩ | ⟨s1, s2⟩
        · exact .inl ⟨solq.mpr s1, s2⟩
        · exact .inr ⟨fun h => s1 (solq.mp h), s2⟩
      · obtain ⟨s, e⟩ := solq.mp hs
        obtain ⟨v6, hal, hr2⟩ := hvv s
        obtain ⟨s6, al⟩ := (qSol_step inv g hV hVr hVu p0 v6 hal).1 (Int.dvd_neg.mp e)
        refine ⟨_, s6, al, fun s4 h4 => ?_⟩
        have pr := lin2 z (Nat.le_refl _) (by omega) s4 h4
        have e2 : qF (A s4) (fun c => v c + (-qF (A r) v).tdiv (V2 z r) * V2 z (4 + c)) = qF (A s4) v + (-qF (A r) v).tdiv (V2 z r) * V2 z s4 := by
          rw [pr]
          unfold qF; rw [← qS_mul, ← qS_add]; exact qS_congr fun c _ => by grind
        rw [e2]
        refine ⟨by rw [hy2 s s4 h4]; congr 1; grind, ?_⟩
        have b1 := (hr2 s4 h4).2
        have b2 := (hr2 r hr).2
        have t1 : ((-qF (A r) v).tdiv (V2 z r)).natAbs ≤ qRb ρ := by
          rw [Int.natAbs_tdiv, Int.natAbs_neg]
          exact Nat.le_trans (Nat.div_le_self _ _) b2
        refine Nat.le_trans (Int.natAbs_add_le _ _) (Nat.le_trans (Nat.add_le_add b1 ?_) (q_rowcol inv (by omega) hA g hVr (hVs s4 h4)))
        rw [Int.natAbs_mul]
        exact Nat.mul_le_mul_right _ t1
/-- all rows -/
theorem sp_X5_work_150 {ev : Nat → Nat} {D : Nat → Prop} {a0 o e n R m : Nat} {A : Nat → Nat → Int} {Q : Hp → Prop} {h0 : Hp} (hR : R ≤ 4) (hm : hok h0 m 3) (hm0 : hI h0 m 0 = Int32.ofNat R) (hma : m ≠ a0) (hA : ∀ s, qRow n (A s)) (q : ∀ h2, xF D o e a0 h0 h2 → xWh D h2 a0 o e n R A → Q h2) : ∀ (t r : Nat) (h : Hp), r + t = R → xF D o e a0 h0 h → xWh D h a0 o e n r A → wp_X5_work_150 ev Q (t + 1) a0 m (Int32.ofNat r) h := by
  intro t
  induction t with
  | zero =>
    intro r h hr f W
    have : r = R := by omega
    subst this
    unfold wp_X5_work_150
    rw [hI_F f hma, hm0, i_le (by omega) (by omega)]
    exact ⟨(hok_F f m 3).mpr hm, fun _ => q h f W, fun w => absurd (Nat.le_refl _) w⟩
  | succ t ih =>
    intro r h hr f W
    unfold wp_X5_work_150
    rw [hI_F f hma, hm0, i_le (by omega) (by omega)]
    refine ⟨(hok_F f m 3).mpr hm, fun w => by omega, fun _ => ⟨?_, ?_⟩⟩
    · obtain ⟨ρ, k, z, a, bb, cN, w, V, yy, inv, hz, L, _⟩ := W; exact (xL_n L).2.1
    · exact sp_X5_row (by omega) hA W fun h2 f2 W2 => ih (r + 1) h2 (by omega) (xF_trans f f2) W2
