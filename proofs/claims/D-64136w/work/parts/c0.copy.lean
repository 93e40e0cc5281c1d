/-! THE DESK's lists: show, copy -/
theorem sp_X11_show {ev ow : Nat → Nat} {i j a p : Nat} {v : Vc} {h : Hp} {Q : Hp → Prop} (V : xVec ow i h a v) (kp : hok h p 20) (op : ow p = j) (np : hN h p = 6) (q : ∀ h2, hE (· = j) ow h ow h2 → xA6 h2 p v → Q h2) : wp_X11_show ev h a p Q := by
  obtain ⟨v1, _, b, v2, v3, _, v4, v5, v6, v7⟩ := V
  have six : (6 : Int32) = Int32.ofNat 6 := rfl
  have pb : b ≠ p := hok_ne v3 kp (by decide)
  have go : ∀ (t c : Nat) (h1 : Hp), c + t = 6 → hE (· = j) ow h ow h1 → (∀ x, x ≠ p → hSame h h1 x) → (∀ y, y < c → hA h1 p (Int32.ofNat y) = Int32.ofInt (v y)) → wp_X11_show_2 ev Q (t + 1) a p (Int32.ofNat c) h1 := by
    intro t
    induction t with
    | zero =>
      intro c h1 hc f _ hh
      unfold wp_X11_show_2
      rw [six, i_le (by omega) (by omega)]
      obtain ⟨k1, k2, k3⟩ := hok_E f kp
      exact ⟨fun _ => q h1 f ⟨k1, k3.trans np, fun y hy => ⟨hh y (by omega), by have := v7.1 y hy; omega⟩⟩, fun w => by omega⟩
    | succ t ih =>
      intro c h1 hc f sm hh
      have ap : a ≠ p := hok_ne v1 kp (by decide)
      obtain ⟨k1, k2, k3⟩ := hok_E f kp
      unfold wp_X11_show_2
      rw [six, i_le (by omega) (by omega)]
      refine ⟨fun w => by omega, fun _ => ⟨(hok_E f v1).1, b, by rw [hR_same (sm a ap)]; exact v2, (hok_E f v3).1, vin ((hok_E f v3).2.2.trans v4) (by omega) (by omega), k1, vin (k3.trans np) (by omega) (by omega), fun h5 e5 x8 e8 => ?_⟩⟩
      subst e8
      rw [i_one]
      have rb : hA h1 b (Int32.ofNat c) = Int32.ofInt (v c) := by rw [hA_same (sm b pb)]; exact v6 c (by omega)
      rw [rb] at e5
      subst e5
      refine ih (c + 1) _ (by omega) (hE_trans f (hE_uA h1 op _ _)) (fun x hx => hSame_trans (sm x hx) ⟨rfl, rfl, by simp [uA, uAf, va_up, hx], rfl, rfl⟩) fun y hy => ?_
      rw [hA_uA, i_cl (by omega), i_cl (by omega)]
      by_cases w : y = c
      · rw [if_pos ⟨rfl, w⟩, w]
      · rw [if_neg (fun z => w z.2)]; exact hh y (by omega)
  exact ⟨7, go 6 0 h rfl (hE_refl _ _ _) (fun x _ => hSame_refl h x) fun y hy => by omega⟩
/-- the desk: its references, its three lists -/
def xDk (ow : Nat → Nat) (h : Hp) (a0 : Nat) (rf fd sh : Nat → Nat) : Prop :=
  hok h a0 0 ∧ ow a0 = 1 ∧ (∀ k, k < 16 → k ≠ 8 → k ≠ 9 → k ≠ 12 → k ≠ 13 → hR h a0 k = some (rf k)) ∧
  (hok h (rf 7) 27 ∧ ow (rf 7) = 6 ∧ hN h (rf 7) = 3) ∧ (∀ w, w < 3 → hO h (rf 7) (Int32.ofNat w) = some (fd w) ∧ hok h (fd w) 8 ∧ ow (fd w) = 6 ∧ hR h (fd w) 0 = some (sh w)) ∧ (∀ w u, w < 3 → u < 3 → fd w = fd u → w = u) ∧
  (hok h (rf 15) 20 ∧ ow (rf 15) = 15 ∧ hN h (rf 15) = 6)
theorem xDk_E {I : Nat → Prop} {ow ow2 : Nat → Nat} {h h2 : Hp} {a0 : Nat} {rf fd sh : Nat → Nat} (f : hE I ow h ow2 h2) (h1 : ¬ I 1) (h6 : ¬ I 6) (D : xDk ow h a0 rf fd sh) : xDk ow2 h2 a0 rf fd sh := by
  obtain ⟨d1, d2, d3, ⟨d4, d5, d6⟩, d7, d8, d9, d10, d11⟩ := D
  have o1 : ¬ I (ow a0) := by rw [d2]; exact h1
  have o7 : ¬ I (ow (rf 7)) := by rw [d5]; exact h6
  obtain ⟨a1, a2, a3⟩ := hok_E f d1
  obtain ⟨b1, b2, b3⟩ := hok_E f d4
  obtain ⟨c1, c2, c3⟩ := hok_E f d9
  refine ⟨a1, a2.trans d2, fun k k1 k2 k3 k4 k5 => by rw [hR_E f d1 o1]; exact d3 k k1 k2 k3 k4 k5, ⟨b1, b2.trans d5, b3.trans d6⟩, fun w hw => ?_, d8, c1, c2.trans d10, c3.trans d11⟩
  obtain ⟨e1, e2, e3, e4⟩ := d7 w hw
  have ow' : ¬ I (ow (fd w)) := by rw [e3]; exact h6
  obtain ⟨g1, g2, g3⟩ := hok_E f e2
  exact ⟨by rw [hO_E f d4 o7]; exact e1, g1, g2.trans e3, by rw [hR_E f e2 ow']; exact e4⟩
theorem gTop_f {ow : Nat → Nat} {h : Hp} {g fsh hc nc : Nat} (T : gTop ow h g fsh hc nc) : hok h g 5 ∧ ow g = 5 ∧ hR h g 2 = some fsh := by
  obtain ⟨sgn, xa, mk, hr, nr, sg, x, md, H, N, fu, T⟩ := T
  have G := T 0 none
  refine ⟨G.1.1, G.1.2, ?_⟩
  have := G.2.1.2.2.1
  rw [hR_uR, if_neg (by omega), hR_uR, if_neg (by omega)] at this
  exact this
/-- owners that copy touches -/
def I15 (t : Nat) : Nat → Prop := fun i => i = 15 ∨ i = t
theorem sp_X1_copy {ev ow : Nat → Nat} {h : Hp} {a0 g fsh hc nc k q t B MC MS : Nat} {rf fd sh : Nat → Nat} {s s2 : Sh} {v : Vc} {Q : Hp → Prop} (D : xDk ow h a0 rf fd sh) (eg : rf 5 = g) (T : gTop ow h g fsh hc nc) (S : xShS ev ow 50 h fsh s) (S2 : xShS ev ow t h q s2) (ht : 60 ≤ t) (so2 : shOk s2) (l2 : s2.1.length < 2000) (hk : s.1[k]? = some v) (hv : ∀ c, c < 6 → 0 ≤ v c) (hB : B < 64) (mc : shC (shKeep s2 (vSg B v)) - shC s2 ≤ MC) (ms : shS (shKeep s2 (vSg B v)) - shS s2 ≤ MS) (q1 : ∀ ow2 h2, hE (I15 t) ow h ow2 h2 → xShS ev ow2 t h2 q (shKeep s2 (vSg B v)) → Q h2) : wp_X1_copy ev h a0 (Int32.ofNat k) q (Int32.ofNat B) MC MS Q := by
  have D0 := D
  obtain ⟨d1, d2, d3, d4, d5, d6, c1, c2, c3⟩ := D
  obtain ⟨t1, t2, t3⟩ := gTop_f T
  have sq : hok h fsh 6 := by obtain ⟨lt, ls, T', S', fb, A', _⟩ := S; exact A'.1.1
  have kc := shKeep_C s2 (vSg B v)
  unfold wp_X1_copy
  refine ⟨d1, g, by rw [d3 5 (by omega) (by omega) (by omega) (by omega) (by omega), eg], t1, fsh, t3, sq, sp_X7_get S (List.getElem?_eq_some_iff.mp hk).1 fun a u eu V => ⟨fun b hb => ?_, d1, rf 15, d3 15 (by omega) (by omega) (by omega) (by omega) (by omega), a, rfl, V.1, ?_⟩⟩
  · rw [← Option.some.inj hb]; exact V.1
  have euv : u = v := by rw [hk] at eu; exact (Option.some.inj eu).symm
  subst euv
  refine sp_X11_show V c1 c2 c3 fun h12 f12 X => ?_
  have D12 := xDk_E f12 (by decide) (by decide) D0
  have u100 : ∀ c, c < 6 → 0 ≤ u c ∧ u c ≤ 100 := fun c hc => by
    obtain ⟨_, _, b, _, _, _, _, _, _, vo⟩ := V
    have := vo.1 c hc; have := hv c hc; omega
  refine ⟨D12.1, rf 15, D12.2.2.1 15 (by omega) (by omega) (by omega) (by omega) (by omega), MC, MS, 0, 0, by omega, by omega, ?_⟩
  refine sp_X1_keep (xSh_E f12 (by omega) S2) X u100 hB so2.2.2.2.1 l2 (Nat.le_trans kc.2.2.1 mc) (Nat.le_trans kc.2.2.2 ms) fun ow4 h4 f4 S4 => ?_
  exact q1 ow4 h4 (hE_trans (hE_mono f12 fun _ w => .inl w) (hE_mono f4 fun _ w => .inr w)) S4
/-- many vectors kept -/
def shCp (s : Sh) (xs : List Vc) : Sh := xs.foldl (fun s v => shKeep s v) s
theorem shCp_C : ∀ (xs : List Vc) (s : Sh), shC s ≤ shC (shCp s xs) ∧ shS s ≤ shS (shCp s xs) := by
  intro xs
  induction xs with
  | nil => intro s; exact ⟨Nat.le_refl _, Nat.le_refl _⟩
  | cons v t ih =>
    intro s
    have a := shKeep_C s v
    have b := ih (shKeep s v)
    exact ⟨Nat.le_trans a.1 b.1, Nat.le_trans a.2.1 b.2⟩
theorem shCp_mem : ∀ (xs : List Vc) (s : Sh) (v : Vc), v ∈ (shCp s xs).1 ↔ v ∈ s.1 ∨ v ∈ xs := by
  intro xs
  induction xs with
  | nil => intro s v; exact ⟨fun h => .inl h, fun h => by rcases h with h | h; exact h; cases h⟩
  | cons u t ih =>
    intro s v
    show v ∈ (shCp (shKeep s u) t).1 ↔ _
    rw [ih, List.mem_cons, show (v ∈ (shKeep s u).1 ↔ v = u ∨ v ∈ s.1) from vIns_mem s.1]
    constructor
    · rintro ((h | h) | h)
      · exact .inr (.inl h)
      · exact .inl h
      · exact .inr (.inr h)
    · rintro (h | h | h)
      · exact .inl (.inr h)
      · exact .inl (.inl h)
      · exact .inr h
theorem shCp_len : ∀ (xs : List Vc) (s : Sh), (shCp s xs).1.length = s.1.length + xs.length := by
  intro xs
  induction xs with
  | nil => intro s; rfl
  | cons u t ih =>
    intro s
    show (shCp (shKeep s u) t).1.length = _
    rw [ih, show (shKeep s u).1.length = s.1.length + 1 from vIns_len u s.1, List.length_cons]; omega
theorem shCp_ok : ∀ (xs : List Vc) (s : Sh), shOk s → s.1.length + xs.length ≤ 2000 → xs.Nodup → (∀ v, v ∈ xs → vOk v ∧ v ∉ s.1) → shOk (shCp s xs) := by
  intro xs
  induction xs with
  | nil => intro s h _ _ _; exact h
  | cons u t ih =>
    intro s h hl hn hv
    rw [List.length_cons] at hl
    obtain ⟨n1, n2⟩ := List.nodup_cons.mp hn
    have hu := hv u List.mem_cons_self
    refine ih (shKeep s u) (shKeep_ok h (by omega) hu.1 hu.2) (by rw [show (shKeep s u).1.length = s.1.length + 1 from vIns_len u s.1]; omega) n2 fun v hm => ⟨(hv v (List.mem_cons_of_mem _ hm)).1, fun hh => ?_⟩
    rcases (vIns_mem s.1).mp hh with e | e
    · rw [e] at hm; exact n1 hm
    · exact (hv v (List.mem_cons_of_mem _ hm)).2 e
theorem xSh_len {ev ow : Nat → Nat} {i q s ct cs : Nat} {h : Hp} {xs : List Vc} (S : xSh ev ow i h q xs s ct cs) : hok h q 6 := by obtain ⟨lt, ls, T', S', fb, A', _⟩ := S; exact A'.1.1
/-- all that was found is copied: the loop of summands -/
theorem sp_X1_summands_17 {ev ow : Nat → Nat} {h : Hp} {a0 g fsh hc nc t w0 TC TS : Nat} {rf fd sh : Nat → Nat} {s s0 : Sh} {Q : Int32 → Hp → Prop} (D : xDk ow h a0 rf fd sh) (eg : rf 5 = g) (T : gTop ow h g fsh hc nc) (S : xShS ev ow 50 h fsh s) (so : shOk s) (hw : w0 < 3) (et : t = 60 + w0) (so0 : shOk s0) (hl : s0.1.length + s.1.length ≤ 2000) (hv : ∀ v, v ∈ s.1 → (∀ c, c < 6 → 0 ≤ v c) ∧ v ∉ s0.1) (tc : shC (shCp s0 s.1) ≤ TC) (ts : shS (shCp s0 s.1) ≤ TS) (q1 : ∀ ow2 h2, hE (I15 t) ow h ow2 h2 → xShS ev ow2 t h2 (sh w0) (shCp s0 s.1) → Q 1 h2) : ∀ (m k : Nat) (ow1 : Nat → Nat) (h1 : Hp) (s1 : Sh) (mc ms : Nat), k + m = s.1.length → hE (I15 t) ow h ow1 h1 → xShS ev ow1 t h1 (sh w0) s1 → shOk s1 → s1.1.length = s0.1.length + k → (∀ v, v ∈ s1.1 → v ∈ s0.1 ∨ v ∈ s.1.take k) → shCp s1 (s.1.drop k) = shCp s0 s.1 → TC ≤ mc + shC s1 → TS ≤ ms + shS s1 → wp_X1_summands_17 ev Q (m + 1) a0 (fd w0) 1 (Int32.ofNat k) h1 mc ms := by
  intro m
  have nI : ∀ j, j < 60 → j ≠ 15 → ¬ I15 t j := fun j h1 h2 h => by rcases h with h | h <;> omega
  induction m with
  | zero =>
    intro k ow1 h1 s1 mc ms hk f S1 so1 ln mem e1 hmc hms
    have D1 := xDk_E f (nI 1 (by omega) (by omega)) (nI 6 (by omega) (by omega)) D
    have T1 := gTop_f (gTop_E f (nI 5 (by omega) (by omega)) T)
    have SS := xSh_E f (nI 50 (by omega) (by omega)) S
    have len := so.1
    unfold wp_X1_summands_17 wp_X1_summands_53
    refine ⟨D1.1, g, by rw [D1.2.2.1 5 (by omega) (by omega) (by omega) (by omega) (by omega), eg], T1.1, fsh, T1.2.2, xSh_len SS, sp_X7_size SS ?_⟩
    rw [i_le (by omega) (by omega)]
    refine ⟨fun _ => ⟨isB_1, q1 ow1 h1 f ?_⟩, fun w => by omega⟩
    have : s1 = shCp s0 s.1 := by
      rw [← e1, show k = s.1.length by omega, List.drop_length]; rfl
    rw [← this]; exact S1
  | succ m ih =>
    intro k ow1 h1 s1 mc ms hk f S1 so1 ln mem e1 hmc hms
    have D1 := xDk_E f (nI 1 (by omega) (by omega)) (nI 6 (by omega) (by omega)) D
    have T0 := gTop_E f (nI 5 (by omega) (by omega)) T
    have T1 := gTop_f T0
    have SS := xSh_E f (nI 50 (by omega) (by omega)) S
    have len := so.1
    obtain ⟨v, ev'⟩ : ∃ v, s.1[k]? = some v := ⟨_, List.getElem?_eq_getElem (by omega)⟩
    obtain ⟨kl, ekv⟩ := List.getElem?_eq_some_iff.mp ev'
    have vm := List.mem_of_getElem? ev'
    have dr : shCp s1 (s.1.drop k) = shCp (shKeep s1 v) (s.1.drop (k + 1)) := by rw [List.drop_eq_getElem_cons kl, ekv]; rfl
    have v0 : vSg 0 v = v := vSg_0 (so.2.2.2.2 v vm).2
    have kc := shKeep_C s1 v
    have pc := shCp_C (s.1.drop (k + 1)) (shKeep s1 v)
    rw [← dr, e1] at pc
    have nin : v ∉ s1.1 := fun hm => by
      rcases mem v hm with y | y
      · exact (hv v vm).2 y
      · obtain ⟨j, hj⟩ := List.mem_iff_getElem?.mp y
        have jl : j < k := by have := (List.getElem?_eq_some_iff.mp hj).1; rw [List.length_take] at this; omega
        rw [List.getElem?_take, if_pos jl] at hj
        have nd := vSort_nd so.2.2.2.1
        have := (List.getElem?_inj (by omega) nd).mp (hj.trans ev'.symm)
        omega
    unfold wp_X1_summands_17
    refine ⟨D1.1, g, by rw [D1.2.2.1 5 (by omega) (by omega) (by omega) (by omega) (by omega), eg], T1.1, fsh, T1.2.2, xSh_len SS, sp_X7_size SS ?_⟩
    rw [i_le (by omega) (by omega)]
    obtain ⟨e2, e3, e4, e5⟩ := D1.2.2.2.2.1 w0 hw
    refine ⟨fun w => by omega, fun _ => ⟨fun w => absurd w (by decide), fun _ => ⟨e3, sh w0, e5, shC (shKeep s1 v) - shC s1, shS (shKeep s1 v) - shS s1, mc - (shC (shKeep s1 v) - shC s1), ms - (shS (shKeep s1 v) - shS s1), by omega, by omega, D1.1, ?_⟩⟩⟩
    refine sp_X1_copy (B := 0) D1 eg T0 SS S1 (by omega) so1 (by omega) ev' (hv v vm).1 (by decide) (by rw [v0]; exact Nat.le_refl _) (by rw [v0]; exact Nat.le_refl _) fun ow2 h2 f2 S2 x16 e16 => ?_
    subst e16
    rw [i_one]
    rw [v0] at S2
    refine ih (k + 1) ow2 h2 (shKeep s1 v) _ _ (by omega) (hE_trans f f2) S2 (shKeep_ok so1 (by omega) (so.2.2.2.2 v vm) nin) (by rw [show (shKeep s1 v).1.length = s1.1.length + 1 from vIns_len v s1.1]; omega) (fun u hu => ?_) (by rw [← dr]; exact e1) (by omega) (by omega)
    rw [List.take_add_one, ev', List.mem_append]
    rcases (vIns_mem s1.1).mp hu with y | y
    · rw [y]; exact .inr (.inr (by simp))
    · rcases mem u y with z | z
      · exact .inl z
      · exact .inr (.inl z)
