/-! THE GROWER IN THE HEAP: begin, kernel, solutions -/
theorem gX_R {ow : Nat → Nat} {h : Hp} {g m sgn xa mk fsh hr nr : Nat} {sg x md : Vc} {H N : List Ent} {hc nc : Nat} {fu : Bool} {ot : Option Nat} (G : gX ow h g m sgn xa mk fsh hr nr sg x md H N hc nc fu ot) (m2 : Nat) (ot2 : Option Nat) : gX ow (uR (uR h g 0 (some m2)) g 9 ot2) g m2 sgn xa mk fsh hr nr sg x md H N hc nc fu ot2 := by
  obtain ⟨⟨g1, o1⟩, ⟨r0, r1, r2, r3, r4, r7, r8, r9⟩, ⟨a1, a2, a3, a4, a5⟩, nd, k, l, s1, s2, s3, s4, s5⟩ := G
  have rdR : ∀ j, j ≠ 0 → j ≠ 9 → hR (uR (uR h g 0 (some m2)) g 9 ot2) g j = hR h g j := fun j h3 h4 => by
    rw [hR_uR, if_neg (fun w => h4 w.2), hR_uR, if_neg (fun w => h3 w.2)]
  exact ⟨⟨g1, o1⟩, ⟨by rw [hR_uR, if_neg (by omega), hR_uR, if_pos ⟨rfl, rfl⟩], by rw [rdR 1 (by decide) (by decide)]; exact r1, by rw [rdR 2 (by decide) (by decide)]; exact r2, by rw [rdR 3 (by decide) (by decide)]; exact r3, by rw [rdR 4 (by decide) (by decide)]; exact r4, by rw [rdR 7 (by decide) (by decide)]; exact r7, by rw [rdR 8 (by decide) (by decide)]; exact r8, by rw [hR_uR, if_pos ⟨rfl, rfl⟩]⟩, ⟨a1, a2, a3, a4, a5⟩, nd, k, l, s1, s2, s3, s4, s5⟩
theorem gX_9 {ow : Nat → Nat} {h : Hp} {g m sgn xa mk fsh hr nr : Nat} {sg x md : Vc} {H N : List Ent} {hc nc : Nat} {fu : Bool} {ot : Option Nat} (G : gX ow h g m sgn xa mk fsh hr nr sg x md H N hc nc fu ot) (ot2 : Option Nat) : gX ow (uR h g 9 ot2) g m sgn xa mk fsh hr nr sg x md H N hc nc fu ot2 := by
  obtain ⟨⟨g1, o1⟩, ⟨r0, r1, r2, r3, r4, r7, r8, r9⟩, ⟨a1, a2, a3, a4, a5⟩, nd, k, l, s1, s2, s3, s4, s5⟩ := G
  have rdR : ∀ j, j ≠ 9 → hR (uR h g 9 ot2) g j = hR h g j := fun j h4 => by rw [hR_uR, if_neg (fun w => h4 w.2)]
  exact ⟨⟨g1, o1⟩, ⟨by rw [rdR 0 (by decide)]; exact r0, by rw [rdR 1 (by decide)]; exact r1, by rw [rdR 2 (by decide)]; exact r2, by rw [rdR 3 (by decide)]; exact r3, by rw [rdR 4 (by decide)]; exact r4, by rw [rdR 7 (by decide)]; exact r7, by rw [rdR 8 (by decide)]; exact r8, by rw [hR_uR, if_pos ⟨rfl, rfl⟩]⟩, ⟨a1, a2, a3, a4, a5⟩, nd, k, l, s1, s2, s3, s4, s5⟩
/-- the grower between its runs -/
def gTop (ow : Nat → Nat) (h : Hp) (g fsh hc nc : Nat) : Prop := ∃ (sgn xa mk hr nr : Nat) (sg x md : Vc) (H N : List Ent) (fu : Bool), ∀ (m : Nat) (ot : Option Nat), gX ow (uR (uR h g 0 (some m)) g 9 ot) g m sgn xa mk fsh hr nr sg x md H N hc nc fu ot
theorem gX_top {ow : Nat → Nat} {h : Hp} {g m sgn xa mk fsh hr nr : Nat} {sg x md : Vc} {H N : List Ent} {hc nc : Nat} {fu : Bool} {ot : Option Nat} (G : gX ow h g m sgn xa mk fsh hr nr sg x md H N hc nc fu ot) : gTop ow h g fsh hc nc := ⟨sgn, xa, mk, hr, nr, sg, x, md, H, N, fu, fun m2 ot2 => gX_R G m2 ot2⟩
theorem gTop_0 {ow : Nat → Nat} {h : Hp} {g fsh hc nc : Nat} (T : gTop ow h g fsh hc nc) (m : Nat) : ∃ (sgn xa mk hr nr : Nat) (sg x md : Vc) (H N : List Ent) (fu : Bool), gX ow (uR h g 0 (some m)) g m sgn xa mk fsh hr nr sg x md H N hc nc fu (hR h g 9) := by
  obtain ⟨sgn, xa, mk, hr, nr, sg, x, md, H, N, fu, T⟩ := T
  refine ⟨sgn, xa, mk, hr, nr, sg, x, md, H, N, fu, ?_⟩
  have := T m (hR h g 9)
  have e : uR (uR h g 0 (some m)) g 9 (hR h g 9) = uR h g 0 (some m) := by
    unfold uR hR
    refine Prod.ext rfl (Prod.ext rfl (Prod.ext rfl (Prod.ext rfl (Prod.ext ?_ rfl))))
    funext a
    show va_up (va_up h.2.2.2.2.1 g (va_up (h.2.2.2.2.1 g) 0 (some m))) g (va_up (va_up h.2.2.2.2.1 g (va_up (h.2.2.2.2.1 g) 0 (some m)) g) 9 (h.2.2.2.2.1 g 9)) a = va_up h.2.2.2.2.1 g (va_up (h.2.2.2.2.1 g) 0 (some m)) a
    by_cases w : a = g
    · subst w
      funext j
      by_cases y : j = 9
      · subst y; simp [va_up]
      · simp [va_up, y]
    · simp [va_up, w]
  rw [e] at this
  exact this
theorem hSame_uR {h h2 : Hp} {a g k : Nat} {x : Option Nat} (f : hSame h h2 a) : hSame (uR h g k x) (uR h2 g k x) a := by
  obtain ⟨s1, s2, s3, s4, s5⟩ := f
  refine ⟨s1, ?_, s3, s4, s5⟩
  by_cases w : a = g
  · subst w
    show va_up h2.2.2.2.2.1 a (va_up (h2.2.2.2.2.1 a) k x) a = va_up h.2.2.2.2.1 a (va_up (h.2.2.2.2.1 a) k x) a
    simp only [va_up, if_true, s2]
  · show va_up h2.2.2.2.2.1 g (va_up (h2.2.2.2.2.1 g) k x) a = va_up h.2.2.2.2.1 g (va_up (h.2.2.2.2.1 g) k x) a
    simp only [va_up, if_neg w, s2]
theorem gTop_E {I : Nat → Prop} {ow ow2 : Nat → Nat} {h h2 : Hp} {g fsh hc nc : Nat} (f : hE I ow h ow2 h2) (h5 : ¬ I 5) (T : gTop ow h g fsh hc nc) : gTop ow2 h2 g fsh hc nc := by
  obtain ⟨sgn, xa, mk, hr, nr, sg, x, md, H, N, fu, T⟩ := T
  refine ⟨sgn, xa, mk, hr, nr, sg, x, md, H, N, fu, fun m ot => ?_⟩
  have G := T m ot
  refine gX_E (I := I) ?_ h5 G
  exact ⟨f.1, fun a ha hi => hSame_uR (hSame_uR (f.2 a ha hi))⟩
def sgB (B : Nat) : Vc := fun c => if B.testBit c = true then -1 else 1
theorem sgB_s (B c : Nat) : sgB B c = 1 ∨ sgB B c = -1 := by unfold sgB; split <;> simp
theorem gX_sg {ow : Nat → Nat} {h : Hp} {g m sgn xa mk fsh hr nr : Nat} {sg x md : Vc} {H N : List Ent} {hc nc : Nat} {fu : Bool} {ot : Option Nat} (G : gX ow h g m sgn xa mk fsh hr nr sg x md H N hc nc fu ot) (c : Nat) (hc6 : c < 6) (v : Int) : gX ow (uA h sgn (Int32.ofNat c) (Int32.ofInt v)) g m sgn xa mk fsh hr nr (fun j => if j = c then v else sg j) x md H N hc nc fu ot := by
  obtain ⟨g1, g2, ⟨a1, a2, a3, a4, a5⟩, nd, g3, g4, s1, s2, s3, s4, s5⟩ := G
  obtain ⟨n1, n2, n3, n4, n5, n6, n7, n8, n9, n10⟩ := nd5 nd
  refine ⟨g1, g2, ⟨a1, a2, a3, a4, a5⟩, nd, g3, g4, fun j hj => ?_, fun j hj => by rw [hA_uA_ne (Ne.symm n1)]; exact s2 j hj, fun j hj => by rw [hA_uA_ne (Ne.symm n2)]; exact s3 j hj, gEn_ne _ _ (Ne.symm n3) s4, gEn_ne _ _ (Ne.symm n4) s5⟩
  rw [hA_uA, i_cl (by omega), i_cl (by omega)]
  show _ = Int32.ofInt (if j = c then v else sg j)
  by_cases w : j = c
  · rw [if_pos ⟨rfl, w⟩, if_pos w]
  · rw [if_neg (fun y => w y.2), if_neg w]; exact s1 j hj
theorem gX_sc {ow : Nat → Nat} {h : Hp} {g m sgn xa mk fsh hr nr : Nat} {sg sg2 x md : Vc} {H N : List Ent} {hc nc : Nat} {fu : Bool} {ot : Option Nat} (G : gX ow h g m sgn xa mk fsh hr nr sg x md H N hc nc fu ot) (e : ∀ c, c < 6 → sg2 c = sg c) : gX ow h g m sgn xa mk fsh hr nr sg2 x md H N hc nc fu ot := by
  obtain ⟨g1, g2, g0, nd, g3, g4, s1, s2⟩ := G
  exact ⟨g1, g2, g0, nd, g3, g4, fun c hc => by rw [e c hc]; exact s1 c hc, s2⟩
theorem gX_new {ow : Nat → Nat} {h : Hp} {g m sgn xa mk fsh hr nr : Nat} {sg x md : Vc} {H N : List Ent} {hc nc : Nat} {fu : Bool} {ot : Option Nat} (G : gX ow h g m sgn xa mk fsh hr nr sg x md H N hc nc fu ot) : gX ow (uI (uI h g 6 0) g 10 0) g m sgn xa mk fsh hr nr sg x md H [] hc nc false ot := by
  obtain ⟨g1, g2, g0, nd, ⟨k5, k6, k10⟩, ⟨l1, l2, l3, l4, l5, l6⟩, s1, s2, s3, s4, s5⟩ := G
  exact ⟨g1, g2, g0, nd, ⟨by rw [hI_uI, if_neg (by omega), hI_uI, if_neg (by omega)]; exact k5, by rw [hI_uI, if_neg (by omega), hI_uI, if_pos ⟨rfl, rfl⟩]; rfl, by rw [hI_uI, if_pos ⟨rfl, rfl⟩]; rfl⟩, ⟨l1, Nat.zero_le _, l3, l4, l5, l6⟩, s1, s2, s3, s4, fun k e he => by cases he⟩
theorem sp_X6_begin {ev ow : Nat → Nat} {h : Hp} {g fsh hc nc m B MC MS : Nat} {s : Sh} {Q : Hp → Prop} (T : gTop ow h g fsh hc nc) (S : xShS ev ow 50 h fsh s) (so : shOk s) (hB : B < 64) (mc : shC (shClear s) - shC s ≤ MC) (ms : shS (shClear s) - shS s ≤ MS) (q : ∀ ow2 h2 sgn xa mk hr nr x md H ot, hE I56 ow h ow2 h2 → gX ow2 h2 g m sgn xa mk fsh hr nr (sgB B) x md H [] hc nc false ot → xShS ev ow2 50 h2 fsh (shClear s) → Q h2) : wp_X6_begin ev h g m (Int32.ofNat B) MC MS Q := by
  have six : (6 : Int32) = Int32.ofNat 6 := rfl
  have kc := shClear_C s
  obtain ⟨sgn, xa, mk, hr, nr, sg, x, md, H, N, fu, G⟩ := gTop_0 T m
  have og : ow g = 5 := G.1.2
  have kg : hok h g 5 := G.1.1
  unfold wp_X6_begin
  refine ⟨kg, fun h1 e1 => ⟨7, ?_⟩⟩
  subst e1
  have f1 : hE (· = 5) ow h ow (uR h g 0 (some m)) := hE_uR h og 0 _
  have go : ∀ (t c : Nat) (h3 : Hp), c + t = 6 → hE (· = 5) ow h ow h3 → gX ow h3 g m sgn xa mk fsh hr nr (fun j => if j < c then sgB B j else sg j) x md H N hc nc fu (hR h g 9) → wp_X6_begin_7 ev Q (t + 1) g (Int32.ofNat B) (Int32.ofNat c) h3 MC MS := by
    intro t
    induction t with
    | zero =>
      intro c h3 hc6 f G3
      have S3 := xSh_E f (by decide) S
      have sq : hok h3 fsh 6 := by obtain ⟨lt, ls, T, S', fb, A', _⟩ := S3; exact A'.1.1
      unfold wp_X6_begin_7
      rw [six, i_le (by omega) (by omega)]
      refine ⟨fun _ => ⟨G3.1.1, fsh, G3.2.1.2.2.1, MC, MS, 0, 0, by omega, by omega, sq, ?_⟩, fun w => by omega⟩
      refine sp_X7_clear S3 (by have := so.1; omega) (Nat.le_trans kc.2.2.1 mc) (Nat.le_trans kc.2.2.2 ms) fun ow4 h4 f4 _ S4 => ?_
      have G4 := gX_E f4 (by decide) G3
      refine ⟨G4.1.1, fun h9 e9 => ⟨by rw [e9]; exact G4.1.1, fun h11 e11 => ?_⟩⟩
      have o4 : ow4 g = 5 := G4.1.2
      have f11 : hE (· = 5) ow4 h4 ow4 h11 := by rw [e11, e9]; exact hE_trans (hE_uI h4 o4 6 0) (hE_uI _ o4 10 0)
      refine q ow4 h11 sgn xa mk hr nr x md H (hR h g 9) (hE_trans (hE_5 f) (hE_trans (hE_50 f4) (hE_5 f11))) ?_ (xSh_E f11 (by decide) S4)
      rw [e11, e9]
      exact gX_new (gX_sc G4 fun c hc => (if_pos (by omega)).symm)
    | succ t ih =>
      intro c h3 hc6 f G3
      obtain ⟨a1, a2, a3, a4, a5⟩ := G3.2.2.1
      have go2 : ∀ u : Int, u = sgB B c → wp_X6_begin_32 ev Q (wp_X6_begin_7 ev Q (t + 1)) g (Int32.ofNat B) (Int32.ofNat c) sgn (Int32.ofNat c) (Int32.ofInt u) h3 MC MS := by
        intro u hu
        unfold wp_X6_begin_32
        refine ⟨a1.1, vin a1.2.2 (by omega) (by omega), fun h1 e1 x4 e4 => ?_⟩
        subst e4
        rw [i_one]
        subst e1
        refine ih (c + 1) _ (by omega) (hE_trans f (hE_uA h3 a1.2.1 _ _)) (gX_sc (gX_sg G3 c (by omega) u) fun j hj => ?_)
        show (if j < c + 1 then sgB B j else sg j) = if j = c then u else if j < c then sgB B j else sg j
        by_cases w : j = c
        · rw [if_pos (by omega), if_pos w, w, hu]
        · by_cases y : j < c
          · rw [if_pos (by omega), if_neg w, if_pos y]
          · rw [if_neg (by omega), if_neg w, if_neg y]
      unfold wp_X6_begin_7
      rw [six, i_le (by omega) (by omega), i_bit B hB c (by omega)]
      refine ⟨fun w => by omega, fun _ => ⟨G3.1.1, sgn, G3.2.1.2.1, fun w => ?_, fun w => ?_⟩⟩
      · exact go2 1 (by unfold sgB; rw [if_neg w])
      · exact go2 (-1) (by unfold sgB; rw [if_pos w])
  exact go 6 0 _ rfl f1 (gX_sc G fun c _ => if_neg (by omega))
/-! the starts -/
def vE (j : Nat) : Vc := fun c => if c = j then 1 else 0
def gIni (j : Nat) : List Ent := (List.range j).map fun i => (vE i, 2 ^ i - 1)
theorem gIni_s (j : Nat) : gIni (j + 1) = gIni j ++ [(vE j, 2 ^ j - 1)] := by unfold gIni; rw [List.range_succ, List.map_append]; rfl
theorem gIni_len (j : Nat) : (gIni j).length = j := by unfold gIni; simp
theorem w_ini : ∀ j, j < 6 → Int32.ofNat (2 ^ j - 1) = (1 <<< (Int32.ofNat j &&& 31)) - 1 ∧ 2 ^ j - 1 < 64 ∧ ∀ i, i < j → (2 ^ j - 1).testBit i = true := by decide +kernel
theorem gIni_ok {n : Nat} (hn : n ≤ 6) : ∀ j, j ≤ n → wOk n 1 (gIni j) := by
  intro j
  induction j with
  | zero => intro _; exact ⟨fun e he => (by cases he), List.Pairwise.nil⟩
  | succ j ih =>
    intro hj
    have ih := ih (by omega)
    have wi := w_ini j (by omega)
    rw [gIni_s]
    refine ⟨fun e he => ?_, List.pairwise_append.mpr ⟨ih.2, List.pairwise_singleton _ _, fun e he f hf => ?_⟩⟩
    · rcases List.mem_append.mp he with w | w
      · exact ih.1 e w
      · rw [List.mem_singleton] at w
        subst w
        refine ⟨fun c _ => by show 0 ≤ (if c = j then (1 : Int) else 0); split <;> omega, fun c hc => by show (if c = j then (1 : Int) else 0) = 0; rw [if_neg (by omega)], ?_, wi.2.1⟩
        have : qS (vE j) 6 = qS (fun c => (if c = j then 1 else 0) * (fun _ => (1 : Int)) c) 6 := qS_congr fun c _ => by show (if c = j then (1 : Int) else 0) = _; split <;> rfl
        show qS (vE j) 6 = 1
        rw [this, qS_unit (fun _ => (1 : Int)) (by omega)]; rfl
    · rw [List.mem_singleton] at hf
      subst hf
      unfold gIni at he
      obtain ⟨i, hi, rfl⟩ := List.mem_map.mp he
      have hi : i < j := List.mem_range.mp hi
      refine .inr ⟨i, by omega, wi.2.2 i hi, ?_⟩
      show (if i = j then (1 : Int) else 0) < if i = i then 1 else 0
      rw [if_neg (by omega), if_pos rfl]; decide
def gKer (A : Nat → Nat → Int) (R n B bd : Nat) (s : Sh) (hc nc : Nat) : Gr :=
  gGw A R n (sgB B) false [] bd bd 1 (shClear s, false, (if bd = 0 then [] else gIni n), hc, capK nc (if bd = 0 then [] else gIni n).length)
def gSlv (A : Nat → Nat → Int) (R n bd : Nat) (os : List Vc) (s : Sh) (hc nc : Nat) : Gr :=
  gGw A R n (sgB 0) true os bd (bd + 1) 0 (shClear s, false, [(fun _ => 0, 0)], hc, capK nc 1)
theorem gKer_C (A : Nat → Nat → Int) (R n B bd : Nat) (s : Sh) (hc nc : Nat) : shC s + hc / 224 + nc / 224 ≤ gC (gKer A R n B bd s hc nc) ∧ shS s + 2 * hc + 2 * nc ≤ gSl (gKer A R n B bd s hc nc) := by
  have a := gGw_C A R n (sgB B) false [] bd bd 1 (shClear s, false, (if bd = 0 then [] else gIni n), hc, capK nc (if bd = 0 then [] else gIni n).length)
  have b := shClear_C s
  have c := capK_ge nc (if bd = 0 then [] else gIni n).length
  have d := Nat.div_le_div_right (c := 224) c
  unfold gKer
  simp only [gC, gSl] at a ⊢
  omega
theorem gSlv_C (A : Nat → Nat → Int) (R n bd : Nat) (os : List Vc) (s : Sh) (hc nc : Nat) : shC s + hc / 224 + nc / 224 ≤ gC (gSlv A R n bd os s hc nc) ∧ shS s + 2 * hc + 2 * nc ≤ gSl (gSlv A R n bd os s hc nc) := by
  have a := gGw_C A R n (sgB 0) true os bd (bd + 1) 0 (shClear s, false, [(fun _ => 0, 0)], hc, capK nc 1)
  have b := shClear_C s
  have c := capK_ge nc 1
  have d := Nat.div_le_div_right (c := 224) c
  unfold gSlv
  simp only [gC, gSl] at a ⊢
  omega
theorem sp_X6_kernel {ev ow : Nat → Nat} {h : Hp} {g fsh hc nc i m R n vr B bd MC MS : Nat} {A : Nat → Nat → Int} {Lt : Nat → Int32} {s : Sh} {Q : Int32 → Hp → Prop} (T : gTop ow h g fsh hc nc) (S : xShS ev ow 50 h fsh s) (so : shOk s) (M : xMo ow i h m R n vr A Lt) (hi : ¬ I56 i) (hB : B < 64) (hb : bd ≤ 16) (mc : gC (gKer A R n B bd s hc nc) ≤ MC + (shC s + hc / 224 + nc / 224)) (ms : gSl (gKer A R n B bd s hc nc) ≤ MS + (shS s + 2 * hc + 2 * nc)) (q : ∀ ow2 h2, hE I56 ow h ow2 h2 → gTop ow2 h2 g fsh (gKer A R n B bd s hc nc).2.2.2.1 (gKer A R n B bd s hc nc).2.2.2.2 → xShS ev ow2 50 h2 fsh (gKer A R n B bd s hc nc).1 → shOk (gKer A R n B bd s hc nc).1 → Q (if (gKer A R n B bd s hc nc).2.1 = true then 0 else 1) h2) : wp_X6_kernel ev h g m (Int32.ofNat B) (Int32.ofNat bd) MC MS Q := by
  have n6 : n ≤ 6 := M.1.2.2.2.2.1
  have h5i : i ≠ 5 := fun w => hi (.inl w)
  have six : (6 : Int32) = Int32.ofNat 6 := rfl
  have kc := shClear_C s
  generalize eT : gKer A R n B bd s hc nc = TT at mc ms q
  have mT := gGw_C A R n (sgB B) false [] bd bd 1 (shClear s, false, (if bd = 0 then [] else gIni n), hc, capK nc (if bd = 0 then [] else gIni n).length)
  have eT' : gGw A R n (sgB B) false [] bd bd 1 (shClear s, false, (if bd = 0 then [] else gIni n), hc, capK nc (if bd = 0 then [] else gIni n).length) = TT := eT
  rw [eT'] at mT
  have cg := capK_ge nc (if bd = 0 then [] else gIni n).length
  have cd := Nat.div_le_div_right (c := 224) cg
  have mT1 := mT.1
  have mT2 := mT.2
  simp only [gC, gSl] at mT1 mT2 mc ms
  have so2 := shClear_ok so
  have lim : 224 ≤ nc := by
    obtain ⟨sgn, xa, mk, hr, nr, sg, x, md, H, N, fu, G⟩ := gTop_0 T m; exact G.2.2.2.2.2.1.2.2.2.1
  unfold wp_X6_kernel
  refine ⟨shC (shClear s) - shC s, shS (shClear s) - shS s, MC - (shC (shClear s) - shC s), MS - (shS (shClear s) - shS s), by omega, by omega, ?_, ?_⟩
  · obtain ⟨sgn, xa, mk, hr, nr, sg, x, md, H, N, fu, G⟩ := gTop_0 T m
    exact G.1.1
  refine sp_X6_begin (ow := ow) T S so hB (Nat.le_refl _) (Nat.le_refl _) fun ow1 h5 sgn xa mk hr nr x md H ot f5 G5 S5 => ⟨G5.1.1, fun h7 e7 => ⟨n + 1, ?_⟩⟩
  have G7 := gX_9 G5 none
  have f7 : hE (· = 5) ow1 h5 ow1 h7 := by rw [e7]; exact hE_uR h5 G5.1.2 9 none
  rw [← e7] at G7
  have go : ∀ (t j : Nat) (ow2 : Nat → Nat) (h8 : Hp) (nr2 : Nat) (x2 md2 : Vc) (mc2 ms2 : Nat), j + t = n → hE I56 ow h ow2 h8 → gX ow2 h8 g m sgn xa mk fsh hr nr2 (sgB B) x2 md2 H (if bd = 0 then [] else gIni j) hc (capK nc (if bd = 0 then [] else gIni j).length) false none → xShS ev ow2 50 h8 fsh (shClear s) → shC TT.1 + TT.2.2.2.1 / 224 + TT.2.2.2.2 / 224 ≤ mc2 + (shC (shClear s) + hc / 224 + capK nc (if bd = 0 then [] else gIni j).length / 224) → shS TT.1 + 2 * TT.2.2.2.1 + 2 * TT.2.2.2.2 ≤ ms2 + (shS (shClear s) + 2 * hc + 2 * capK nc (if bd = 0 then [] else gIni j).length) → wp_X6_kernel_14 ev Q (t + 1) g (Int32.ofNat bd) (Int32.ofNat j) h8 mc2 ms2 := by
    intro t
    induction t with
    | zero =>
      intro j ow2 h8 nr2 x2 md2 mc2 ms2 hj f8 G8 S8 hmc hms
      have ej : j = n := by omega
      subst ej
      have M8 := xMo_E f8 hi M
      unfold wp_X6_kernel_14
      refine ⟨G8.1.1, m, G8.2.1.1, M8.1.1, ?_⟩
      rw [M8.1.2.2.1, i_le (by omega) (by omega)]
      refine ⟨fun _ => ⟨mc2, ms2, 0, 0, by omega, by omega, G8.1.1, ?_⟩, fun w => by omega⟩
      unfold wp_X6_grow
      refine ⟨bd + 1, ?_⟩
      refine sp_X6_grow (ow := ow2) (h := h8) (rt := false) rfl M8 hi (fun c _ => sgB_s B c) (.inl ⟨rfl, rfl⟩) hb TT (fun ow3 h9 hr3 nr3 x3 md3 H3 f9 G9 S9 so9 => ?_) bd 1 (shClear s, false, (if bd = 0 then [] else gIni j), hc, capK nc (if bd = 0 then [] else gIni j).length) ow2 h8 hr nr2 x2 md2 H mc2 ms2 (by omega) (hE_refl _ _ _) G8 S8 so2 ?_ eT' (by simp only [gC]; exact hmc) (by simp only [gSl]; exact hms)
      · refine ⟨G9.1.1, ?_⟩
        have i10 := G9.2.2.2.2.1.2.2
        rw [i10, fu_0]
        have Q9 := q ow3 h9 (hE_trans f8 f9) (gX_top G9) S9 so9
        unfold wp_X6_kernel_104
        refine ⟨fun w => ⟨isB_0, ?_⟩, fun w => ⟨isB_1, ?_⟩⟩
        · rw [if_pos (by simpa using w)] at Q9; exact Q9
        · rw [if_neg (by rw [w]; decide)] at Q9; exact Q9
      · by_cases w : bd = 0
        · show wOk j 1 (if bd = 0 then [] else gIni j)
          rw [if_pos w]; exact ⟨fun e he => (by cases he), List.Pairwise.nil⟩
        · show wOk j 1 (if bd = 0 then [] else gIni j)
          rw [if_neg w]; exact gIni_ok n6 j (Nat.le_refl _)
    | succ t ih =>
      intro j ow2 h8 nr2 x2 md2 mc2 ms2 hj f8 G8 S8 hmc hms
      have M8 := xMo_E f8 hi M
      have wi := w_ini j (by omega)
      unfold wp_X6_kernel_14
      refine ⟨G8.1.1, m, G8.2.1.1, M8.1.1, ?_⟩
      rw [M8.1.2.2.1, i_le (by omega) (by omega)]
      refine ⟨fun w => by omega, fun _ => ⟨7, ?_⟩⟩
      have unit : ∀ (t2 c : Nat) (h9 : Hp), c + t2 = 6 → hE (· = 5) ow2 h8 ow2 h9 → gX ow2 h9 g m sgn xa mk fsh hr nr2 (sgB B) (fun k => if k < c then vE j k else x2 k) md2 H (if bd = 0 then [] else gIni j) hc (capK nc (if bd = 0 then [] else gIni j).length) false none → wp_X6_kernel_29 ev Q (wp_X6_kernel_14 ev Q (t + 1)) (t2 + 1) g (Int32.ofNat bd) (Int32.ofNat j) (Int32.ofNat c) h9 mc2 ms2 := by
        intro t2
        induction t2 with
        | zero =>
          intro c h9 hc6 f9 G9
          have F9 := hE_trans f8 (hE_5 f9)
          have S9 := xSh_E f9 (by decide) S8
          unfold wp_X6_kernel_29 wp_X6_kernel_79
          rw [six, i_le (by omega) (by omega), show (Int32.ofNat bd ≤ 0) = (Int32.ofNat bd ≤ Int32.ofNat 0) from rfl, i_le (by omega) (by omega)]
          refine ⟨fun _ => ⟨fun w x1 e1 => ?_, fun w => ?_⟩, fun w => by omega⟩
          · subst e1
            rw [i_one]
            have b0 : bd = 0 := by omega
            rw [if_pos b0] at G9 hmc hms
            refine ih (j + 1) ow2 h9 nr2 _ md2 mc2 ms2 (by omega) F9 (by rw [if_pos b0]; exact G9) S9 (by rw [if_pos b0]; exact hmc) (by rw [if_pos b0]; exact hms)
          · have b0 : ¬ bd = 0 := by omega
            rw [if_neg b0] at G9 hmc hms cg cd mT1 mT2
            rw [gIni_len] at G9 hmc hms cg cd mT1 mT2
            have Gx := gX_xc (y := vE j) (md2 := md2) G9 (fun k hk => (if_pos (by omega)).symm) fun _ _ => rfl
            have mono := capK_mono2 nc (j + 1) (n - (j + 1))
            rw [show j + 1 + (n - (j + 1)) = n by omega] at mono
            have md1 := Nat.div_le_div_right (c := 224) mono
            have m1 := capK_mono nc j
            have m2 := Nat.div_le_div_right (c := 224) m1
            refine ⟨G9.1.1, xa, G9.2.1.2.2.2.2.2.1, capK nc (j + 1) / 224 - capK nc j / 224, 2 * capK nc (j + 1) - 2 * capK nc j, mc2 - (capK nc (j + 1) / 224 - capK nc j / 224), ms2 - (2 * capK nc (j + 1) - 2 * capK nc j), by omega, by omega, G9.1.1, ?_⟩
            rw [← wi.1]
            refine sp_X6_come Gx (by rw [gIni_len]; omega) (fun w => by rw [gIni_len] at w; have := capK_C lim w; omega) (fun w => by rw [gIni_len] at w; have := capK_C lim w; omega) fun ow3 h10 nr3 f10 G10 x1 e1 => ?_
            subst e1
            rw [i_one]
            rw [gIni_len, ← capK_s nc j, ← gIni_s j] at G10
            refine ih (j + 1) ow3 h10 nr3 _ _ _ _ (by omega) (hE_trans F9 (hE_5 f10)) (by rw [if_neg b0, gIni_len]; exact G10) (xSh_E f10 (by decide) S9) (by rw [if_neg b0, gIni_len]; omega) (by rw [if_neg b0, gIni_len]; omega)
        | succ t2 ih2 =>
          intro c h9 hc6 f9 G9
          obtain ⟨a1, a2, a3, a4, a5⟩ := G9.2.2.1
          have put : ∀ u : Int, u = vE j c → wp_X6_kernel_54 ev Q (wp_X6_kernel_14 ev Q (t + 1)) (wp_X6_kernel_29 ev Q (wp_X6_kernel_14 ev Q (t + 1)) (t2 + 1)) g (Int32.ofNat bd) (Int32.ofNat j) (Int32.ofNat c) xa (Int32.ofNat c) (Int32.ofInt u) h9 mc2 ms2 := by
            intro u hu
            unfold wp_X6_kernel_54
            refine ⟨a2.1, vin a2.2.2 (by omega) (by omega), fun h1 e1 x4 e4 => ?_⟩
            subst e4
            rw [i_one]
            subst e1
            refine ih2 (c + 1) _ (by omega) (hE_trans f9 (hE_uA h9 a2.2.1 _ _)) (gX_xc (gX_x G9 c (by omega) u) (fun k hk => ?_) fun _ _ => rfl)
            show (if k < c + 1 then vE j k else x2 k) = if k = c then u else if k < c then vE j k else x2 k
            by_cases w : k = c
            · rw [if_pos (by omega), if_pos w, w, hu]
            · by_cases y : k < c
              · rw [if_pos (by omega), if_neg w, if_pos y]
              · rw [if_neg (by omega), if_neg w, if_neg y]
          unfold wp_X6_kernel_29
          rw [six, i_le (by omega) (by omega), i_eq (by omega) (by omega)]
          refine ⟨fun w => by omega, fun _ => ⟨G9.1.1, xa, G9.2.1.2.2.2.2.2.1, fun w => ?_, fun w => ?_⟩⟩
          · exact put 0 (by unfold vE; rw [if_neg w])
          · exact put 1 (by unfold vE; rw [if_pos w])
      exact unit 6 0 h8 rfl (hE_refl _ _ _) (gX_xc G8 (fun _ _ => if_neg (by omega)) fun _ _ => rfl)
  have e0 : (if bd = 0 then ([] : List Ent) else gIni 0) = [] := by split <;> rfl
  refine go n 0 ow1 h7 nr x md _ _ (by omega) (hE_trans f5 (hE_5 f7)) (by rw [e0]; exact G7) (xSh_E f7 (by decide) S5) (by rw [e0]; show _ ≤ _ + (_ + _ + nc / 224); omega) (by rw [e0]; show _ ≤ _ + (_ + _ + 2 * nc); omega)
theorem sp_X6_solutions {ev ow : Nat → Nat} {h : Hp} {g fsh hc nc i m R n vr bd b MC MS : Nat} {A : Nat → Nat → Int} {Lt : Nat → Int32} {s so' : Sh} {Q : Int32 → Hp → Prop} (T : gTop ow h g fsh hc nc) (S : xShS ev ow 50 h fsh s) (so : shOk s) (M : xMo ow i h m R n vr A Lt) (hi : ¬ I56 i) (O : xShS ev ow 63 h b so') (oo : so'.1.length ≤ 2000) (hb : bd ≤ 16) (mc : gC (gSlv A R n bd so'.1 s hc nc) ≤ MC + (shC s + hc / 224 + nc / 224)) (ms : gSl (gSlv A R n bd so'.1 s hc nc) ≤ MS + (shS s + 2 * hc + 2 * nc)) (q : ∀ ow2 h2, hE I56 ow h ow2 h2 → gTop ow2 h2 g fsh (gSlv A R n bd so'.1 s hc nc).2.2.2.1 (gSlv A R n bd so'.1 s hc nc).2.2.2.2 → xShS ev ow2 50 h2 fsh (gSlv A R n bd so'.1 s hc nc).1 → shOk (gSlv A R n bd so'.1 s hc nc).1 → Q (if (gSlv A R n bd so'.1 s hc nc).2.1 = true then 0 else 1) h2) : wp_X6_solutions ev h g m b (Int32.ofNat bd) MC MS Q := by
  have n6 : n ≤ 6 := M.1.2.2.2.2.1
  have six : (6 : Int32) = Int32.ofNat 6 := rfl
  have kc := shClear_C s
  generalize eT : gSlv A R n bd so'.1 s hc nc = TT at mc ms q
  have mT := gGw_C A R n (sgB 0) true so'.1 bd (bd + 1) 0 (shClear s, false, [(fun _ => 0, 0)], hc, capK nc 1)
  have eT' : gGw A R n (sgB 0) true so'.1 bd (bd + 1) 0 (shClear s, false, [(fun _ => 0, 0)], hc, capK nc 1) = TT := eT
  rw [eT'] at mT
  have cg := capK_ge nc 1
  have cd := Nat.div_le_div_right (c := 224) cg
  have mT1 := mT.1
  have mT2 := mT.2
  simp only [gC, gSl] at mT1 mT2 mc ms
  have so2 := shClear_ok so
  have lim : 224 ≤ nc := by
    obtain ⟨sgn, xa, mk, hr, nr, sg, x, md, H, N, fu, G⟩ := gTop_0 T m; exact G.2.2.2.2.2.1.2.2.2.1
  unfold wp_X6_solutions
  refine ⟨shC (shClear s) - shC s, shS (shClear s) - shS s, MC - (shC (shClear s) - shC s), MS - (shS (shClear s) - shS s), by omega, by omega, ?_, ?_⟩
  · obtain ⟨sgn, xa, mk, hr, nr, sg, x, md, H, N, fu, G⟩ := gTop_0 T m
    exact G.1.1
  refine sp_X6_begin (ow := ow) (B := 0) T S so (by decide) (Nat.le_refl _) (Nat.le_refl _) fun ow1 h5 sgn xa mk hr nr x md H ot f5 G5 S5 => ⟨G5.1.1, fun h7 e7 => ⟨7, ?_⟩⟩
  have G7 := gX_9 G5 (some b)
  have f7 : hE (· = 5) ow1 h5 ow1 h7 := by rw [e7]; exact hE_uR h5 G5.1.2 9 _
  rw [← e7] at G7
  have F7 := hE_trans f5 (hE_5 f7)
  have S7 := xSh_E f7 (by decide) S5
  have go : ∀ (t c : Nat) (h8 : Hp), c + t = 6 → hE (· = 5) ow1 h7 ow1 h8 → gX ow1 h8 g m sgn xa mk fsh hr nr (sgB 0) (fun k => if k < c then 0 else x k) md H [] hc nc false (some b) → wp_X6_solutions_14 ev Q (t + 1) g (Int32.ofNat bd) (Int32.ofNat c) h8 (MC - (shC (shClear s) - shC s)) (MS - (shS (shClear s) - shS s)) := by
    intro t
    induction t with
    | zero =>
      intro c h8 hc6 f8 G8
      have F8 := hE_trans F7 (hE_5 f8)
      have S8 := xSh_E f8 (by decide) S7
      have Gx := gX_xc (y := fun _ => 0) (md2 := md) G8 (fun k hk => (if_pos (by omega)).symm) fun _ _ => rfl
      unfold wp_X6_solutions_14
      rw [six, i_le (by omega) (by omega)]
      refine ⟨fun _ => ⟨G8.1.1, xa, G8.2.1.2.2.2.2.2.1, capK nc 1 / 224 - nc / 224, 2 * capK nc 1 - 2 * nc, MC - (shC (shClear s) - shC s) - (capK nc 1 / 224 - nc / 224), MS - (shS (shClear s) - shS s) - (2 * capK nc 1 - 2 * nc), by omega, by omega, G8.1.1, ?_⟩, fun w => by omega⟩
      have cC : ∀ w : 7 * 0 + 7 > capK nc 0, capK nc 0 / 224 + 1 ≤ capK nc (0 + 1) / 224 ∧ 2 * capK nc 0 + 2 * capK nc 0 ≤ 2 * capK nc (0 + 1) := fun w => capK_C lim w
      have c0 : capK nc 0 = nc := rfl
      refine sp_X6_come (C := 0) Gx (by simp) (fun w => by have w' : 7 * 0 + 7 > nc := w; have := cC w'; rw [c0] at this; clear w; omega) (fun w => by have w' : 7 * 0 + 7 > nc := w; have := cC w'; rw [c0] at this; clear w; omega) fun ow3 h9 nr3 f9 G9 => ?_
      have F9 := hE_trans F8 (hE_5 f9)
      have M9 := xMo_E F9 hi M
      have e1 : (if 7 * ([] : List Ent).length + 7 > nc then 2 * nc else nc) = capK nc 1 := rfl
      rw [e1] at G9
      refine ⟨MC - (shC (shClear s) - shC s) - (capK nc 1 / 224 - nc / 224), MS - (shS (shClear s) - shS s) - (2 * capK nc 1 - 2 * nc), 0, 0, by omega, by omega, G9.1.1, ?_⟩
      unfold wp_X6_grow
      refine ⟨bd + 1 + 1, ?_⟩
      refine sp_X6_grow (ow := ow3) (h := h9) (rt := true) (os := so'.1) rfl M9 hi (fun c _ => sgB_s 0 c) (.inr ⟨b, so'.2.1, so'.2.2.1, so'.2.2.2, rfl, xSh_E F9 n63 O, oo⟩) hb TT (fun ow4 h10 hr4 nr4 x4 md4 H4 f10 G10 S10 so10 => ?_) (bd + 1) 0 (shClear s, false, [(fun _ => 0, 0)], hc, capK nc 1) ow3 h9 hr nr3 _ _ H _ _ (by omega) (hE_refl _ _ _) G9 (xSh_E f9 (by decide) S8) so2 ?_ eT' (by simp only [gC]; omega) (by simp only [gSl]; omega)
      · refine ⟨G10.1.1, ?_⟩
        have i10 := G10.2.2.2.2.1.2.2
        rw [i10, fu_0]
        have Q10 := q ow4 h10 (hE_trans F9 f10) (gX_top G10) S10 so10
        unfold wp_X6_solutions_63
        refine ⟨fun w => ⟨isB_0, ?_⟩, fun w => ⟨isB_1, ?_⟩⟩
        · rw [if_pos (by simpa using w)] at Q10; exact Q10
        · rw [if_neg (by rw [w]; decide)] at Q10; exact Q10
      · refine ⟨fun e he => ?_, List.pairwise_singleton _ _⟩
        have he := List.mem_singleton.mp he
        subst he
        exact ⟨fun _ _ => Int.le_refl _, fun _ _ => rfl, qS_zero fun _ _ => rfl, by show 0 < 64; decide⟩
    | succ t ih =>
      intro c h8 hc6 f8 G8
      obtain ⟨a1, a2, a3, a4, a5⟩ := G8.2.2.1
      unfold wp_X6_solutions_14
      rw [six, i_le (by omega) (by omega)]
      refine ⟨fun w => by omega, fun _ => ⟨G8.1.1, xa, G8.2.1.2.2.2.2.2.1, a2.1, vin a2.2.2 (by omega) (by omega), fun h18 e18 x21 e21 => ?_⟩⟩
      subst e21
      rw [i_one]
      rw [i_0I] at e18
      subst e18
      refine ih (c + 1) _ (by omega) (hE_trans f8 (hE_uA h8 a2.2.1 _ _)) (gX_xc (gX_x G8 c (by omega) 0) (fun k hk => ?_) fun _ _ => rfl)
      show (if k < c + 1 then 0 else x k) = if k = c then 0 else if k < c then 0 else x k
      by_cases w : k = c
      · rw [if_pos (by omega), if_pos w]
      · by_cases y : k < c
        · rw [if_pos (by omega), if_neg w, if_pos y]
        · rw [if_neg (by omega), if_neg w, if_neg y]
  exact go 6 0 h7 rfl (hE_refl _ _ _) (gX_xc G7 (fun _ _ => if_neg (by omega)) fun _ _ => rfl)
