/-! THE GROWER IN THE HEAP: grow -/
theorem gKids_app (A : Nat → Nat → Int) (R n : Nat) (sg : Vc) (rt : Bool) (os fs : List Vc) : ∀ F G : List Ent, gKids A R n sg rt os fs (F ++ G) = gKids A R n sg rt os fs F ++ gKids A R n sg rt os fs G := by
  intro F
  induction F with
  | nil => intro G; rfl
  | cons e t ih => intro G; show gKid A R n sg rt os fs e.1 n 0 e.2 ++ gKids A R n sg rt os fs (t ++ G) = gKid A R n sg rt os fs e.1 n 0 e.2 ++ gKids A R n sg rt os fs t ++ _; rw [ih, List.append_assoc]
theorem gKids_take {A : Nat → Nat → Int} {R n : Nat} {sg : Vc} {rt : Bool} {os fs : List Vc} {H : List Ent} {k : Nat} {e : Ent} (hk : H[k]? = some e) : gKids A R n sg rt os fs (H.take (k + 1)) = gKids A R n sg rt os fs (H.take k) ++ gKid A R n sg rt os fs e.1 n 0 e.2 := by
  rw [List.take_add_one, hk, gKids_app]
  show _ ++ (gKid A R n sg rt os fs e.1 n 0 e.2 ++ []) = _
  rw [List.append_nil]
theorem gLk_full {A : Nat → Nat → Int} {R n : Nat} {sg : Vc} {rt : Bool} (s : Sh) : ∀ F : List Ent, gLk A R n sg rt (s, true) F = (s, true) := by
  intro F
  cases F with
  | nil => rfl
  | cons e t => unfold gLk; rw [if_pos rfl]
theorem gLk_drop {A : Nat → Nat → Int} {R n : Nat} {sg : Vc} {rt : Bool} {H : List Ent} {k : Nat} {e : Ent} (hk : H[k]? = some e) (s : Sh) : gLk A R n sg rt (s, false) (H.drop k) = gLk A R n sg rt (gLk1 A R n sg rt s e.1) (H.drop (k + 1)) := by
  obtain ⟨hl, he⟩ := List.getElem?_eq_some_iff.mp hk
  rw [List.drop_eq_getElem_cons hl, he]
  show (if _ then _ else _) = _
  rw [if_neg (by simp)]
theorem gLk_ok {A : Nat → Nat → Int} {R n : Nat} {sg : Vc} {rt : Bool} {sz : Nat} (hz : sz ≤ 16) (hn : n ≤ 6) : ∀ (F : List Ent) (s : Sh × Bool), (∀ e, e ∈ F → wOk1 n sz e) → shOk s.1 → shOk (gLk A R n sg rt s F).1 := by
  intro F
  induction F with
  | nil => intro s _ h; exact h
  | cons e t ih =>
    intro s hF hs
    unfold gLk
    split
    · exact hs
    · refine ih _ (fun e he => hF e (List.mem_cons_of_mem _ he)) ?_
      have he := hF e List.mem_cons_self
      unfold gLk1
      split
      · rename_i hc
        split
        · exact hs
        · refine shKeep_ok hs (by have := hs.1; omega) ⟨fun c hc => ?_, fun c hc => he.2.1 c (by omega)⟩ fun hm => hc.2 ⟨e.1, hm, vBe_iff.mpr fun c _ => Int.le_refl _⟩
          have := he.1 c hc; have := wOk1_le he hc; omega
      · exact hs
theorem fu_0 (b : Bool) : ((if b = true then (1 : Int32) else 0) = 0) ↔ b = false := by cases b <;> decide
theorem n63 : ¬ I56 63 := by unfold I56; omega
theorem sp_X6_grow_59 {ev ow : Nat → Nat} {h : Hp} {g m sgn xa mk fsh hr nr i R n vr sz bd TC TS : Nat} {sg : Vc} {H N : List Ent} {hc nc : Nat} {ot : Option Nat} {A : Nat → Nat → Int} {Lt : Nat → Int32} {rt : Bool} {s : Sh} {Q : Hp → Prop} {K3 : Nat → Int32 → Int32 → Int32 → Hp → Nat → Nat → Prop} {v3 : Int32} (e3 : v3 = if rt = true then 1 else 0) (M : xMo ow i h m R n vr A Lt) (hi : ¬ I56 i) (hs : ∀ c, c < 6 → sg c = 1 ∨ sg c = -1) (hH : ∀ e, e ∈ H → wOk1 n sz e) (hz : sz ≤ 16) (tc : shC (gLk A R n sg rt (s, false) H).1 + hc / 224 + nc / 224 ≤ TC) (ts : shS (gLk A R n sg rt (s, false) H).1 + 2 * hc + 2 * nc ≤ TS) (q : ∀ ow2 h2 x2 md2 mc2 ms2, hE I56 ow h ow2 h2 → gX ow2 h2 g m sgn xa mk fsh hr nr sg x2 md2 H N hc nc (gLk A R n sg rt (s, false) H).2 ot → xShS ev ow2 50 h2 fsh (gLk A R n sg rt (s, false) H).1 → shOk (gLk A R n sg rt (s, false) H).1 → TC ≤ mc2 + (shC (gLk A R n sg rt (s, false) H).1 + hc / 224 + nc / 224) → TS ≤ ms2 + (shS (gLk A R n sg rt (s, false) H).1 + 2 * hc + 2 * nc) → wp_X6_grow_88 ev Q K3 g (Int32.ofNat bd) v3 (Int32.ofNat sz) h2 mc2 ms2) : ∀ (t k : Nat) (ow1 : Nat → Nat) (h1 : Hp) (x1 md1 : Vc) (s1 : Sh × Bool) (mc ms : Nat), k + t = H.length → hE I56 ow h ow1 h1 → gX ow1 h1 g m sgn xa mk fsh hr nr sg x1 md1 H N hc nc s1.2 ot → xShS ev ow1 50 h1 fsh s1.1 → shOk s1.1 → gLk A R n sg rt s1 (H.drop k) = gLk A R n sg rt (s, false) H → TC ≤ mc + (shC s1.1 + hc / 224 + nc / 224) → TS ≤ ms + (shS s1.1 + 2 * hc + 2 * nc) → wp_X6_grow_59 ev Q K3 (t + 1) g (Int32.ofNat bd) v3 (Int32.ofNat sz) (Int32.ofNat (7 * k)) h1 mc ms := by
  intro t
  subst e3
  induction t with
  | zero =>
    intro k ow1 h1 x1 md1 s1 mc ms hk f G S so hg hmc hms
    have kl : k = H.length := by omega
    subst kl
    rw [List.drop_length] at hg
    have hg : s1 = gLk A R n sg rt (s, false) H := hg
    rw [← hg] at q
    have lim := G.2.2.2.2.2.1
    unfold wp_X6_grow_59
    rw [G.2.2.2.2.1.1, i_le (by omega) (by omega)]
    exact ⟨G.1.1, fun _ => q ow1 h1 x1 md1 mc ms f G S so hmc hms, fun w => by omega⟩
  | succ t ih =>
    intro k ow1 h1 x1 md1 s1 mc ms hk f G S so hg hmc hms
    obtain ⟨s1, b1⟩ := s1
    have lim := G.2.2.2.2.2.1
    unfold wp_X6_grow_59
    rw [G.2.2.2.2.1.1, i_le (by omega) (by omega), G.2.2.2.2.1.2.2, fu_0]
    refine ⟨G.1.1, fun w => by omega, fun _ => ⟨G.1.1, fun w => ?_, fun w => ?_⟩⟩
    · have : b1 = true := by simpa using w
      subst this
      rw [gLk_full] at hg
      rw [← hg] at q
      exact q ow1 h1 x1 md1 mc ms f G S so hmc hms
    · have : b1 = false := w
      subst this
      obtain ⟨e, ek⟩ : ∃ e, H[k]? = some e := ⟨_, List.getElem?_eq_getElem (by omega)⟩
      rw [gLk_drop ek] at hg
      have c1 := gLk1_C A R n sg rt s1 e.1
      have c2 := gLk_C A R n sg rt (H.drop (k + 1)) (gLk1 A R n sg rt s1 e.1)
      rw [hg] at c2
      simp only at hmc hms
      refine ⟨shC (gLk1 A R n sg rt s1 e.1).1 - shC s1, shS (gLk1 A R n sg rt s1 e.1).1 - shS s1, mc - (shC (gLk1 A R n sg rt s1 e.1).1 - shC s1), ms - (shS (gLk1 A R n sg rt s1 e.1).1 - shS s1), by omega, by omega, G.1.1, ?_⟩
      refine sp_X6_look G (xMo_E f hi M) hi hs S so ek (hH e (List.mem_of_getElem? ek)) hz (Nat.le_refl _) (Nat.le_refl _) fun ow2 h2 x2 md2 f2 G2 S2 so2 x9 e9 => ?_
      rw [show (7 : Int32) = Int32.ofNat 7 from rfl, i_add, show 7 * k + 7 = 7 * (k + 1) by omega] at e9
      subst e9
      exact ih (k + 1) ow2 h2 x2 md2 (gLk1 A R n sg rt s1 e.1) _ _ (by omega) (hE_trans f f2) G2 S2 so2 hg (by omega) (by omega)
theorem sp_X6_grow_91 {ev ow : Nat → Nat} {h : Hp} {g m sgn xa mk fsh hr i R n vr sz bd c0 TC TS : Nat} {sg : Vc} {H : List Ent} {hc : Nat} {ot : Option Nat} {A : Nat → Nat → Int} {Lt : Nat → Int32} {rt : Bool} {s : Sh} {os : List Vc} {Q : Hp → Prop} {K3 : Nat → Int32 → Int32 → Int32 → Hp → Nat → Nat → Prop} {v3 : Int32} (e3 : v3 = if rt = true then 1 else 0) (c0g : 224 ≤ c0) (M : xMo ow i h m R n vr A Lt) (hi : ¬ I56 i) (hs : ∀ c, c < 6 → sg c = 1 ∨ sg c = -1) (S : xShS ev ow 50 h fsh s) (so : shOk s) (O : gOt ev ow h ot os) (hH : wOk n sz H) (hz : sz < bd) (hb : bd ≤ 16) (tc : shC s + hc / 224 + capK c0 (gKids A R n sg rt os s.1 H).length / 224 ≤ TC) (ts : shS s + 2 * hc + 2 * capK c0 (gKids A R n sg rt os s.1 H).length ≤ TS) (q : ∀ ow2 h2 nr2 x2 md2 mc2 ms2, hE I56 ow h ow2 h2 → gX ow2 h2 g m sgn xa mk fsh hr nr2 sg x2 md2 H (gKids A R n sg rt os s.1 H) hc (capK c0 (gKids A R n sg rt os s.1 H).length) false ot → xShS ev ow2 50 h2 fsh s → TC ≤ mc2 + (shC s + hc / 224 + capK c0 (gKids A R n sg rt os s.1 H).length / 224) → TS ≤ ms2 + (shS s + 2 * hc + 2 * capK c0 (gKids A R n sg rt os s.1 H).length) → K3 g (Int32.ofNat bd) v3 (Int32.ofNat (sz + 1)) h2 mc2 ms2) : ∀ (t k : Nat) (ow1 : Nat → Nat) (h1 : Hp) (nr1 : Nat) (x1 md1 : Vc) (mc ms : Nat), k + t = H.length → hE I56 ow h ow1 h1 → gX ow1 h1 g m sgn xa mk fsh hr nr1 sg x1 md1 H (gKids A R n sg rt os s.1 (H.take k)) hc (capK c0 (gKids A R n sg rt os s.1 (H.take k)).length) false ot → xShS ev ow1 50 h1 fsh s → TC ≤ mc + (shC s + hc / 224 + capK c0 (gKids A R n sg rt os s.1 (H.take k)).length / 224) → TS ≤ ms + (shS s + 2 * hc + 2 * capK c0 (gKids A R n sg rt os s.1 (H.take k)).length) → wp_X6_grow_91 ev Q K3 (t + 1) g (Int32.ofNat bd) v3 (Int32.ofNat sz) (Int32.ofNat (7 * k)) h1 mc ms := by
  intro t
  subst e3
  have n6 : n ≤ 6 := M.1.2.2.2.2.1
  induction t with
  | zero =>
    intro k ow1 h1 nr1 x1 md1 mc ms hk f G S1 hmc hms
    have kl : k = H.length := by omega
    subst kl
    rw [List.take_length] at G hmc hms
    have lim := G.2.2.2.2.2.1
    unfold wp_X6_grow_91 wp_X6_grow_126
    rw [G.2.2.2.2.1.1, i_le (by omega) (by omega)]
    refine ⟨G.1.1, fun _ x1' e1' => ?_, fun w => by omega⟩
    subst e1'
    rw [i_one]
    exact q ow1 h1 nr1 x1 md1 mc ms f G S1 hmc hms
  | succ t ih =>
    intro k ow1 h1 nr1 x1 md1 mc ms hk f G S1 hmc hms
    have lim := G.2.2.2.2.2.1
    unfold wp_X6_grow_91
    rw [G.2.2.2.2.1.1, i_le (by omega) (by omega), G.2.2.2.2.1.2.2, fu_0, i_le (by omega) (by omega)]
    refine ⟨G.1.1, fun w => by omega, fun _ => ⟨G.1.1, fun w => absurd rfl w, fun _ => ⟨fun w => by omega, fun _ => ?_⟩⟩⟩
    obtain ⟨e, ek⟩ : ∃ e, H[k]? = some e := ⟨_, List.getElem?_eq_getElem (by omega)⟩
    have tk := gKids_take (A := A) (R := R) (n := n) (sg := sg) (rt := rt) (os := os) (fs := s.1) ek
    have tl := congrArg List.length tk
    rw [List.length_append] at tl
    have ko := gKids_ok (A := A) (R := R) (sg := sg) (rt := rt) (os := os) (fs := s.1) n6 H hH
    have all := wOk_len ko.1 (by omega)
    have split := gKids_app A R n sg rt os s.1 (H.take (k + 1)) (H.drop (k + 1))
    rw [List.take_append_drop] at split
    have sl := congrArg List.length split
    rw [List.length_append] at sl
    have mono := capK_mono2 c0 (gKids A R n sg rt os s.1 (H.take (k + 1))).length (gKids A R n sg rt os s.1 (H.drop (k + 1))).length
    rw [← sl] at mono
    have md := Nat.div_le_div_right (c := 224) mono
    have mono2 := capK_mono2 c0 (gKids A R n sg rt os s.1 (H.take k)).length (gKid A R n sg rt os s.1 e.1 n 0 e.2).length
    rw [← tl] at mono2
    have md2 := Nat.div_le_div_right (c := 224) mono2
    refine ⟨capK c0 (gKids A R n sg rt os s.1 (H.take (k + 1))).length / 224 - capK c0 (gKids A R n sg rt os s.1 (H.take k)).length / 224, 2 * capK c0 (gKids A R n sg rt os s.1 (H.take (k + 1))).length - 2 * capK c0 (gKids A R n sg rt os s.1 (H.take k)).length, mc - (capK c0 (gKids A R n sg rt os s.1 (H.take (k + 1))).length / 224 - capK c0 (gKids A R n sg rt os s.1 (H.take k)).length / 224), ms - (2 * capK c0 (gKids A R n sg rt os s.1 (H.take (k + 1))).length - 2 * capK c0 (gKids A R n sg rt os s.1 (H.take k)).length), by omega, by omega, G.1.1, ?_⟩
    refine sp_X6_spread G c0g (xMo_E f hi M) hi hs S1 so (gOt_E f n63 O) ek (hH.1 e (List.mem_of_getElem? ek)) (by omega) (by omega) (by rw [← tl]; omega) (by rw [← tl]; omega) fun ow2 h2 nr2 x2 md2' f2 G2 x9 e9 => ?_
    rw [show (7 : Int32) = Int32.ofNat 7 from rfl, i_add, show 7 * k + 7 = 7 * (k + 1) by omega] at e9
    subst e9
    rw [← tl, ← tk] at G2
    exact ih (k + 1) ow2 h2 nr2 x2 md2' _ _ (by omega) (hE_trans f (hE_5 f2)) G2 (xSh_E f2 (by decide) S1) (by omega) (by omega)
theorem gX_swap {ow : Nat → Nat} {h : Hp} {g m sgn xa mk fsh hr nr : Nat} {sg x md : Vc} {H N : List Ent} {hc nc : Nat} {fu : Bool} {ot : Option Nat} (G : gX ow h g m sgn xa mk fsh hr nr sg x md H N hc nc fu ot) : gX ow (uI (uI (uR (uR h g 3 (some nr)) g 4 (some hr)) g 5 (Int32.ofNat (7 * N.length))) g 6 0) g m sgn xa mk fsh nr hr sg x md N [] nc hc fu ot := by
  obtain ⟨⟨g1, o1⟩, ⟨r0, r1, r2, r3, r4, r7, r8, r9⟩, ⟨a1, a2, a3, a4, a5⟩, nd, ⟨k5, k6, k10⟩, ⟨l1, l2, l3, l4, l5, l6⟩, s1, s2, s3, s4, s5⟩ := G
  have rdR : ∀ j, j ≠ 3 → j ≠ 4 → hR (uI (uI (uR (uR h g 3 (some nr)) g 4 (some hr)) g 5 (Int32.ofNat (7 * N.length))) g 6 0) g j = hR h g j := fun j h3 h4 => by
    rw [hR_uI, hR_uI, hR_uR, if_neg (fun w => h4 w.2), hR_uR, if_neg (fun w => h3 w.2)]
  refine ⟨⟨g1, o1⟩, ⟨by rw [rdR 0 (by decide) (by decide)]; exact r0, by rw [rdR 1 (by decide) (by decide)]; exact r1, by rw [rdR 2 (by decide) (by decide)]; exact r2, ?_, ?_, by rw [rdR 7 (by decide) (by decide)]; exact r7, by rw [rdR 8 (by decide) (by decide)]; exact r8, by rw [rdR 9 (by decide) (by decide)]; exact r9⟩, ⟨a1, a2, a3, a5, a4⟩, ?_, ⟨?_, ?_, ?_⟩, ⟨l2, Nat.zero_le _, l4, l3, l6, l5⟩, s1, s2, s3, s5, fun k e he => by cases he⟩
  · rw [hR_uI, hR_uI, hR_uR, if_neg (by omega), hR_uR, if_pos ⟨rfl, rfl⟩]
  · rw [hR_uI, hR_uI, hR_uR, if_pos ⟨rfl, rfl⟩]
  · have d := nd5 nd
    exact nd5i (by omega)
  · rw [hI_uI, if_neg (by omega), hI_uI, if_pos ⟨rfl, rfl⟩]
  · rw [hI_uI, if_pos ⟨rfl, rfl⟩]; rfl
  · rw [hI_uI, if_neg (by omega), hI_uI, if_neg (by omega), hI_uR, hI_uR]; exact k10
theorem sp_X6_grow {ev ow : Nat → Nat} {h : Hp} {g m sgn xa mk fsh i R n vr bd : Nat} {sg : Vc} {ot : Option Nat} {A : Nat → Nat → Int} {Lt : Nat → Int32} {rt : Bool} {os : List Vc} {Q : Hp → Prop} {v3 : Int32} (e3 : v3 = if rt = true then 1 else 0) (M : xMo ow i h m R n vr A Lt) (hi : ¬ I56 i) (hs : ∀ c, c < 6 → sg c = 1 ∨ sg c = -1) (O : gOt ev ow h ot os) (hb : bd ≤ 16) (T : Gr) (q : ∀ ow2 h2 hr2 nr2 x2 md2 H2, hE I56 ow h ow2 h2 → gX ow2 h2 g m sgn xa mk fsh hr2 nr2 sg x2 md2 H2 T.2.2.1 T.2.2.2.1 T.2.2.2.2 T.2.1 ot → xShS ev ow2 50 h2 fsh T.1 → shOk T.1 → Q h2) : ∀ (t sz : Nat) (gr : Gr) (ow1 : Nat → Nat) (h1 : Hp) (hr nr : Nat) (x1 md1 : Vc) (H1 : List Ent) (mc ms : Nat), sz + t = bd + 1 → hE I56 ow h ow1 h1 → gX ow1 h1 g m sgn xa mk fsh hr nr sg x1 md1 H1 gr.2.2.1 gr.2.2.2.1 gr.2.2.2.2 gr.2.1 ot → xShS ev ow1 50 h1 fsh gr.1 → shOk gr.1 → wOk n sz gr.2.2.1 → gGw A R n sg rt os bd t sz gr = T → gC T ≤ mc + gC gr → gSl T ≤ ms + gSl gr → wp_X6_grow_3 ev Q (t + 1) g (Int32.ofNat bd) v3 (Int32.ofNat sz) h1 mc ms := by
  intro t
  subst e3
  have n6 : n ≤ 6 := M.1.2.2.2.2.1
  induction t with
  | zero =>
    intro sz gr ow1 h1 hr nr x1 md1 H1 mc ms hz f G S so hw hT hmc hms
    have hT : gr = T := hT
    subst hT
    unfold wp_X6_grow_3 wp_X6_grow_132
    rw [i_lt (by omega) (by omega)]
    exact ⟨fun _ => q ow1 h1 hr nr x1 md1 H1 f G S so, fun w => by omega⟩
  | succ t ih =>
    intro sz gr ow1 h1 hr nr x1 md1 H1 mc ms hz f G S so hw hT hmc hms
    obtain ⟨s, fu, N, hc, nc⟩ := gr
    simp only at G S so hw
    have lim := G.2.2.2.2.2.1
    have zz : ((Int32.ofNat (7 * N.length) ≤ 0) = (Int32.ofNat (7 * N.length) ≤ Int32.ofNat 0)) := rfl
    unfold wp_X6_grow_3 wp_X6_grow_132
    rw [i_lt (by omega) (by omega), G.2.2.2.2.1.2.1, zz, i_le (by omega) (by omega), G.2.2.2.2.1.2.2, fu_0]
    have stop : (N = [] ∨ fu = true) → Q h1 := by
      intro w
      have e : gGw A R n sg rt os bd (t + 1) sz (s, fu, N, hc, nc) = (s, fu, N, hc, nc) := by unfold gGw; rw [if_pos w]
      rw [e] at hT
      subst hT
      exact q ow1 h1 hr nr x1 md1 H1 f G S so
    refine ⟨fun w => by omega, fun _ => ⟨G.1.1, fun w => stop (.inl (List.length_eq_zero_iff.mp (by omega))), fun w => ⟨G.1.1, fun w2 => stop (.inr (by simpa using w2)), fun w2 => ?_⟩⟩⟩
    subst w2
    have hne : ¬ (N = [] ∨ false = true) := by
      rintro (e | e)
      · rw [e] at w; exact w (Nat.le_refl _)
      · cases e
    have eT : gGw A R n sg rt os bd t (sz + 1) (gSt A R n sg rt os bd sz (s, false, N, hc, nc)) = T := by
      rw [← hT]
      show _ = if _ then _ else _
      rw [if_neg hne]
    have mT := gGw_C A R n sg rt os bd t (sz + 1) (gSt A R n sg rt os bd sz (s, false, N, hc, nc))
    rw [eT] at mT
    obtain ⟨r0, r1, r2, r3, r4, r7, r8, r9⟩ := G.2.1
    refine ⟨G.1.1, hr, r3, G.1.1, nr, r4, G.1.1, fun h7 e7 => ⟨?_, fun h9 e9 => ⟨?_, ?_, fun h12 e12 => ⟨?_, fun h14 e14 => ⟨N.length + 1, ?_⟩⟩⟩⟩⟩
    · rw [e7]; exact G.1.1
    · rw [e9, e7]; exact G.1.1
    · rw [e9, e7]; exact G.1.1
    · rw [e12, e9, e7]; exact G.1.1
    have i6 : hI h9 g 6 = Int32.ofNat (7 * N.length) := by rw [e9, e7, hI_uR, hI_uR]; exact G.2.2.2.2.1.2.1
    rw [i6] at e12
    have G14 := gX_swap G
    have ee : h14 = uI (uI (uR (uR h1 g 3 (some nr)) g 4 (some hr)) g 5 (Int32.ofNat (7 * N.length))) g 6 0 := by rw [e14, e12, e9, e7]
    have f14 : hE (· = 5) ow1 h1 ow1 h14 := by
      rw [ee]
      have o1 := G.1.2
      exact hE_trans (hE_uR h1 o1 3 _) (hE_trans (hE_uR _ o1 4 _) (hE_trans (hE_uI _ o1 5 _) (hE_uI _ o1 6 _)))
    rw [← ee] at G14
    have F14 := hE_trans f (hE_5 f14)
    have S14 := xSh_E f14 (by decide) S
    -- the state behind this size
    have gst : gSt A R n sg rt os bd sz (s, false, N, hc, nc) = ((gLk A R n sg rt (s, false) N).1, (gLk A R n sg rt (s, false) N).2, (if (gLk A R n sg rt (s, false) N).2 = true ∨ bd ≤ sz then [] else gKids A R n sg rt os (gLk A R n sg rt (s, false) N).1.1 N), nc, capK hc (if (gLk A R n sg rt (s, false) N).2 = true ∨ bd ≤ sz then [] else gKids A R n sg rt os (gLk A R n sg rt (s, false) N).1.1 N).length) := rfl
    have capg := capK_ge hc (if (gLk A R n sg rt (s, false) N).2 = true ∨ bd ≤ sz then [] else gKids A R n sg rt os (gLk A R n sg rt (s, false) N).1.1 N).length
    have capd := Nat.div_le_div_right (c := 224) capg
    have mT1 := mT.1
    have mT2 := mT.2
    rw [gst] at mT1 mT2
    simp only [gC, gSl] at mT1 mT2 hmc hms
    refine sp_X6_grow_59 (ow := ow) (h := h) (TC := gC T) (TS := gSl T) (s := s) (rt := rt) rfl M hi hs hw.1 (by omega) (by simp only [gC]; omega) (by simp only [gSl]; omega) (fun ow2 h2 x2 md2 mc2 ms2 f2 G2 S2 so2 hmc2 hms2 => ?_) N.length 0 ow1 h14 x1 md1 (s, false) mc ms (by omega) F14 G14 S14 so rfl (by simp only [gC]; omega) (by simp only [gSl]; omega)
    -- the ways of the next size
    unfold wp_X6_grow_88
    refine ⟨N.length + 1, ?_⟩
    by_cases w3 : (gLk A R n sg rt (s, false) N).2 = true ∨ bd ≤ sz
    · rw [if_pos w3] at gst
      have lim2 := G2.2.2.2.2.2.1
      have nl : 0 < N.length := by omega
      obtain ⟨t0, et0⟩ : ∃ t0, N.length = t0 + 1 := ⟨N.length - 1, by omega⟩
      rw [et0]
      unfold wp_X6_grow_91 wp_X6_grow_126
      rw [G2.2.2.2.2.1.1, show (0 : Int32) = Int32.ofNat 0 from rfl, i_le (by omega) (by omega), G2.2.2.2.2.1.2.2, i_le (by omega) (by omega)]
      have nxt : ∀ x1 : Int32, x1 = Int32.ofNat sz + 1 → wp_X6_grow_3 ev Q (t + 1) g (Int32.ofNat bd) (if rt = true then 1 else 0) x1 h2 mc2 ms2 := by
        intro x1' e1'
        subst e1'
        rw [i_one]
        refine ih (sz + 1) (gSt A R n sg rt os bd sz (s, false, N, hc, nc)) ow2 h2 nr hr x2 md2 N mc2 ms2 (by omega) f2 (by rw [gst]; exact G2) (by rw [gst]; exact S2) (by rw [gst]; exact so2) (by rw [gst]; exact ⟨fun e he => (by cases he), List.Pairwise.nil⟩) eT ?_ ?_
        · rw [gst]; simp only [gC, List.length_nil]; show _ ≤ mc2 + (_ + nc / 224 + hc / 224); simp only [gC] at hmc2; exact hmc2
        · rw [gst]; simp only [gSl, List.length_nil]; show _ ≤ ms2 + (_ + 2 * nc + 2 * hc); simp only [gSl] at hms2; exact hms2
      refine ⟨G2.1.1, fun w => by omega, fun _ => ⟨G2.1.1, fun w => nxt, fun w => ⟨fun _ => nxt, fun w4 => ?_⟩⟩⟩
      rcases w3 with w3 | w3
      · rw [w3] at w; exact absurd w (by decide)
      · exact absurd w3 w4
    · rw [if_neg w3] at gst
      have lf : (gLk A R n sg rt (s, false) N).2 = false := by simpa using fun w => w3 (.inl w)
      rw [if_neg w3] at mT1 mT2
      rw [lf] at G2
      have ko := gKids_ok (A := A) (R := R) (sg := sg) (rt := rt) (os := os) (fs := (gLk A R n sg rt (s, false) N).1.1) n6 N hw
      refine sp_X6_grow_91 (ow := ow2) (h := h2) (c0 := hc) (TC := gC T) (TS := gSl T) (rt := rt) rfl lim.2.2.1 (xMo_E f2 hi M) hi hs S2 so2 (gOt_E f2 n63 O) hw (by omega) hb (by simp only [gC]; omega) (by simp only [gSl]; omega) (fun ow3 h3 nr3 x3 md3 mc3 ms3 f3 G3 S3 hmc3 hms3 => ?_) N.length 0 ow2 h2 hr x2 md2 mc2 ms2 (by omega) (hE_refl _ _ _) G2 S2 (by simp only [gC] at hmc2 ⊢; exact hmc2) (by simp only [gSl] at hms2 ⊢; exact hms2)
      refine ih (sz + 1) (gSt A R n sg rt os bd sz (s, false, N, hc, nc)) ow3 h3 nr nr3 x3 md3 N mc3 ms3 (by omega) (hE_trans f2 f3) (by rw [gst, lf]; exact G3) (by rw [gst]; exact S3) (by rw [gst]; exact so2) (by rw [gst]; exact ko.1) eT ?_ ?_
      · rw [gst]; simp only [gC] at hmc3 ⊢; exact hmc3
      · rw [gst]; simp only [gSl] at hms3 ⊢; exact hms3
