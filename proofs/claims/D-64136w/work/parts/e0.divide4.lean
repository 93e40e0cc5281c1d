/-! DIVIDING: the desk, whole -/
def bdI : Option Nat → Int32
  | some b => Int32.ofNat b
  | none => -1
theorem h_and5 (A : Nat → Nat → Int) (R n : Nat) (x : Vc) : (hVal A R n x &&& 5) = 5 ↔ (allB (hS A n true x) R = true ∧ hPl x = true) := by
  unfold hVal
  cases allB (hS A n true x) R <;> cases allB (hS A n false x) R <;> cases hPl x <;> simp <;> decide
theorem sp_X9_isThere {ev ow : Nat → Nat} {h : Hp} {a0 w : Nat} {rf fd sh : Nat → Nat} {b : Option Nat} {Q : Int32 → Hp → Prop} (D : xDk ow h a0 rf fd sh) (hw : w < 3) (e : hI h (fd w) 1 = bdI b) (hb : ∀ x, b = some x → x ≤ 16) (q : Q (bI b.isSome) h) : wp_X9_isThere ev h (fd w) Q := by
  unfold wp_X9_isThere wp_X9_isThere_12
  refine ⟨(D.2.2.2.2.1 w hw).2.1, ?_⟩
  rw [e]
  cases b with
  | none => exact ⟨fun _ => ⟨isB_0, q⟩, fun z => absurd (by decide) z⟩
  | some x =>
    have := hb x rfl
    exact ⟨fun z => absurd z (i_nneg (by omega)), fun _ => ⟨isB_1, q⟩⟩
def I13 : Nat → Prop := fun i => i = 16 ∨ i = 11 ∨ i = 1
theorem sp_X1_split {ev ow : Nat → Nat} {i j : Nat} {h : Hp} {a0 R n vr MC MS : Nat} {rf fd sh : Nat → Nat} {tv : Vc} {A : Nat → Nat → Int} {Lt : Nat → Int32} {kn : Bool} {bo : Nat → Option Nat} {s0 s1 : Sh} {Q : Int32 → Hp → Prop} {Xr : String → Hp → Prop} (D : xDk ow h a0 rf fd sh) (M : xMo ow i h (rf 2) R n vr A Lt) (T : xA6o ow j h (rf 10) tv) (tb : ∀ c, c < 6 → (tv c).natAbs ≤ 99) (t0 : ∀ c, n ≤ c → tv c = 0) (hj : j ≠ 16) (k8 : hI h a0 8 = bI kn) (S0 : xShS ev ow 60 h (sh 0) s0) (o0 : shOk s0) (S1 : xShS ev ow 61 h (sh 1) s1) (o1 : shOk s1) (Tm : xTm ow h (rf 11))
    (hb0 : hI h (fd 0) 1 = bdI (bo 0)) (hb1 : hI h (fd 1) 1 = bdI (bo 1)) (l0 : ∀ b, bo 0 = some b → b ≤ 16 ∧ tLst 0 A R n b s0.1) (l1 : ∀ b, bo 1 = some b → b ≤ 16 ∧ tLst 1 A R n b s1.1) (mc : 1 ≤ MC) (ms : 6 ≤ MS)
    (no : ¬ dOk A R n kn tv bo → Q (-1) h)
    (yes : dOk A R n kn tv bo → ∀ (ow2 : Nat → Nat) (h2 : Hp) (k : Nat) (v : Vc), s1.1[k]? = some v → vBe v tv → (∀ j, j < k → ∀ u, s1.1[j]? = some u → ¬ vBe u tv) → hE I13 ow h ow2 h2 → xDk ow2 h2 a0 rf fd sh → (∀ i m, (dCs s0.1 (vSub tv v))[i]? = some m → hA h2 (rf 11) (Int32.ofNat i) = Int32.ofNat m) → (∀ k, hI h2 a0 k = if k = 12 then 1 else hI h a0 k) → Q (Int32.ofNat k) h2) : wp_X1_split ev h a0 MC MS Q Xr := by
  have hn : n ≤ 6 := M.1.2.2.2.2.1
  have r7 := D.2.2.1 7 (by omega) (by omega) (by omega) (by omega) (by omega)
  have r10 := D.2.2.1 10 (by omega) (by omega) (by omega) (by omega) (by omega)
  have n7 := D.2.2.2.1
  have f0 := D.2.2.2.2.1 0 (by omega)
  have f1 := D.2.2.2.2.1 1 (by omega)
  have v0 : vp_in 0 (hN h (rf 7)) := by rw [n7.2.2]; exact vp_03
  have v1 : vp_in 1 (hN h (rf 7)) := by rw [n7.2.2]; exact vp_13
  have O0 : hO h (rf 7) 0 = some (fd 0) := f0.1
  have O1 : hO h (rf 7) 1 = some (fd 1) := f1.1
  obtain ⟨g1, g2, g3, g4⟩ := T
  have sumb : ∀ c, c ≤ 6 → (qS tv c).natAbs ≤ 99 * c := by
    intro c
    induction c with
    | zero => intro _; exact Nat.zero_le _
    | succ c ih =>
      intro h'
      have := ih (by omega)
      have := tb c (by omega)
      show (qS tv c + tv c).natAbs ≤ _
      omega
  -- the dividing itself
  have work : dOk A R n kn tv bo → ∀ q16, q16 ∉ h.1 → ∀ h17, h17 = nA h q16 20 6 → ∀ h20, h20 = uAf h17 q16 (va_cpy (h17.2.2.2.2.2.1 (rf 10)) (h17.2.2.2.2.2.1 q16) (0 : Int32).toNatClampNeg (0 : Int32).toNatClampNeg (6 : Int32).toNatClampNeg) → (hok h20 a0 0 ∧ ∃ b25 : Nat, hR h20 a0 7 = some b25 ∧ hok h20 b25 27 ∧ vp_in 1 (hN h20 b25) ∧ ∃ b28 : Nat, hO h20 b25 1 = some b28 ∧ hok h20 b28 8 ∧ ∃ b30 : Nat, hR h20 b28 0 = some b30 ∧ ∃ n137, wp_X1_split_137 ev Q Xr n137 a0 q16 b30 0 h20 (MC - 1) (MS - 6)) := by
    intro ok q16 hq h17 e17 h20 e20
    have yes := yes ok
    obtain ⟨_, pl, so, b0, b1, e0, e1', z0, z1⟩ := ok
    have nn : ∀ c, c < 6 → 0 ≤ tv c := fun c hc => of_decide_eq_true ((allB_iff _ 6).mp pl c hc)
    obtain ⟨k, v, hk, hb, hmin⟩ := dOk_ex (kn := kn) (bo := bo) hn t0 pl so z1 (l1 b1 e1').2
    have fv0 := tLst_fv (by omega) (l0 b0 e0).1 (l0 b0 e0).2
    have fv1 := tLst_fv (by omega) (l1 b1 e1').1 (l1 b1 e1').2
    have b16 := (l1 b1 e1').1
    have vv := fv1 v (List.mem_of_getElem? hk)
    have frt : dFr n tv := ⟨nn, t0, by omega⟩
    have rb := dFr_b frt
    have sb := dFr_sub frt vv.1 vv.2.1 hb
    have kl := (List.getElem?_eq_some_iff.mp hk).1
    have o1l := o1.1
    have ow16 : owS ow q16 16 q16 = 16 := owS_q ow q16 16
    have f17 : hE (· = 16) ow h (owS ow q16 16) h17 := by rw [e17]; exact hE_nA 16 hq
    have f20' : hE (· = 16) (owS ow q16 16) h17 (owS ow q16 16) h20 := by rw [e20]; exact hE_uAf h17 ow16 _
    have F : hE (· = 16) ow h (owS ow q16 16) h20 := hE_trans f17 f20'
    have k17 : hok h17 q16 20 := by rw [e17]; exact hok_nA
    have ne : rf 10 ≠ q16 := fun e => hq (by rw [← e]; exact g1.1)
    have X : xA6o (owS ow q16 16) 16 h20 q16 tv := by
      refine ⟨by rw [e20]; exact k17, ow16, ?_, fun c hc => ?_⟩
      · rw [e20, hN_uAf, e17, hN_nA, if_pos rfl]
      · rw [e20, hA_uAf, if_pos rfl, i_cl (by omega)]
        unfold va_cpy
        have zz : (0 : Int32).toNatClampNeg = 0 := rfl
        have z6 : (6 : Int32).toNatClampNeg = 6 := rfl
        rw [zz, z6, if_pos ⟨Nat.zero_le _, by omega⟩, Nat.zero_add, Nat.sub_zero]
        have : h17.2.2.2.2.2.1 (rf 10) c = hA h17 (rf 10) (Int32.ofNat c) := by unfold hA; rw [i_cl (by omega)]
        rw [this, e17, hA_nA, if_neg ne]; exact g4 c hc
    have D2 := xDk_E F (by omega) (by omega) D
    have S02 := xSh_E F (by omega) S0
    have S12 := xSh_E F (by omega) S1
    have Tm2 := xTm_E F Tm
    have w0 := D2.2.2.2.2.1 0 (by omega)
    have w1 := D2.2.2.2.2.1 1 (by omega)
    have n72 := D2.2.2.2.1
    refine ⟨D2.1, rf 7, D2.2.2.1 7 (by omega) (by omega) (by omega) (by omega) (by omega), n72.1, by rw [n72.2.2]; exact vp_13, fd 1, w1.1, w1.2.1, sh 1, w1.2.2.2, k + 1, ?_⟩
    have go : ∀ (t m : Nat), m + t = k → wp_X1_split_137 ev Q Xr (t + 1) a0 q16 (sh 1) (Int32.ofNat m) h20 (MC - 1) (MS - 6) := by
      intro t
      induction t with
      | zero =>
        intro m hm
        have : m = k := by omega
        subst this
        unfold wp_X1_split_137
        refine ⟨xSh_len S12, sp_X7_get S12 kl fun a u eu V => ⟨fun b hb => by rw [← Option.some.inj hb]; exact V.1, a, rfl, V.1, ?_⟩⟩
        have euv : u = v := by rw [hk] at eu; exact (Option.some.inj eu).symm
        subst euv
        refine sp_X11_isIn V (xA6o_6 X rb) (fun nb => absurd hb nb) fun _ => ⟨fun _ => ⟨xSh_len S12, sp_X7_get S12 kl fun a2 u2 eu2 V2 => ⟨fun b hb => by rw [← Option.some.inj hb]; exact V2.1, a2, rfl, ?_⟩⟩, fun z => absurd z (by decide)⟩
        have euv : u2 = u := by rw [hk] at eu2; exact (Option.some.inj eu2).symm
        subst euv
        refine sp_X1_take V2 X (by omega) fun h3 f3 X3 => ?_
        have D3 := xDk_E f3 (by omega) (by omega) D2
        have S03 := xSh_E f3 (by omega) S02
        have Tm3 := xTm_E f3 Tm2
        have y0 := D3.2.2.2.2.1 0 (by omega)
        have n73 := D3.2.2.2.1
        refine ⟨D3.1, rf 7, D3.2.2.1 7 (by omega) (by omega) (by omega) (by omega) (by omega), n73.1, by rw [n73.2.2]; exact vp_03, fd 0, y0.1, y0.2.1, sh 0, y0.2.2.2, s0.1.length + 1, ?_⟩
        refine sp_X1_split_186 (ow := owS ow q16 16) D3 S03 o0 Tm3 (fun u hu => ⟨(fv0 u hu).1, (fv0 u hu).2.1, (fv0 u hu).2.2.2 rfl, (fv0 u hu).2.2.1⟩) sb.1 (fun h4 f4 D4 t4 => ?_) _ 0 h3 (by omega) (hE_refl _ _ _) X3 fun i m hi => by omega
        have f5 : hE (· = 1) (owS ow q16 16) h4 (owS ow q16 16) (uI h4 a0 12 1) := hE_uI h4 D4.2.1 12 1
        have FF : hE I12 ow h (owS ow q16 16) h4 := hE_trans (hE_mono (hE_trans F f3) fun _ w => .inl w) f4
        refine yes _ _ m u2 hk hb hmin (hE_trans (hE_mono FF fun _ w => by rcases w with w | w; exact .inl w; exact .inr (.inl w)) (hE_mono f5 fun _ w => .inr (.inr w))) (xDk_uI D4) t4 fun l => ?_
        rw [hI_uI]
        by_cases z : l = 12
        · rw [if_pos ⟨rfl, z⟩, if_pos z]
        · rw [if_neg (fun w => z w.2), if_neg z]; exact hI_E FF D.1 (by rw [D.2.1]; unfold I12; omega) l
      | succ t ih =>
        intro m hm
        obtain ⟨u, eu⟩ : ∃ u, s1.1[m]? = some u := ⟨_, List.getElem?_eq_getElem (by omega)⟩
        unfold wp_X1_split_137
        refine ⟨xSh_len S12, sp_X7_get S12 (by omega) fun a u' eu' V => ⟨fun b hb => by rw [← Option.some.inj hb]; exact V.1, a, rfl, V.1, ?_⟩⟩
        have nb : ¬ vBe u' tv := hmin m (by omega) u' eu'
        refine sp_X11_isIn V (xA6o_6 X rb) (fun _ => ⟨fun z => absurd rfl z, fun _ x26 e26 => ?_⟩) fun y => absurd y nb
        rw [e26, i_one]; exact ih (m + 1) (by omega)
    exact go k 0 (by omega)
  have a56 : ∀ (t c : Nat), c + t = 6 → (kn = true ∧ hPl tv = true ∧ allB (hS A n true tv) R = true ∧ (bo 0).isSome = true ∧ (bo 1).isSome = true) → wp_X1_split_56 ev Q Xr (t + 1) a0 (Int32.ofInt (qS tv c)) (rf 10) 6 (Int32.ofNat c) h MC MS := by
    intro t
    induction t with
    | zero =>
      intro c hc ok
      have : c = 6 := by omega
      subst this
      have sb := sumb 6 (by omega)
      obtain ⟨y1, y2, y3, y4, y5⟩ := ok
      obtain ⟨b0, e0⟩ := Option.isSome_iff_exists.mp y4
      obtain ⟨b1, e1⟩ := Option.isSome_iff_exists.mp y5
      have c0 := (l0 b0 e0).1
      have c1 := (l1 b1 e1).1
      have un : ∀ b0' b1' : Nat, bo 0 = some b0' → bo 1 = some b1' → b0' = b0 ∧ b1' = b1 := fun b0' b1' p q => ⟨by rw [e0] at p; exact (Option.some.inj p).symm, by rw [e1] at q; exact (Option.some.inj q).symm⟩
      unfold wp_X1_split_56 wp_X1_split_105
      refine ⟨fun _ => ⟨D.1, rf 7, r7, n7.1, v0, fd 0, O0, f0.2.1, ?_⟩, fun w => absurd (by decide) w⟩
      have eb : ∀ b : Nat, bdI (some b) = Int32.ofInt (b : Int) := fun b => i_ofN b
      rw [hb0, e0, eb, i_ltI (by omega) (by omega)]
      refine ⟨fun l => no fun ok => ?_, fun l => ⟨D.1, rf 7, r7, n7.1, v1, fd 1, O1, f1.2.1, ?_⟩⟩
      · obtain ⟨_, _, _, b0', b1', p, q, z0, z1⟩ := ok
        have := un b0' b1' p q; omega
      rw [hb1, e1, eb, i_leI (by omega) (by omega)]
      refine ⟨fun l2 => ⟨MC - 1, MS - 6, by omega, by omega, fun q16 hq h17 e17 => ?_⟩, fun l2 => no fun ok => ?_⟩
      · have w := work ⟨y1, y2, y3, b0, b1, e0, e1, by omega, l2⟩ q16 hq h17 e17
        have f17 : hE (· = 16) ow h (owS ow q16 16) h17 := by rw [e17]; exact hE_nA 16 hq
        have D17 := xDk_E f17 (by omega) (by omega) D
        refine ⟨D17.1, rf 10, D17.2.2.1 10 (by omega) (by omega) (by omega) (by omega) (by omega), (hok_E f17 g1).1, by rw [e17]; exact hok_nA, ⟨by decide, by decide, by decide, ?_, ?_⟩, fun h20 e20 => w h20 e20⟩
        · rw [(hok_E f17 g1).2.2, g3]; decide
        · rw [e17, hN_nA, if_pos rfl]; decide
      · obtain ⟨_, _, _, b0', b1', p, q, z0, z1⟩ := ok
        have := un b0' b1' p q; omega
    | succ t ih =>
      intro c hc ok
      unfold wp_X1_split_56
      rw [show (6 : Int32) = Int32.ofNat 6 from rfl, i_le (by omega) (by omega)]
      refine ⟨fun w => by omega, fun _ => ⟨g1, (i_in (by omega)).mpr (by omega), fun x33 e33 x34 e34 x35 e35 => ?_⟩⟩
      rw [e34, e33, g4 c (by omega), e35, i_one, i_addI]
      exact ih (c + 1) (by omega) ok
  unfold wp_X1_split wp_X1_split_41
  rw [k8, bI_0]
  refine ⟨D.1, fun y => no fun ok => (by rw [ok.1] at y; cases y), fun y => ⟨D.1, rf 7, r7, n7.1, v0, fd 0, O0, f0.2.1, ?_⟩⟩
  refine sp_X9_isThere D (by omega) hb0 (fun b e => (l0 b e).1) ?_
  rw [bI_0]
  refine ⟨fun u => no fun ok => ?_, fun u => ⟨D.1, rf 7, r7, n7.1, v1, fd 1, O1, f1.2.1, ?_⟩⟩
  · obtain ⟨_, _, _, b0, b1, e0, _⟩ := ok
    rw [e0] at u; cases u
  refine sp_X9_isThere D (by omega) hb1 (fun b e => (l1 b e).1) ?_
  rw [bI_0]
  refine ⟨fun w => no fun ok => ?_, fun w => ⟨0, 0, MC, MS, by omega, by omega, D.1, ?_⟩⟩
  · obtain ⟨_, _, _, b0, b1, _, e1, _⟩ := ok
    rw [e1] at w; cases w
  refine sp_X1_holds D M ⟨g1, g2, g3, g4⟩ (fun c hc => by have := tb c hc; omega) (fun z => ?_) fun _ => ?_
  · rw [k8, bI_0] at z; exact absurd z y
  rw [h_and5]
  refine ⟨fun p => ⟨D.1, rf 10, r10, g1, fun x31 e31 => ⟨7, ?_⟩⟩, fun p => no fun ok => p ⟨ok.2.2.1, ok.2.1⟩⟩
  rw [g3] at e31
  rw [e31]
  exact a56 6 0 rfl ⟨b_t y, p.2, p.1, b_t u, b_t w⟩
