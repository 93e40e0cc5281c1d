/-! THE TWIN's lists: begin, next, solves -/
theorem sA_nat (σ : St) (k : Nat) {i : Nat} (h : i < 2147483648) (x : Int32) (j c : Nat) : (sA σ k (Int32.ofNat i) x).2.1 j c = if j = k ∧ c = i then x else σ.2.1 j c := by
  unfold sA
  rw [i_cl h]
  by_cases w : j = k
  · subst w
    show (if j = j then upd (σ.2.1 j) i x else σ.2.1 j) c = _
    rw [if_pos rfl]
    unfold upd
    by_cases y : c = i
    · rw [if_pos y, if_pos ⟨rfl, y⟩]
    · rw [if_neg y, if_neg (fun z => y z.2)]
  · show (if j = k then upd (σ.2.1 k) i x else σ.2.1 j) c = _
    rw [if_neg w, if_neg (fun z => w z.1)]
/-- only one int array has changed -/
def mF1 (a : Nat) (σ σ2 : St) : Prop := σ2.1 = σ.1 ∧ σ2.2.2 = σ.2.2 ∧ ∀ j, j ≠ a → σ2.2.1 j = σ.2.1 j
theorem mF1_refl (a : Nat) (σ : St) : mF1 a σ σ := ⟨rfl, rfl, fun _ _ => rfl⟩
theorem mF1_trans {a : Nat} {σ σ2 σ3 : St} (f : mF1 a σ σ2) (g : mF1 a σ2 σ3) : mF1 a σ σ3 := ⟨g.1.trans f.1, g.2.1.trans f.2.1, fun j hj => (g.2.2 j hj).trans (f.2.2 j hj)⟩
theorem mF1_sA (a : Nat) (σ : St) (i x : Int32) : mF1 a σ (sA σ a i x) := ⟨rfl, rfl, fun j hj => by show (if j = a then _ else _) = _; rw [if_neg hj]⟩
theorem gI_F1 {a : Nat} {σ σ2 : St} (f : mF1 a σ σ2) (k : Nat) : gI σ2 k = gI σ k := by unfold gI; rw [f.1]
theorem gA_F1 {a : Nat} {σ σ2 : St} (f : mF1 a σ σ2) {k : Nat} (hk : k ≠ a) (i : Int32) : gA σ2 k i = gA σ k i := by unfold gA; rw [f.2.2 k hk]
/-- an array of the twin holds a vector -/
def mV (a : Nat) (σ : St) (v : Vc) : Prop := ∀ c, c < 6 → σ.2.1 a c = Int32.ofInt (v c)
theorem mV_get {a : Nat} {σ : St} {v : Vc} (h : mV a σ v) {c : Nat} (hc : c < 6) : gA σ a (Int32.ofNat c) = Int32.ofInt (v c) := by rw [gA_nat σ a (by omega)]; exact h c hc
theorem mV_set {a : Nat} {σ : St} {v : Vc} (h : mV a σ v) {c : Nat} (hc : c < 6) (x : Int) : mV a (sA σ a (Int32.ofNat c) (Int32.ofInt x)) (fun i => if i = c then x else v i) := by
  intro i hi
  rw [sA_nat σ a (by omega)]
  show _ = Int32.ofInt (if i = c then x else v i)
  by_cases w : i = c
  · rw [if_pos ⟨rfl, w⟩, if_pos w]
  · rw [if_neg (fun z => w z.2), if_neg w]; exact h i hi
theorem mV_congr {a : Nat} {σ : St} {v u : Vc} (h : mV a σ v) (e : ∀ c, c < 6 → u c = v c) : mV a σ u := fun c hc => by rw [e c hc]; exact h c hc
theorem mV_any (a : Nat) (σ : St) : mV a σ (fun c => (σ.2.1 a c).toInt) := fun c _ => (i_ofI _).symm
def tB (n : Nat) (sd : Bool) (s : Nat) : Vc := fun c => if c < n then tG n sd 0 s c else 0
theorem tB_ok {n s : Nat} {sd : Bool} (hn : n ≤ 6) (h0 : n = 0 → s = 0) : tC n sd s (tB n sd s) ∧ ∀ w, tC n sd s w → w = tB n sd s ∨ vLx (tB n sd s) w := by
  by_cases z : n = 0
  · subst z
    have s0 := h0 rfl
    subst s0
    have e : tB 0 sd 0 = fun _ => 0 := funext fun c => if_neg (by omega)
    rw [e]
    refine ⟨⟨fun _ _ => rfl, fun _ _ _ => Int.le_refl _, by unfold vSize; exact qS_zero fun _ _ => rfl⟩, fun w hw => .inl (funext fun c => hw.1 c (Nat.zero_le _))⟩
  · have sf : vSf (tB n sd s) 0 = s := tG_sf (f := 0) hn (by omega) (by omega) fun c _ => rfl
    refine ⟨⟨fun c hc => if_neg (by omega), fun hsd c hc => ?_, by rw [← vSf_0]; exact sf⟩, fun w hw => ?_⟩
    · show 0 ≤ (if c < n then tG n sd 0 s c else 0)
      split
      · unfold tG; rw [if_neg (by rw [hsd]; simp)]; split <;> omega
      · omega
    · have sw : vSf w 0 = s := by rw [vSf_0]; exact hw.2.2
      rcases tG_min (f := 0) hn (by omega) hw.1 hw.2.1 sw with a | ⟨d, d1, d2, d3, d4⟩
      · left
        funext c
        show _ = if c < n then _ else _
        by_cases y : c < n
        · rw [if_pos y]; exact a c (Nat.zero_le _) y
        · rw [if_neg y]; exact hw.1 c (by omega)
      · right
        refine ⟨d, by omega, fun i hi => ?_, ?_⟩
        · show (if i < n then _ else _) = _
          rw [if_pos (by omega)]; exact (d3 i (Nat.zero_le _) hi).symm
        · show (if d < n then _ else _) < _
          rw [if_pos d2]; exact d4
theorem sp_begin {n s : Nat} {sd : Bool} {Q : St → Prop} {σ : St} (hn : n ≤ 6) (h17 : gI σ 17 = Int32.ofNat n) (h0 : n = 0 → s = 0) (q : ∀ σ2, mF1 35 σ σ2 → mV 35 σ2 (tB n sd s) → Q σ2) : wp_begin (Int32.ofNat s) (if sd = true then 1 else 0) σ Q := by
  have six : (6 : Int32) = Int32.ofNat 6 := rfl
  have go : ∀ (t c : Nat) (σ1 : St), c + t = 6 → mF1 35 σ σ1 → (∀ i, i < c → σ1.2.1 35 i = 0) → wp_begin_2 Q (t + 1) (Int32.ofNat s) (if sd = true then 1 else 0) (Int32.ofNat c) σ1 := by
    intro t
    induction t with
    | zero =>
      intro c σ1 hc f hz
      have : c = 6 := by omega
      subst this
      have V0 : mV 35 σ1 (fun _ => 0) := fun i hi => by rw [hz i hi]; rfl
      unfold wp_begin_2 wp_begin_55
      rw [six, i_le (by omega) (by omega), gI_F1 f, h17, show (Int32.ofNat n ≤ 0) = (Int32.ofNat n ≤ Int32.ofNat 0) from rfl, i_le (by omega) (by omega)]
      refine ⟨fun _ => ⟨fun w => ⟨fun w2 => ?_, fun w2 => ?_⟩, fun w => ⟨i_in (a := 0) (by omega) |>.mpr (by omega), fun σ2 e2 => ?_⟩⟩, fun w => by omega⟩
      · have n0 : n = 0 := by omega
        refine q σ1 f (mV_congr V0 fun c hc => ?_)
        show (if c < n then _ else _) = _; rw [if_neg (by omega)]
      · have hsd : sd = false := by cases sd with
          | true => exact absurd w (by decide)
          | false => rfl
        have one : (1 : Int32) = Int32.ofNat 1 := rfl
        rw [one, i_sub (by omega), i_in (by omega)]
        refine ⟨by omega, fun σ2 e2 => ?_⟩
        rw [i_ofN s] at e2
        subst e2
        refine q _ (mF1_trans f (mF1_sA 35 σ1 _ _)) (mV_congr (mV_set V0 (c := n - 1) (by omega) s) fun c hc => ?_)
        show (if c < n then tG n sd 0 s c else 0) = if c = n - 1 then (s : Int) else 0
        unfold tG
        rw [hsd, if_neg (show ¬ (false = true) by simp)]
        by_cases y : c = n - 1
        · rw [if_pos (by omega), if_pos (by omega), if_pos y]
        · rw [if_neg y]; split
          · rw [if_neg (by omega)]
          · rfl
      · have hsd : sd = true := by cases sd with
          | true => rfl
          | false => exact absurd rfl w
        rw [i_ofN s, i_negI, i_0] at e2
        subst e2
        refine q _ (mF1_trans f (mF1_sA 35 σ1 _ _)) (mV_congr (mV_set V0 (c := 0) (by omega) (-(s : Int))) fun c hc => ?_)
        show (if c < n then tG n sd 0 s c else 0) = if c = 0 then -(s : Int) else 0
        unfold tG
        rw [hsd, if_pos rfl]
        by_cases y : c = 0
        · rw [if_pos y]
          by_cases z : n = 0
          · rw [if_neg (by omega), h0 z]; rfl
          · rw [if_pos (by omega)]
        · rw [if_neg y]; split <;> rfl
    | succ t ih =>
      intro c σ1 hc f hz
      unfold wp_begin_2
      rw [six, i_le (by omega) (by omega)]
      refine ⟨fun w => by omega, fun _ => ⟨(i_in (by omega)).mpr (by omega), fun σ3 e3 x4 e4 => ?_⟩⟩
      subst e4
      rw [i_one]
      subst e3
      refine ih (c + 1) _ (by omega) (mF1_trans f (mF1_sA 35 σ1 _ _)) fun i hi => ?_
      rw [sA_nat σ1 35 (by omega)]
      by_cases w : i = c
      · rw [if_pos ⟨rfl, w⟩]
      · rw [if_neg (fun z => w z.2)]; exact hz i (by omega)
  exact ⟨7, go 6 0 σ rfl (mF1_refl 35 σ) fun i hi => by omega⟩
theorem sp_spread {n f r : Nat} {sd : Bool} {v : Vc} {Q : St → Prop} {σ : St} (hn : n ≤ 6) (hf : f < n) (h17 : gI σ 17 = Int32.ofNat n) (V : mV 35 σ v) (q : ∀ σ2, mF1 35 σ σ2 → mV 35 σ2 (fun i => if i < f then v i else if i < n then tG n sd f r i else v i) → Q σ2) : wp_spread (Int32.ofNat f) (Int32.ofNat r) (if sd = true then 1 else 0) σ Q := by
  have go : ∀ (t c : Nat) (σ1 : St), c + t = n → f ≤ c → mF1 35 σ σ1 → mV 35 σ1 (fun i => if f ≤ i ∧ i < c then 0 else v i) → wp_spread_3 Q (t + 1) (Int32.ofNat f) (Int32.ofNat r) (if sd = true then 1 else 0) (Int32.ofNat c) σ1 := by
    intro t
    induction t with
    | zero =>
      intro c σ1 hc fc fr V1
      have : c = n := by omega
      subst this
      unfold wp_spread_3 wp_spread_53
      have one : (1 : Int32) = Int32.ofNat 1 := rfl
      rw [gI_F1 fr, h17, i_le (by omega) (by omega)]
      refine ⟨fun _ => ⟨fun w => ?_, fun w => ?_⟩, fun w => by omega⟩
      · have hsd : sd = false := by cases sd with
          | true => exact absurd w (by decide)
          | false => rfl
        rw [show Int32.ofNat c - 1 = Int32.ofNat (c - 1) from i_sub (b := 1) (by omega), i_in (by omega)]
        refine ⟨by omega, fun σ2 e2 => ?_⟩
        rw [i_ofN r] at e2
        subst e2
        refine q _ (mF1_trans fr (mF1_sA 35 σ1 _ _)) (mV_congr (mV_set V1 (c := c - 1) (by omega) r) fun i hi => ?_)
        show (if i < f then v i else if i < c then tG c sd f r i else v i) = if i = c - 1 then (r : Int) else if f ≤ i ∧ i < c then 0 else v i
        unfold tG
        rw [hsd, if_neg (show ¬ (false = true) by simp)]
        by_cases a : i < f
        · rw [if_pos a, if_neg (by omega), if_neg (by omega)]
        · rw [if_neg a]
          by_cases b : i < c
          · rw [if_pos b]
            by_cases d : i = c - 1
            · rw [if_pos (by omega), if_pos d]
            · rw [if_neg (by omega), if_neg d, if_pos (by omega)]
          · rw [if_neg b, if_neg (by omega), if_neg (by omega)]
      · have hsd : sd = true := by cases sd with
          | true => rfl
          | false => exact absurd rfl w
        refine ⟨(i_in (by omega)).mpr (by omega), fun σ2 e2 => ?_⟩
        rw [i_ofN r, i_negI] at e2
        subst e2
        refine q _ (mF1_trans fr (mF1_sA 35 σ1 _ _)) (mV_congr (mV_set V1 (c := f) (by omega) (-(r : Int))) fun i hi => ?_)
        show (if i < f then v i else if i < c then tG c sd f r i else v i) = if i = f then -(r : Int) else if f ≤ i ∧ i < c then 0 else v i
        unfold tG
        rw [hsd, if_pos rfl]
        by_cases a : i < f
        · rw [if_pos a, if_neg (by omega), if_neg (by omega)]
        · rw [if_neg a]
          by_cases b : i < c
          · rw [if_pos b]
            by_cases d : i = f
            · rw [if_pos d, if_pos d]
            · rw [if_neg d, if_neg d, if_pos (by omega)]
          · rw [if_neg b, if_neg (by omega), if_neg (by omega)]
    | succ t ih =>
      intro c σ1 hc fc fr V1
      unfold wp_spread_3
      rw [gI_F1 fr, h17, i_le (by omega) (by omega)]
      refine ⟨fun w => by omega, fun _ => ⟨(i_in (by omega)).mpr (by omega), fun σ3 e3 x4 e4 => ?_⟩⟩
      subst e4
      rw [i_one]
      rw [i_0I] at e3
      subst e3
      refine ih (c + 1) _ (by omega) (by omega) (mF1_trans fr (mF1_sA 35 σ1 _ _)) (mV_congr (mV_set V1 (c := c) (by omega) 0) fun i hi => ?_)
      show (if f ≤ i ∧ i < c + 1 then 0 else v i) = if i = c then 0 else if f ≤ i ∧ i < c then 0 else v i
      by_cases a : i = c
      · rw [if_pos (by omega), if_pos a]
      · by_cases b : f ≤ i ∧ i < c
        · rw [if_pos (by omega), if_neg a, if_pos b]
        · rw [if_neg (by omega), if_neg a, if_neg b]
  exact ⟨n - f + 1, go (n - f) f σ (by omega) (Nat.le_refl _) (mF1_refl 35 σ) (mV_congr V fun i _ => if_neg (by omega))⟩
theorem sp_next {n s : Nat} {sd : Bool} {x : Vc} {Q : Int32 → St → Prop} {σ : St} (hn : n ≤ 6) (hs : s ≤ 16) (h17 : gI σ 17 = Int32.ofNat n) (V : mV 35 σ x) (hx : tC n sd s x) (q0 : ∀ σ2, mF1 35 σ σ2 → mV 35 σ2 x → (∀ w, tC n sd s w → ¬ vLx x w) → Q 0 σ2) (q1 : ∀ σ2 y, mF1 35 σ σ2 → mV 35 σ2 y → tC n sd s y → vLx x y → (∀ w, tC n sd s w → vLx x w → w = y ∨ vLx y w) → Q 1 σ2) : wp_next (if sd = true then 1 else 0) σ Q := by
  have xb : ∀ c, c < 6 → (x c).natAbs ≤ 16 := by
    intro c hc
    have := qS_term (f := fun i => qab (x i)) (n := 6) (fun j _ => by unfold qab; omega) hc
    have e : qS (fun i => qab (x i)) 6 = s := hx.2.2
    unfold qab at this e; omega
  have sb : ∀ c, c ≤ 6 → 0 ≤ vSf x c ∧ vSf x c ≤ 16 := by
    intro c hc
    refine ⟨vSf_nn x hc, ?_⟩
    have := qS_nonneg (f := fun i => qab (x i)) (n := c) fun j _ => by unfold qab; omega
    have e : qS (fun i => qab (x i)) 6 = s := hx.2.2
    unfold vSf; omega
  have m1 : (-1 : Int32) = Int32.ofInt (-1) := rfl
  have idx : ∀ c : Nat, Int32.ofInt ((c + 1 : Nat) - 1 : Int) = Int32.ofNat c := fun c => by rw [i_ofN]; congr 1; omega
  have go : ∀ (k : Nat), k ≤ n → (∀ d, k ≤ d → d < n → ∀ w, tC n sd s w → (∀ i, i < d → w i = x i) → ¬ x d < w d) → wp_next_9 Q (k + 1) (if sd = true then 1 else 0) (Int32.ofInt (vSf x k)) (Int32.ofInt ((k : Int) - 1)) σ := by
    intro k
    induction k with
    | zero =>
      intro _ no
      unfold wp_next_9
      refine ⟨fun _ => ⟨isB_0, q0 σ (mF1_refl 35 σ) V fun w hw ⟨d, d1, d2, d3⟩ => ?_⟩, fun w => absurd (by rw [i_0I, i_ltI (by decide) (by decide)]; decide) w⟩
      have dn : d < n := Classical.byContradiction fun z => by rw [hx.1 d (by omega), hw.1 d (by omega)] at d3; omega
      exact no d (Nat.zero_le _) dn w hw (fun i hi => (d2 i hi).symm) d3
    | succ c ih =>
      intro hc no
      have xc := xb c (by omega)
      have sc := sb c (by omega)
      have sc1 := sb (c + 1) (by omega)
      have ss := vSf_s x c
      have b1 : (if sd = true then (1 : Int32) else 0) = 0 ↔ sd = false := fu_0 sd
      -- when it goes on to the left
      have back : (∀ w, tC n sd s w → (∀ i, i < c → w i = x i) → ¬ x c < w c) → wp_next_136 Q (wp_next_9 Q (c + 1)) (if sd = true then 1 else 0) (Int32.ofNat c) (Int32.ofInt (vSf x c)) σ := by
        intro hno
        unfold wp_next_136
        intro x1 e1
        rw [i_ofN c, m1, i_addI] at e1
        subst e1
        refine ih (by omega) fun d d1 d2 w hw hi => ?_
        by_cases y : d = c
        · rw [y]; exact hno w hw (by rw [← y]; exact hi)
        · exact no d (by omega) d2 w hw hi
      have at57 : wp_next_57 Q (wp_next_9 Q (c + 1)) (if sd = true then 1 else 0) (Int32.ofNat c) (Int32.ofInt (x c)) (Int32.ofInt (vSf x c)) (Int32.ofInt (x c + 1)) (Int32.ofInt (qab (x c + 1))) σ := by
        unfold wp_next_57
        rw [h17, show Int32.ofNat n - 1 = Int32.ofNat (n - 1) from i_sub (b := 1) (by omega), i_eq (by omega) (by omega)]
        refine ⟨fun nl => ?_, fun l => ?_⟩
        · -- not the last column
          unfold wp_next_74
          refine ⟨fun _ => ?_, fun w => absurd rfl w⟩
          unfold wp_next_101
          refine ⟨fun w => absurd rfl w, fun _ => ?_⟩
          rw [i_ltI (by omega) (by unfold qab; omega)]
          refine ⟨fun hlt => back (tX_no hn (by omega) hx (fun e => by omega) fun _ => by omega), fun hge => ⟨(i_in (by omega)).mpr (by omega), fun σ1 e1 => ?_⟩⟩
          obtain ⟨r, hr⟩ : ∃ r : Nat, (r : Int) = vSf x c - qab (x c + 1) := ⟨(vSf x c - qab (x c + 1)).toNat, by omega⟩
          rw [i_one, i_subI, ← hr, ← i_ofN r]
          have V1 := mV_set V (c := c) (by omega) (x c + 1)
          have f1 := mF1_sA 35 σ (Int32.ofNat c) (Int32.ofInt (x c + 1))
          rw [← e1] at V1 f1
          refine sp_spread hn (by omega) (by rw [gI_F1 f1]; exact h17) V1 fun σ2 f2 V2 => ⟨isB_1, ?_⟩
          obtain ⟨t1, t2, t3⟩ := tN_ok hn (show c + 1 < n by omega) hx (by omega) fun d d1 d2 => no d (by omega) d2
          refine q1 σ2 _ (mF1_trans f1 f2) (mV_congr V2 fun i hi => ?_) t1 t2 t3
          show (if i < c then x i else if i = c then x c + 1 else if i < n then tG n sd (c + 1) (vSf x c - qab (x c + 1)) i else 0) = if i < c + 1 then (if i = c then x c + 1 else x i) else if i < n then tG n sd (c + 1) r i else (if i = c then x c + 1 else x i)
          rw [hr]
          by_cases a : i < c
          · rw [if_pos a, if_pos (by omega), if_neg (by omega)]
          · rw [if_neg a]
            by_cases b : i = c
            · rw [if_pos b, if_pos (by omega), if_pos b]
            · rw [if_neg b]
              by_cases d : i < n
              · rw [if_pos d, if_neg (show ¬ i < c + 1 by omega), if_pos d]
              · rw [if_neg d, if_neg (show ¬ i < c + 1 by omega), if_neg d, if_neg b, hx.1 i (by omega)]
        · -- the last column
          unfold wp_next_74
          have to101 : (¬ (sd = true ∧ x c < 0)) → wp_next_101 Q (wp_next_9 Q (c + 1)) (if sd = true then 1 else 0) (Int32.ofNat c) (Int32.ofInt (vSf x c)) (Int32.ofInt (x c + 1)) (Int32.ofInt (qab (x c + 1))) 1 σ := by
            intro hno
            unfold wp_next_101
            exact ⟨fun _ => back (tX_no hn (by omega) hx (fun _ => hno) fun e => by omega), fun w => absurd w (by decide)⟩
          refine ⟨fun w => absurd w (by decide), fun _ => ⟨fun w => to101 fun z => by rw [b1] at w; rw [w] at z; exact absurd z.1 (by simp), fun w => ⟨fun w2 => to101 fun z => ?_, fun w2 => ⟨(i_in (by omega)).mpr (by omega), fun σ1 e1 => ⟨isB_1, ?_⟩⟩⟩⟩⟩
          · rw [i_0I, i_leI (by decide) (by omega)] at w2; omega
          · have hsd : sd = true := by
              cases sd with
              | true => rfl
              | false => exact absurd rfl w
            rw [i_0I, i_leI (by decide) (by omega)] at w2
            rw [i_negI] at e1
            have V1 := mV_set V (c := c) (by omega) (-x c)
            have f1 := mF1_sA 35 σ (Int32.ofNat c) (Int32.ofInt (-x c))
            rw [← e1] at V1 f1
            subst hsd
            obtain ⟨t1, t2, t3⟩ := tL_ok hn (show c + 1 = n by omega) hx (by omega)
            exact q1 σ1 _ f1 V1 t1 t2 t3
      have at35 : ∀ u1 : Int32, u1 = Int32.ofInt (qab (x c)) → wp_next_35 Q (wp_next_9 Q (c + 1)) (if sd = true then 1 else 0) (Int32.ofNat c) (Int32.ofInt (x c)) (Int32.ofInt (vSf x (c + 1))) u1 σ := by
        intro u1 hu
        unfold wp_next_35
        intro x1 e1 x2 e2
        rw [hu, i_addI, show vSf x (c + 1) + qab (x c) = vSf x c by omega] at e1
        rw [show Int32.ofInt (x c) + 1 = Int32.ofInt (x c) + Int32.ofInt 1 from rfl, i_addI] at e2
        subst e1
        subst e2
        rw [i_negI, i_0I, i_leI (by decide) (by omega)]
        refine ⟨fun w => ?_, fun w => ?_⟩
        · have : qab (x c + 1) = x c + 1 := by unfold qab; omega
          rw [this] at at57; exact at57
        · have : qab (x c + 1) = -(x c + 1) := by unfold qab; omega
          rw [this] at at57; exact at57
      unfold wp_next_9
      rw [idx c]
      refine ⟨fun w => absurd w (i_nneg (by omega)), fun _ => ⟨(i_in (by omega)).mpr (by omega), fun x1 e1 => ?_⟩⟩
      rw [mV_get V (by omega)] at e1
      subst e1
      rw [i_negI, i_0I, i_leI (by decide) (by omega)]
      refine ⟨fun w => at35 _ ?_, fun w => at35 _ ?_⟩
      · congr 1; unfold qab; omega
      · congr 1; unfold qab; omega
  unfold wp_next
  intro x1 e1
  refine ⟨n + 1, ?_⟩
  have z : vSf x n = 0 := vSf_n hn hx.1 n (Nat.le_refl _) hn
  have := go n (Nat.le_refl _) fun d d1 d2 => by omega
  rw [z] at this
  have e2 : x1 = Int32.ofInt ((n : Int) - 1) := by rw [e1, h17, i_ofN n, show (1 : Int32) = Int32.ofInt 1 from rfl, i_subI]
  rw [e2]
  exact this
