/-! THE TWIN's lists: put, work -/
/-- what work at list wh may change in its loops -/
def mFz (wh : Nat) (σ σ2 : St) : Prop := σ2.1 = σ.1 ∧ σ2.2.2 = σ.2.2 ∧ (∀ j, j ≠ 22 → j ≠ 23 → j ≠ 35 → σ2.2.1 j = σ.2.1 j) ∧ (∀ c, c ≠ wh → σ2.2.1 22 c = σ.2.1 22 c) ∧ ∀ c, (c < 12000 * wh ∨ 12000 * wh + 12000 ≤ c) → σ2.2.1 23 c = σ.2.1 23 c
theorem mFz_refl (wh : Nat) (σ : St) : mFz wh σ σ := ⟨rfl, rfl, fun _ _ _ _ => rfl, fun _ _ => rfl, fun _ _ => rfl⟩
theorem mFz_trans {wh : Nat} {σ σ2 σ3 : St} (f : mFz wh σ σ2) (g : mFz wh σ2 σ3) : mFz wh σ σ3 :=
  ⟨g.1.trans f.1, g.2.1.trans f.2.1, fun j a b c => (g.2.2.1 j a b c).trans (f.2.2.1 j a b c), fun c hc => (g.2.2.2.1 c hc).trans (f.2.2.2.1 c hc), fun c hc => (g.2.2.2.2 c hc).trans (f.2.2.2.2 c hc)⟩
theorem mFz_35 {wh : Nat} {σ σ2 : St} (f : mF1 35 σ σ2) : mFz wh σ σ2 :=
  ⟨f.1, f.2.1, fun j _ _ c => f.2.2 j c, fun c _ => by rw [f.2.2 22 (by decide)], fun c _ => by rw [f.2.2 23 (by decide)]⟩
theorem gI_Fz {wh : Nat} {σ σ2 : St} (f : mFz wh σ σ2) (k : Nat) : gI σ2 k = gI σ k := by unfold gI; rw [f.1]
theorem mSys_Fz {wh : Nat} {σ σ2 : St} {n R : Nat} {A : Nat → Nat → Int} (f : mFz wh σ σ2) (S : mSys σ n R A) : mSys σ2 n R A := by
  obtain ⟨s1, s2, s3, s4, s5, s6, s7⟩ := S
  refine ⟨by rw [gI_Fz f]; exact s1, by rw [gI_Fz f]; exact s2, s3, s4, fun r hr c hc => ?_, s6, s7⟩
  rw [s5 r hr c hc]
  unfold mRf mA
  rw [f.2.2.1 19 (by decide) (by decide) (by decide)]
theorem mLs_35 {σ σ2 : St} {n wh : Nat} {L : List Vc} (f : mF1 35 σ σ2) (M : mLs σ n wh L) : mLs σ2 n wh L := by
  obtain ⟨m1, m2⟩ := M
  exact ⟨by rw [f.2.2 22 (by decide)]; exact m1, fun k v hk c hc => by rw [f.2.2 23 (by decide)]; exact m2 k v hk c hc⟩
theorem sp_put {n wh : Nat} {x : Vc} {L : List Vc} {Q : St → Prop} {σ : St} (hn : n ≤ 6) (hw : wh ≤ 2) (h17 : gI σ 17 = Int32.ofNat n) (V : mV 35 σ x) (M : mLs σ n wh L) (hL : L.length < 2000) (hx : ∀ c, c < 6 → (x c).natAbs ≤ 100) (q : ∀ σ2, mFz wh σ σ2 → mV 35 σ2 x → mLs σ2 n wh (L ++ [x]) → Q σ2) : wp_put (Int32.ofNat wh) σ Q := by
  have in3 : vp_in (Int32.ofNat wh) 3 := (i_in (by omega)).mpr (by omega)
  have go : ∀ (t c : Nat) (σ1 : St), c + t = n → mFz wh σ σ1 → mV 35 σ1 x → σ1.2.1 22 wh = Int32.ofNat L.length → (∀ (k : Nat) (v : Vc), L[k]? = some v → ∀ c, c < n → σ1.2.1 23 (12000 * wh + 6 * k + c) = Int32.ofInt (v c)) → (∀ j, j < c → σ1.2.1 23 (12000 * wh + 6 * L.length + j) = Int32.ofInt (x j)) → wp_put_2 Q (t + 1) (Int32.ofNat wh) (Int32.ofNat c) σ1 := by
    intro t
    induction t with
    | zero =>
      intro c σ1 hc f V1 h22 h23 hh
      have : c = n := by omega
      subst this
      unfold wp_put_2
      have g22 : gA σ1 22 (Int32.ofNat wh) = Int32.ofNat L.length := by rw [gA_nat σ1 22 (by omega)]; exact h22
      rw [gI_Fz f, h17, i_le (by omega) (by omega), g22]
      refine ⟨fun _ => ⟨in3, in3, fun σ2 e2 => ?_⟩, fun w => by omega⟩
      rw [i_one] at e2
      have a2 : ∀ j d, σ2.2.1 j d = if j = 22 ∧ d = wh then Int32.ofNat (L.length + 1) else σ1.2.1 j d := fun j d => by rw [e2]; exact sA_nat σ1 22 (by omega) _ j d
      have fx : mFz wh σ1 σ2 := by
        rw [e2]
        refine ⟨rfl, rfl, fun j h1 _ _ => funext fun d => ?_, fun d hd => ?_, fun d _ => ?_⟩
        · rw [sA_nat σ1 22 (by omega), if_neg (fun w => h1 w.1)]
        · rw [sA_nat σ1 22 (by omega), if_neg (fun w => hd w.2)]
        · rw [sA_nat σ1 22 (by omega), if_neg (fun w => absurd w.1 (by decide))]
      refine q σ2 (mFz_trans f fx) (fun d hd => by rw [a2, if_neg (fun w => absurd w.1 (by decide))]; exact V1 d hd) ⟨by rw [a2, if_pos ⟨rfl, rfl⟩, List.length_append]; rfl, fun k v hk d hd => ?_⟩
      rw [a2, if_neg (fun w => absurd w.1 (by decide))]
      by_cases w : k < L.length
      · rw [List.getElem?_append_left w] at hk; exact h23 k v hk d hd
      · have kl : k = L.length := by
          have := (List.getElem?_eq_some_iff.mp hk).1
          rw [List.length_append] at this
          have : k < L.length + 1 := this
          omega
        subst kl
        rw [List.getElem?_append_right (Nat.le_refl _), Nat.sub_self] at hk
        rw [← Option.some.inj hk]; exact hh d hd
    | succ t ih =>
      intro c σ1 hc f V1 h22 h23 hh
      unfold wp_put_2
      have g22 : gA σ1 22 (Int32.ofNat wh) = Int32.ofNat L.length := by rw [gA_nat σ1 22 (by omega)]; exact h22
      rw [gI_Fz f, h17, i_le (by omega) (by omega), g22, i_tw, mV_get V1 (by omega), i_byte (hx c (by omega))]
      refine ⟨fun w => by omega, fun _ => ⟨in3, (i_in (by omega)).mpr (by omega), (i_in (by omega)).mpr (by omega), fun σ2 e2 x3 e3 => ?_⟩⟩
      subst e3
      rw [i_one]
      have a2 : ∀ j d, σ2.2.1 j d = if j = 23 ∧ d = 12000 * wh + 6 * L.length + c then Int32.ofInt (x c) else σ1.2.1 j d := fun j d => by rw [e2]; exact sA_nat σ1 23 (by omega) _ j d
      have fx : mFz wh σ1 σ2 := by
        rw [e2]
        refine ⟨rfl, rfl, fun j _ h1 _ => funext fun d => ?_, fun d hd => ?_, fun d hd => ?_⟩
        · rw [sA_nat σ1 23 (by omega), if_neg (fun w => h1 w.1)]
        · rw [sA_nat σ1 23 (by omega), if_neg (fun w => absurd w.1 (by decide))]
        · rw [sA_nat σ1 23 (by omega), if_neg (by omega)]
      refine ih (c + 1) σ2 (by omega) (mFz_trans f fx) (fun d hd => by rw [a2, if_neg (fun w => absurd w.1 (by decide))]; exact V1 d hd) (by rw [a2, if_neg (fun w => absurd w.1 (by decide))]; exact h22) (fun k v hk d hd => ?_) fun j hj => ?_
      · have kl := (List.getElem?_eq_some_iff.mp hk).1
        rw [a2, if_neg (by omega)]; exact h23 k v hk d hd
      · rw [a2]
        by_cases w : j = c
        · rw [if_pos ⟨rfl, by omega⟩, w]
        · rw [if_neg (by omega)]; exact hh j (by omega)
  exact ⟨n + 1, go n 0 σ (by omega) (mFz_refl wh σ) V M.1 M.2 fun j hj => by omega⟩
theorem vLx_trans {u v w : Vc} (h : vLx u v) (g : vLx v w) : vLx u w := (vLx_iff u w).mp (lexB_trans 6 0 ((vLx_iff u v).mpr h) ((vLx_iff v w).mpr g))
theorem vLx_tri {u v : Vc} (hu : ∀ c, 6 ≤ c → u c = 0) (hv : ∀ c, 6 ≤ c → v c = 0) : vLx u v ∨ vLx v u ∨ u = v := by
  rcases lexB_tri (u := u) (v := v) 6 0 with a | a | a
  · exact .inl ((vLx_iff u v).mp a)
  · exact .inr (.inl ((vLx_iff v u).mp a))
  · refine .inr (.inr (funext fun c => ?_))
    by_cases w : c < 6
    · exact a c (Nat.zero_le _) (by omega)
    · rw [hu c (by omega), hv c (by omega)]
/-- a number that grows along the way -/
def tK (x : Vc) : Int := ((((x 0 * 33 + x 1) * 33 + x 2) * 33 + x 3) * 33 + x 4) * 33 + x 5
theorem tK_s {p q a b : Int} (h : p < q) (ha : a.natAbs ≤ 16) (hb : b.natAbs ≤ 16) : p * 33 + a < q * 33 + b := by omega
theorem tK_lt {x y : Vc} (hx : ∀ c, c < 6 → (x c).natAbs ≤ 16) (hy : ∀ c, c < 6 → (y c).natAbs ≤ 16) (h : vLx x y) : tK x < tK y := by
  obtain ⟨d, d1, d2, d3⟩ := h
  have s := fun c (hc : c < 6) (p q : Int) (h : p < q) => tK_s h (hx c hc) (hy c hc)
  have e : ∀ (p a b : Int), a < b → p * 33 + a < p * 33 + b := fun p a b h => by omega
  unfold tK
  have : d = 0 ∨ d = 1 ∨ d = 2 ∨ d = 3 ∨ d = 4 ∨ d = 5 := by omega
  rcases this with rfl | rfl | rfl | rfl | rfl | rfl
  · exact s 5 (by omega) _ _ (s 4 (by omega) _ _ (s 3 (by omega) _ _ (s 2 (by omega) _ _ (s 1 (by omega) _ _ d3))))
  · rw [d2 0 (by omega)]
    exact s 5 (by omega) _ _ (s 4 (by omega) _ _ (s 3 (by omega) _ _ (s 2 (by omega) _ _ (e _ _ _ d3))))
  · rw [d2 0 (by omega), d2 1 (by omega)]
    exact s 5 (by omega) _ _ (s 4 (by omega) _ _ (s 3 (by omega) _ _ (e _ _ _ d3)))
  · rw [d2 0 (by omega), d2 1 (by omega), d2 2 (by omega)]
    exact s 5 (by omega) _ _ (s 4 (by omega) _ _ (e _ _ _ d3))
  · rw [d2 0 (by omega), d2 1 (by omega), d2 2 (by omega), d2 3 (by omega)]
    exact s 5 (by omega) _ _ (e _ _ _ d3)
  · rw [d2 0 (by omega), d2 1 (by omega), d2 2 (by omega), d2 3 (by omega), d2 4 (by omega)]
    exact e _ _ _ d3
theorem tK_b {x : Vc} (hx : ∀ c, c < 6 → (x c).natAbs ≤ 16) : tK x ≤ 645733984 := by
  have x0 := hx 0 (by omega); have x1 := hx 1 (by omega); have x2 := hx 2 (by omega); have x3 := hx 3 (by omega); have x4 := hx 4 (by omega); have x5 := hx 5 (by omega)
  have st : ∀ p a m : Int, p ≤ m → a.natAbs ≤ 16 → p * 33 + a ≤ m * 33 + 16 := fun p a m h h2 => by omega
  have a1 := st _ _ _ (show x 0 ≤ 16 by omega) x1
  have a2 := st _ _ _ a1 x2
  have a3 := st _ _ _ a2 x3
  have a4 := st _ _ _ a3 x4
  have a5 := st _ _ _ a4 x5
  exact a5
theorem vSize_b {x : Vc} {s : Nat} (h : vSize x ≤ s) (hs : s ≤ 16) : ∀ c, c < 6 → (x c).natAbs ≤ 16 := by
  intro c hc
  have := qS_term (f := fun i => qab (x i)) (n := 6) (fun j _ => by unfold qab; omega) hc
  have e : qS (fun i => qab (x i)) 6 ≤ s := h
  unfold qab at this e; omega
/-- the list before the vector x of size s is looked at -/
def tBf (wh : Nat) (A : Nat → Nat → Int) (R n s : Nat) (x : Vc) (L : List Vc) : Prop := vSort L ∧ L.length ≤ 2000 ∧ ∀ v, v ∈ L ↔ tMem wh A R n v ∧ (vSize v < s ∨ vSize v = s ∧ vLx v x)
def tBs (wh : Nat) (A : Nat → Nat → Int) (R n s : Nat) (L : List Vc) : Prop := vSort L ∧ L.length ≤ 2000 ∧ ∀ v, v ∈ L ↔ tMem wh A R n v ∧ vSize v < s
theorem tMem_C {wh : Nat} {A : Nat → Nat → Int} {R n s : Nat} {v : Vc} (hw : wh ≤ 2) (h : tMem wh A R n v) (e : vSize v = s) : tC n (decide (wh = 2)) s v :=
  ⟨h.1.1, fun z => h.2.1 (by simp at z; omega), e⟩
theorem tBf_add {wh : Nat} {A : Nat → Nat → Int} {R n s : Nat} {x : Vc} {L : List Vc} (hx : tC n (decide (wh = 2)) s x) (B : tBf wh A R n s x L) : vSort (L ++ [x]) ∧ x ∉ L := by
  obtain ⟨b1, b2, b3⟩ := B
  refine ⟨List.pairwise_append.mpr ⟨b1, List.pairwise_singleton _ _, fun a ha b hb => ?_⟩, fun h => ?_⟩
  · rw [List.mem_singleton] at hb
    subst hb
    rcases ((b3 a).mp ha).2 with w | ⟨w1, w2⟩
    · exact .inl (by rw [hx.2.2]; exact w)
    · exact .inr ⟨by rw [hx.2.2]; exact w1, (vLx_iff a b).mpr w2⟩
  · rcases ((b3 x).mp h).2 with w | ⟨_, w2⟩
    · rw [hx.2.2] at w; omega
    · exact vLx_irr x w2
theorem sp_work_131 {n R wh s bd : Nat} {A : Nat → Nat → Int} {Q : Int32 → St → Prop} {K98 : Int32 → Int32 → Int32 → Int32 → St → Prop} {σ0 : St} (hw : wh ≤ 2) (hs : s ≤ bd) (hb : bd ≤ 16) (S0 : mSys σ0 n R A) (k1 : ∀ σ2 L, mFz wh σ0 σ2 → mLs σ2 n wh L → tBs wh A R n (s + 1) L → K98 (Int32.ofNat wh) (Int32.ofNat bd) 1 (Int32.ofNat (s + 1)) σ2) (k0 : ∀ σ2, mFz wh σ0 σ2 → tBig wh A R n bd → K98 (Int32.ofNat wh) (Int32.ofNat bd) 0 (Int32.ofNat (s + 1)) σ2) : ∀ (N : Nat) (x : Vc) (L : List Vc) (σ : St), 645733984 - tK x < N → mFz wh σ0 σ → mV 35 σ x → tC n (decide (wh = 2)) s x → mLs σ n wh L → tBf wh A R n s x L → wp_work_131 Q K98 (N + 1) (Int32.ofNat wh) (Int32.ofNat bd) 1 (Int32.ofNat s) 1 σ := by
  intro N
  have hn : n ≤ 6 := S0.2.2.1
  have one : (1 : Int32) = Int32.ofNat 1 := rfl
  have two : (2 : Int32) = Int32.ofNat 2 := rfl
  have z0 : (0 : Int32) = Int32.ofNat 0 := rfl
  induction N with
  | zero =>
    intro x L σ hN _ _ hx
    have := tK_b (vSize_b (Int.le_of_eq hx.2.2) (by omega)); omega
  | succ N ih =>
    intro x L σ hN f V hx M B
    have S := mSys_Fz f S0
    have xb := vSize_b (Int.le_of_eq hx.2.2) (by omega)
    have hv : ∀ v, v ∈ L → (∀ c, c < 6 → (v c).natAbs ≤ 100) ∧ ∀ c, n ≤ c → v c = 0 := fun v hm => by
      have h := (B.2.2 v).mp hm
      have vb := vSize_b (x := v) (s := s) (by rcases h.2 with w | w <;> omega) (by omega)
      exact ⟨fun c hc => by have := vb c hc; omega, h.1.1.1⟩
    have st := tStep (L := L) hn hw hx B.2.2
    have fl : ∀ sd : Bool, sd = decide (wh = 2) → ∀ P : Int32 → Prop, P (if sd = true then 1 else 0) → (¬ Int32.ofNat wh = 2 → P 0) ∧ (Int32.ofNat wh = 2 → P 1) := by
      intro sd hsd P hp
      rw [two, i_eq (by omega) (by omega)]
      constructor
      · intro w; rw [hsd, if_neg (by simpa using w)] at hp; exact hp
      · intro w; rw [hsd, if_pos (by simpa using w)] at hp; exact hp
    -- behind put
    have step : ∀ (L' : List Vc) (σ1 : St), mFz wh σ0 σ1 → mV 35 σ1 x → mLs σ1 n wh L' → vSort L' → L'.length ≤ 2000 → (∀ v, v ∈ L' ↔ tMem wh A R n v ∧ (vSize v < s ∨ vSize v = s ∧ (vLx v x ∨ v = x))) → wp_work_175 Q K98 (wp_work_131 Q K98 (N + 1)) (Int32.ofNat wh) (Int32.ofNat bd) 1 (Int32.ofNat s) σ1 := by
      intro L' σ1 f1 V1 M1 hs1 hl1 hm1
      have S1 := mSys_Fz f1 S0
      have done : ∀ σ2, mFz wh σ0 σ2 → mLs σ2 n wh L' → (∀ w, tC n (decide (wh = 2)) s w → ¬ vLx x w) → wp_work_201 Q K98 (wp_work_131 Q K98 (N + 1)) (Int32.ofNat wh) (Int32.ofNat bd) 1 (Int32.ofNat s) σ2 := by
        intro σ2 f2 M2 no
        unfold wp_work_201 wp_work_202 wp_work_131
        refine ⟨fun _ => ?_, fun w => absurd rfl w⟩
        unfold wp_work_207
        intro x1 e1
        subst e1
        rw [i_one]
        refine k1 σ2 L' f2 M2 ⟨hs1, hl1, fun v => ?_⟩
        rw [hm1]
        constructor
        · rintro ⟨a, b⟩; exact ⟨a, by rcases b with w | w <;> omega⟩
        · rintro ⟨a, b⟩
          refine ⟨a, ?_⟩
          by_cases w : vSize v < s
          · exact .inl w
          · have e : vSize v = s := by omega
            refine .inr ⟨e, ?_⟩
            rcases vLx_tri (u := v) (v := x) (fun c hc => a.1.1 c (by omega)) (fun c hc => hx.1 c (by omega)) with y | y | y
            · exact .inl y
            · exact absurd y (no v (tMem_C hw a e))
            · exact .inr y
      unfold wp_work_175
      rw [z0, i_le (by omega) (by omega)]
      refine ⟨fun w => done σ1 f1 M1 fun w' hw' hlt => ?_, fun w => ?_⟩
      · have s0 : s = 0 := by omega
        have e1 : w' = x := by
          have a := hw'.2.2
          have b := hx.2.2
          have za : ∀ y : Vc, vSize y = 0 → ∀ c, c < 6 → y c = 0 := fun y hy c hc => by
            have := qS_term (f := fun i => qab (y i)) (n := 6) (fun j _ => by unfold qab; omega) hc
            have e : qS (fun i => qab (y i)) 6 = 0 := hy
            unfold qab at this e; omega
          funext c
          by_cases y : c < 6
          · rw [za w' (by rw [a, s0]; rfl) c y, za x (by rw [b, s0]; rfl) c y]
          · rw [hw'.1 c (by omega), hx.1 c (by omega)]
        rw [e1] at hlt
        exact vLx_irr x hlt
      · refine fl (decide (wh = 2)) rfl (fun u => wp_work_191 Q K98 (wp_work_131 Q K98 (N + 1)) (Int32.ofNat wh) (Int32.ofNat bd) 1 (Int32.ofNat s) u σ1) ?_
        unfold wp_work_191
        refine sp_next hn (by omega) S1.1 V1 hx (fun σ2 f2 V2 no => ⟨fun _ => done σ2 (mFz_trans f1 (mFz_35 f2)) (mLs_35 f2 M1) no, fun w => absurd rfl w⟩) fun σ2 y f2 V2 hy lt nx => ⟨fun w => absurd w (by decide), fun _ => ?_⟩
        unfold wp_work_202
        have yb := vSize_b (Int.le_of_eq hy.2.2) (by omega)
        have kk := tK_lt xb yb lt
        refine ih y L' σ2 (by omega) (mFz_trans f1 (mFz_35 f2)) V2 hy (mLs_35 f2 M1) ⟨hs1, hl1, fun v => ?_⟩
        rw [hm1]
        constructor
        · rintro ⟨a, b⟩
          refine ⟨a, ?_⟩
          rcases b with w | ⟨w1, w2 | w2⟩
          · exact .inl w
          · exact .inr ⟨w1, vLx_trans w2 lt⟩
          · exact .inr ⟨w1, by rw [w2]; exact lt⟩
        · rintro ⟨a, b⟩
          refine ⟨a, ?_⟩
          rcases b with w | ⟨w1, w2⟩
          · exact .inl w
          · refine .inr ⟨w1, ?_⟩
            rcases vLx_tri (u := v) (v := x) (fun c hc => a.1.1 c (by omega)) (fun c hc => hx.1 c (by omega)) with z | z | z
            · exact .inl z
            · rcases nx v (tMem_C hw a w1) z with q | q
              · rw [q] at w2; exact absurd w2 (vLx_irr y)
              · exact absurd (vLx_trans w2 q) (vLx_irr v)
            · exact .inr z
    have in3 : vp_in (Int32.ofNat wh) 3 := (i_in (by omega)).mpr (by omega)
    unfold wp_work_131
    refine ⟨fun w => absurd w (by decide), fun _ => ⟨fun w => absurd w (by decide), fun _ => ?_⟩⟩
    refine sp_belongs S hw V M B.2.1 (fun c hc => by have := xb c hc; omega) hx.1 hv (fun nb => ⟨fun _ => ?_, fun w => absurd rfl w⟩) fun yb => ⟨fun w => absurd w (by decide), fun _ => ?_⟩
    · have nm : ¬ tMem wh A R n x := fun h => nb (st.mpr h)
      refine step L σ f V M B.1 B.2.1 fun v => ?_
      rw [B.2.2]
      constructor
      · rintro ⟨a, b⟩
        refine ⟨a, ?_⟩
        rcases b with w | ⟨w1, w2⟩
        · exact .inl w
        · exact .inr ⟨w1, .inl w2⟩
      · rintro ⟨a, b⟩
        refine ⟨a, ?_⟩
        rcases b with w | ⟨w1, w2 | w2⟩
        · exact .inl w
        · exact .inr ⟨w1, w2⟩
        · rw [w2] at a; exact absurd a nm
    · have mx := st.mp yb
      have ad := tBf_add hx B
      have g22 : gA σ 22 (Int32.ofNat wh) = Int32.ofNat L.length := by rw [gA_nat σ 22 (by omega)]; exact M.1
      have lb := B.2.1
      have mem : ∀ v, v ∈ L ++ [x] ↔ tMem wh A R n v ∧ (vSize v < s ∨ vSize v = s ∧ (vLx v x ∨ v = x)) := fun v => by
        rw [List.mem_append, List.mem_singleton, B.2.2]
        constructor
        · rintro (⟨a, b⟩ | e)
          · refine ⟨a, ?_⟩
            rcases b with w | ⟨w1, w2⟩
            · exact .inl w
            · exact .inr ⟨w1, .inl w2⟩
          · rw [e]; exact ⟨mx, .inr ⟨hx.2.2, .inr rfl⟩⟩
        · rintro ⟨a, b⟩
          rcases b with w | ⟨w1, w2 | w2⟩
          · exact .inl ⟨a, .inl w⟩
          · exact .inl ⟨a, .inr ⟨w1, w2⟩⟩
          · exact .inr w2
      rw [g22, show (2000 : Int32) = Int32.ofNat 2000 from rfl, i_le (by omega) (by omega)]
      refine ⟨in3, fun full => ?_, fun room => ?_⟩
      · -- one too many
        have big : tBig wh A R n bd := ⟨L ++ [x], by
          rw [List.nodup_append]
          exact ⟨vSort_nd B.1, List.pairwise_singleton _ _, fun a ha b hb' e => ad.2 (by rw [List.mem_singleton] at hb'; rw [← hb', ← e]; exact ha)⟩, by rw [List.length_append]; show L.length + 1 = 2001; omega, fun v hm => by
          have h := (mem v).mp hm
          exact ⟨h.1, by rcases h.2 with w | w <;> omega⟩⟩
        unfold wp_work_165
        refine ⟨fun _ => ?_, fun w => absurd rfl w⟩
        have out : ∀ (u : Int32) (σ2 : St), mFz wh σ0 σ2 → wp_work_202 Q K98 (wp_work_131 Q K98 (N + 1)) (Int32.ofNat wh) (Int32.ofNat bd) 0 (Int32.ofNat s) u σ2 := by
          intro u σ2 f2
          unfold wp_work_202 wp_work_131
          have go : wp_work_207 Q K98 (Int32.ofNat wh) (Int32.ofNat bd) 0 (Int32.ofNat s) σ2 := by
            unfold wp_work_207
            intro x1 e1
            subst e1
            rw [i_one]
            exact k0 σ2 f2 big
          exact ⟨fun _ => go, fun _ => ⟨fun _ => go, fun w => absurd rfl w⟩⟩
        unfold wp_work_175
        refine ⟨fun _ => out 0 σ f, fun _ => ?_⟩
        refine fl (decide (wh = 2)) rfl (fun u => wp_work_191 Q K98 (wp_work_131 Q K98 (N + 1)) (Int32.ofNat wh) (Int32.ofNat bd) 0 (Int32.ofNat s) u σ) ?_
        unfold wp_work_191
        refine sp_next hn (by omega) S.1 V hx (fun σ2 f2 V2 no => ⟨fun _ => out 0 σ2 (mFz_trans f (mFz_35 f2)), fun w => absurd rfl w⟩) fun σ2 y f2 V2 hy lt nx => ⟨fun w => absurd w (by decide), fun _ => out 1 σ2 (mFz_trans f (mFz_35 f2))⟩
      · unfold wp_work_165
        refine ⟨fun w => absurd w (by decide), fun _ => ?_⟩
        refine sp_put hn hw S.1 V M (by omega) (fun c hc => by have := xb c hc; omega) fun σ2 f2 V2 M2 => ?_
        exact step (L ++ [x]) σ2 (mFz_trans f f2) V2 M2 ad.1 (by rw [List.length_append]; show L.length + 1 ≤ 2000; omega) mem
theorem sp_work_98 {n R wh bd : Nat} {A : Nat → Nat → Int} {Q : Int32 → St → Prop} {σ0 : St} (hw : wh ≤ 2) (hb : bd ≤ 16) (S0 : mSys σ0 n R A) (q1 : ∀ σ2 L, mFz wh σ0 σ2 → mLs σ2 n wh L → tLst wh A R n bd L → L.length ≤ 2000 → wp_work_213 Q (Int32.ofNat wh) (Int32.ofNat bd) 1 σ2) (q0 : ∀ σ2, mFz wh σ0 σ2 → tBig wh A R n bd → wp_work_213 Q (Int32.ofNat wh) (Int32.ofNat bd) 0 σ2) : ∀ (t s : Nat) (L : List Vc) (σ : St), s + t = (if n = 0 then 0 else bd) + 1 → mFz wh σ0 σ → mLs σ n wh L → tBs wh A R n s L → wp_work_98 Q (t + 2) (Int32.ofNat wh) (Int32.ofNat bd) 1 (Int32.ofNat s) σ := by
  intro t
  have hn : n ≤ 6 := S0.2.2.1
  have two : (2 : Int32) = Int32.ofNat 2 := rfl
  have mst : ∀ (σ1 : St) (Qr : Int32 → St → Prop), gI σ1 17 = Int32.ofNat n → Qr (Int32.ofNat (if n = 0 then 0 else bd)) σ1 → wp_most (Int32.ofNat bd) σ1 Qr := by
    intro σ1 Qr h17 hq
    unfold wp_most wp_most_12
    rw [h17, i_0, i_eq (by omega) (by omega)]
    refine ⟨fun w => ?_, fun w => ?_⟩
    · rw [if_neg w] at hq; exact hq
    · rw [if_pos w] at hq; exact hq
  have bm : (if n = 0 then 0 else bd) ≤ bd := by split <;> omega
  induction t with
  | zero =>
    intro s L σ hs f M B
    have S := mSys_Fz f S0
    unfold wp_work_98
    refine mst σ _ S.1 ?_
    rw [i_lt (by omega) (by omega)]
    refine ⟨fun _ => q1 σ L f M ⟨B.1, fun v => ?_⟩ B.2.1, fun w => by omega⟩
    rw [B.2.2]
    constructor
    · rintro ⟨a, b⟩; exact ⟨a, by omega⟩
    · rintro ⟨a, b⟩
      refine ⟨a, ?_⟩
      by_cases z : n = 0
      · have e : vSize v = 0 := by
          unfold vSize; exact qS_zero fun c _ => by rw [a.1.1 c (by omega)]; rfl
        rw [e]; omega
      · rw [if_neg z] at hs; omega
  | succ t ih =>
    intro s L σ hs f M B
    have S := mSys_Fz f S0
    unfold wp_work_98
    refine mst σ _ S.1 ?_
    rw [i_lt (by omega) (by omega)]
    refine ⟨fun w => by omega, fun _ => ⟨fun w => absurd w (by decide), fun _ => ?_⟩⟩
    have main : wp_work_125 Q (wp_work_98 Q (t + 2)) (Int32.ofNat wh) (Int32.ofNat bd) 1 (Int32.ofNat s) (Int32.ofNat s) (if decide (wh = 2) = true then 1 else 0) σ := by
      have h0 : n = 0 → s = 0 := fun z => by rw [if_pos z] at hs; omega
      have tb := tB_ok (n := n) (s := s) (sd := decide (wh = 2)) hn h0
      unfold wp_work_125
      refine sp_begin hn S.1 h0 fun σ1 f1 V1 => ⟨(645733984 - tK (tB n (decide (wh = 2)) s)).toNat + 1 + 1, ?_⟩
      refine sp_work_131 (σ0 := σ0) hw (by omega) hb S0 (fun σ2 L2 f2 M2 B2 => ih (s + 1) L2 σ2 (by omega) f2 M2 B2) (fun σ2 f2 big => ?_) _ _ L σ1 (by omega) (mFz_trans f (mFz_35 f1)) V1 tb.1 (mLs_35 f1 M) ⟨B.1, B.2.1, fun v => ?_⟩
      · unfold wp_work_98
        refine mst σ2 _ (mSys_Fz f2 S0).1 ⟨fun _ => q0 σ2 f2 big, fun _ => ⟨fun _ => q0 σ2 f2 big, fun w => absurd rfl w⟩⟩
      · rw [B.2.2]
        constructor
        · rintro ⟨a, b⟩; exact ⟨a, .inl b⟩
        · rintro ⟨a, b⟩
          refine ⟨a, ?_⟩
          rcases b with w | ⟨w1, w2⟩
          · exact w
          · exfalso
            rcases tb.2 v (tMem_C hw a w1) with y | y
            · rw [y] at w2; exact vLx_irr _ w2
            · exact vLx_irr v (vLx_trans w2 y)
    rw [two, i_eq (by omega) (by omega)]
    refine ⟨fun w => ?_, fun w => ?_⟩
    · rw [if_neg (by simpa using w)] at main; exact main
    · rw [if_pos (by simpa using w)] at main; exact main
