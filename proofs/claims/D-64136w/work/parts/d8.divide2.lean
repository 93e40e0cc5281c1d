/-! DIVIDING: the twin -/
theorem vp_03 : vp_in 0 3 := (i_in (a := 0) (by omega)).mpr (by omega)
theorem vp_13 : vp_in 1 3 := (i_in (a := 1) (by omega)).mpr (by omega)
theorem b_t {b : Bool} (h : ¬ b = false) : b = true := by
  cases b with
  | true => rfl
  | false => exact absurd rfl h
theorem dFi_ex {r : Vc} : ∀ {L : List Vc}, (∃ v, v ∈ L ∧ vBe v r) → ∃ (k : Nat) (v : Vc), L[k]? = some v ∧ vBe v r ∧ ∀ j, j < k → ∀ u, L[j]? = some u → ¬ vBe u r := by
  intro L
  induction L with
  | nil => rintro ⟨v, hv, _⟩; cases hv
  | cons a t ih =>
    rintro ⟨v, hv, hb⟩
    by_cases w : vBe a r
    · exact ⟨0, a, rfl, w, fun j hj => by omega⟩
    · have : ∃ v, v ∈ t ∧ vBe v r := by
        rcases List.mem_cons.mp hv with e | e
        · rw [e] at hb; exact absurd hb w
        · exact ⟨v, e, hb⟩
      obtain ⟨k, u, h1, h2, h3⟩ := ih this
      refine ⟨k + 1, u, by simpa using h1, h2, fun j hj x hx => ?_⟩
      cases j with
      | zero => simp at hx; rw [← hx]; exact w
      | succ j => exact h3 j (by omega) x (by simpa using hx)
theorem tLst_fv {wh : Nat} {A : Nat → Nat → Int} {R n bd : Nat} {L : List Vc} (hw : wh < 2) (hb : bd ≤ 16) (T : tLst wh A R n bd L) : ∀ v, v ∈ L → (∀ c, c < 6 → 0 ≤ v c) ∧ (∀ c, n ≤ c → v c = 0) ∧ (∀ c, c < 6 → (v c).natAbs ≤ 100) ∧ (wh = 0 → 0 < qS v 6) := by
  intro v hv
  obtain ⟨m, sz⟩ := (T.2 v).mp hv
  have nn := m.2.1 hw
  have b := vSize_b (x := v) (s := bd) sz hb
  refine ⟨nn, m.1.1, fun c hc => by have := b c hc; omega, fun z => ?_⟩
  obtain ⟨c, hc, ne⟩ := m.1.2.1 (by omega)
  have := qS_term (f := v) (n := 6) nn hc
  have := nn c hc
  omega
theorem sp_split_190 {n : Nat} {L : List Vc} {r0 : Vc} {v2 : Int32} {Q : Int32 → St → Prop} {σ0 : St} (hn : n ≤ 6) (h17 : gI σ0 17 = Int32.ofNat n) (M : mLs σ0 n 0 L) (hL : L.length ≤ 2000) (hv : ∀ v, v ∈ L → dFv n v) (h0 : dFr n r0)
    (q : ∀ σ2, mH σ0 σ2 → (∀ i m, (dCs L r0)[i]? = some m → σ2.2.1 27 i = Int32.ofNat m) → Q v2 (sI σ2 26 1)) : ∀ (t k : Nat) (σ : St), k + t = L.length → mH σ0 σ → mN n 35 σ (dRs (L.take k) r0) → (∀ i m, i < k → (dCs L r0)[i]? = some m → σ.2.1 27 i = Int32.ofNat m) → wp_split_190 Q (t + 1) v2 (Int32.ofNat k) σ := by
  intro t
  induction t with
  | zero =>
    intro k σ hk f V h
    unfold wp_split_190
    refine ⟨vp_03, ?_⟩
    rw [i_0, gA_nat σ 22 (by omega), (mLs_H f M).1, i_le (by omega) (by omega)]
    refine ⟨fun _ σ1 e1 => ?_, fun w => by omega⟩
    rw [e1]
    refine q σ f fun i m hm => h i m ?_ hm
    have := (List.getElem?_eq_some_iff.mp hm).1
    rw [dCs_len] at this; omega
  | succ t ih =>
    intro k σ hk f V h
    obtain ⟨v, ev'⟩ : ∃ v, L[k]? = some v := ⟨_, List.getElem?_eq_getElem (by omega)⟩
    have fv := hv v (List.mem_of_getElem? ev')
    obtain ⟨d1, d2⟩ := dRs_take k r0 v ev'
    have fr := dRs_fr hv h0 k
    unfold wp_split_190
    refine ⟨vp_03, ?_⟩
    rw [i_0, gA_nat σ 22 (by omega), (mLs_H f M).1, i_le (by omega) (by omega)]
    refine ⟨fun w => by omega, fun _ => ⟨(i_in (by omega)).mpr (by omega), fun σ2 e2 => ⟨101 + 1, ?_⟩⟩⟩
    have f2 : mF1 27 σ σ2 := by rw [e2]; exact mF1_sA 27 σ _ _
    have F2 := mH_trans f (mH_27 f2)
    have A2 : ∀ j, σ2.2.1 27 j = if j = k then Int32.ofNat 0 else σ.2.1 27 j := fun j => by
      rw [e2, sA_nat _ _ (by omega)]
      by_cases z : j = k
      · rw [if_pos ⟨rfl, z⟩, if_pos z]
      · rw [if_neg (fun w => z w.2), if_neg z]
    refine sp_split_207 (σ0 := σ2) (c0 := 0) hn (by rw [gI_H F2]; exact h17) (mLs_H F2 M) hL ev' fv (dRs (L.take k) r0) (fun σ3 f3 V3 t1 t2 => ih (k + 1) σ3 (by omega) (mH_trans F2 f3) (by rw [d1]; exact V3) fun i m hi hm => ?_) 101 0 (dRs (L.take k) r0) σ2 fr (by have := fr.2.2; omega) (Nat.zero_add _) rfl (by omega) ⟨rfl, rfl, fun _ _ _ => rfl⟩ (fun j hj => by rw [f2.2.2 35 (by omega)]; exact V j hj) (by rw [A2, if_pos rfl]) fun j hj => rfl
    by_cases z : i = k
    · subst z
      rw [d2] at hm
      rw [t1]; rw [Option.some.inj hm]
    · rw [t2 i z, A2, if_neg z]; exact h i m (by omega) hm
/-- whether it can be divided -/
def dOk (A : Nat → Nat → Int) (R n : Nat) (kn : Bool) (tv : Vc) (bo : Nat → Option Nat) : Prop := kn = true ∧ hPl tv = true ∧ allB (hS A n true tv) R = true ∧ ∃ b0 b1 : Nat, bo 0 = some b0 ∧ bo 1 = some b1 ∧ qS tv 6 ≤ b0 ∧ qS tv 6 ≤ b1
theorem dOk_ex {A : Nat → Nat → Int} {R n : Nat} {kn : Bool} {tv : Vc} {bo : Nat → Option Nat} {L : List Vc} {b1 : Nat} (hn : n ≤ 6) (t0 : ∀ c, n ≤ c → tv c = 0) (pl : hPl tv = true) (so : allB (hS A n true tv) R = true) (sz : qS tv 6 ≤ b1) (T : tLst 1 A R n b1 L) : ∃ (k : Nat) (v : Vc), L[k]? = some v ∧ vBe v tv ∧ ∀ j, j < k → ∀ u, L[j]? = some u → ¬ vBe u tv := by
  have nn : ∀ c, c < 6 → 0 ≤ tv c := fun c hc => of_decide_eq_true ((allB_iff _ 6).mp pl c hc)
  have sl : tSl 1 A R n tv := ⟨t0, fun w => absurd rfl w, (hS_all A R n true tv).mp so⟩
  obtain ⟨m, m1, m2, m3⟩ := tMin_ex hn (vSize tv).toNat.succ tv (by have := vSize_nn0 tv; omega) sl
  have mn : ∀ c, c < 6 → 0 ≤ m c := fun c hc => ((m2 c hc).2 (nn c hc)).1
  refine dFi_ex ⟨m, (T.2 m).mpr ⟨⟨m1, fun _ => mn, fun w => by omega, m3⟩, ?_⟩, (vCf_be mn nn).mp m2⟩
  have := vCf_size m2
  rw [vSize_nn nn] at this
  omega
theorem sp_split {n R : Nat} {A : Nat → Nat → Int} {kn : Bool} {tv : Vc} {bo : Nat → Option Nat} {Ls : Nat → List Vc} {σ : St} {Q : Int32 → St → Prop} (S : mSys σ n R A) (k14 : gI σ 14 = bI kn) (V : mV 24 σ tv) (tb : ∀ c, c < 6 → (tv c).natAbs ≤ 99) (t0 : ∀ c, n ≤ c → tv c = 0)
    (hL : ∀ w, w < 3 → σ.2.1 20 w = bI (bo w).isSome ∧ ∀ b, bo w = some b → σ.2.1 21 w = Int32.ofNat b ∧ b ≤ 16 ∧ mLs σ n w (Ls w) ∧ tLst w A R n b (Ls w) ∧ (Ls w).length ≤ 2000)
    (no : ¬ dOk A R n kn tv bo → Q (-1) (sI σ 0 0))
    (yes : dOk A R n kn tv bo → ∀ σ2 k v, (Ls 1)[k]? = some v → vBe v tv → (∀ j, j < k → ∀ u, (Ls 1)[j]? = some u → ¬ vBe u tv) → mH (sI σ 0 0) σ2 → (∀ i m, (dCs (Ls 0) (vSub tv v))[i]? = some m → σ2.2.1 27 i = Int32.ofNat m) → Q (Int32.ofNat k) (sI σ2 26 1)) : wp_split σ Q := by
  have hn := S.2.2.1
  unfold wp_split
  intro σ1 e1
  rw [← e1] at no yes
  have S1 : mSys σ1 n R A := mSys_gen (by rw [e1]; rfl) (by rw [e1]; rfl) (by rw [e1]; rfl) S
  have V1 : mV 24 σ1 tv := fun c hc => by rw [e1]; exact V c hc
  have A1 : σ1.2 = σ.2 := by rw [e1]; rfl
  have k1 : gI σ1 14 = bI kn := by rw [e1, gI_sI, if_neg (by omega)]; exact k14
  have sumb : ∀ c, c ≤ 6 → (qS tv c).natAbs ≤ 99 * c := by
    intro c
    induction c with
    | zero => intro _; exact Nat.zero_le _
    | succ c ih =>
      intro h'
      have := ih (by omega)
      have := tb c (by omega)
      show (qS tv c + tv c).natAbs ≤ _
      omega
  have qn : qS tv 6 = qS tv n := by
    have a := qS_split tv (6 - n) n
    rw [show n + (6 - n) = 6 by omega] at a
    rw [a, qS_zero (f := fun j => tv (n + j)) fun j _ => t0 _ (by omega)]; omega
  -- the work
  have work : dOk A R n kn tv bo → wp_split_100 Q (n + 1) 0 σ1 := by
    intro ok
    have yes := yes ok
    obtain ⟨_, pl, so, b0, b1, e0, e1', s0, s1⟩ := ok
    have nn : ∀ c, c < 6 → 0 ≤ tv c := fun c hc => of_decide_eq_true ((allB_iff _ 6).mp pl c hc)
    obtain ⟨_, l0⟩ := hL 0 (by omega)
    obtain ⟨_, l1⟩ := hL 1 (by omega)
    obtain ⟨_, g0, M0, T0, len0⟩ := l0 b0 e0
    obtain ⟨_, g1, M1, T1, len1⟩ := l1 b1 e1'
    have M0' : mLs σ1 n 0 (Ls 0) := by unfold mLs; rw [A1]; exact M0
    have M1' : mLs σ1 n 1 (Ls 1) := by unfold mLs; rw [A1]; exact M1
    obtain ⟨k, v, hk, hb, hmin⟩ := dOk_ex (kn := kn) (bo := bo) hn t0 pl so s1 T1
    have fv0 := tLst_fv (by omega) g0 T0
    have fv1 := tLst_fv (by omega) g1 T1
    have kl := (List.getElem?_eq_some_iff.mp hk).1
    have vv := fv1 v (List.mem_of_getElem? hk)
    have frt : dFr n tv := ⟨nn, t0, by omega⟩
    have sb := dFr_sub frt vv.1 vv.2.1 hb
    have a146 : ∀ (t c : Nat) (σ2 : St), c + t = n → mH σ1 σ2 → (∀ j, j < n → σ2.2.1 35 j = Int32.ofInt (if j < c then tv j - v j else tv j)) → wp_split_146 Q (t + 1) (Int32.ofNat k) (Int32.ofNat c) σ2 := by
      intro t
      induction t with
      | zero =>
        intro c σ2 hc f h
        unfold wp_split_146
        rw [gI_H f, S1.1, i_le (by omega) (by omega)]
        refine ⟨fun _ => ⟨(Ls 0).length + 1, ?_⟩, fun w => by omega⟩
        rw [i_0]
        exact sp_split_190 (σ0 := σ1) hn S1.1 M0' len0 (fun u hu => ⟨(fv0 u hu).1, (fv0 u hu).2.1, (fv0 u hu).2.2.2 rfl, (fv0 u hu).2.2.1⟩) sb.1 (fun σ3 f3 h3 => yes σ3 k v hk hb hmin f3 h3) _ 0 σ2 (by omega) f (fun j hj => by rw [h j hj, if_pos (by omega)]; rfl) fun i m hi => by omega
      | succ t ih =>
        intro c σ2 hc f h
        have cell := M1'.2 k v hk c (by omega)
        unfold wp_split_146
        rw [gI_H f, S1.1, i_le (by omega) (by omega)]
        rw [show (12000 : Int32) + 6 * Int32.ofNat k + Int32.ofNat c = Int32.ofNat (12000 * 1 + 6 * k + c) by rw [show (12000 : Int32) = Int32.ofNat 12000 from rfl, show (6 : Int32) = Int32.ofNat 6 from rfl, i_mul, i_add, i_add]]
        refine ⟨fun w => by omega, fun _ => ⟨(i_in (by omega)).mpr (by omega), (i_in (by omega)).mpr (by omega), (i_in (by omega)).mpr (by omega), fun σ3 e3 x3 ex3 => ?_⟩⟩
        rw [ex3, i_one]
        rw [gA_nat σ2 35 (by omega), h c (by omega), if_neg (by omega), gA_nat σ2 23 (by omega), f.2.2 23 (by omega) (by omega), cell, i_subI] at e3
        refine ih (c + 1) σ3 (by omega) (by rw [e3]; exact mH_trans f (mH_35 (mF1_sA 35 σ2 _ _))) fun j hj => ?_
        rw [e3, sA_nat _ _ (by omega)]
        by_cases z : j = c
        · rw [if_pos ⟨rfl, z⟩, if_pos (by omega), z]
        · rw [if_neg (fun w => z w.2), h j hj]
          by_cases y : j < c
          · rw [if_pos y, if_pos (by omega)]
          · rw [if_neg y, if_neg (by omega)]
    have a128 : ∀ (t j : Nat) (σ2 : St), j + t = k → mH σ1 σ2 → mN n 35 σ2 tv → wp_split_128 Q (t + 1) (Int32.ofNat j) σ2 := by
      intro t
      induction t with
      | zero =>
        intro j σ2 hj f h
        have : j = k := by omega
        subst this
        unfold wp_split_128
        rw [i_ofI1]
        refine sp_isBelowN (wh := 1) (u := v) hn (by omega) (by rw [gI_H f]; exact S1.1) h (mLs_H f M1') len1 hk (fun c hc => by have := tb c hc; omega) vv.2.2.1 t0 vv.2.1 (.inl rfl) (fun nb => ?_) fun _ => ⟨fun _ => ⟨n + 1, a146 n 0 σ2 (by omega) f fun j hj => by rw [if_neg (by omega)]; exact h j hj⟩, fun w => absurd w (by decide)⟩
        refine absurd ?_ nb
        rw [show (fun c => 1 * v c) = v from funext fun c => Int.one_mul _]
        exact (vCf_be vv.1 nn).mpr hb
      | succ t ih =>
        intro j σ2 hj f h
        obtain ⟨u, eu⟩ : ∃ u, (Ls 1)[j]? = some u := ⟨_, List.getElem?_eq_getElem (by omega)⟩
        have uu := fv1 u (List.mem_of_getElem? eu)
        unfold wp_split_128
        rw [i_ofI1]
        refine sp_isBelowN (wh := 1) (u := u) hn (by omega) (by rw [gI_H f]; exact S1.1) h (mLs_H f M1') len1 eu (fun c hc => by have := tb c hc; omega) uu.2.2.1 t0 uu.2.1 (.inl rfl) (fun _ => ⟨fun w => absurd rfl w, fun _ x3 e3 => ?_⟩) fun yb => ?_
        · rw [e3, ← i_ofI1, i_one]; exact ih (j + 1) σ2 (by omega) f h
        · rw [show (fun c => 1 * u c) = u from funext fun c => Int.one_mul _] at yb
          exact absurd ((vCf_be uu.1 nn).mp yb) (hmin j (by omega) u eu)
    have a100 : ∀ (t c : Nat) (σ2 : St), c + t = n → mF1 35 σ1 σ2 → (∀ j, j < c → σ2.2.1 35 j = Int32.ofInt (tv j)) → wp_split_100 Q (t + 1) (Int32.ofNat c) σ2 := by
      intro t
      induction t with
      | zero =>
        intro c σ2 hc f h
        unfold wp_split_100
        rw [gI_F1 f, S1.1, i_le (by omega) (by omega)]
        refine ⟨fun _ => ⟨k + 1, ?_⟩, fun w => by omega⟩
        rw [i_0]
        exact a128 k 0 σ2 (by omega) (mH_35 f) fun j hj => h j (by omega)
      | succ t ih =>
        intro c σ2 hc f h
        unfold wp_split_100
        rw [gI_F1 f, S1.1, i_le (by omega) (by omega)]
        refine ⟨fun w => by omega, fun _ => ⟨(i_in (by omega)).mpr (by omega), (i_in (by omega)).mpr (by omega), fun σ3 e3 x3 ex3 => ?_⟩⟩
        rw [ex3, i_one]
        refine ih (c + 1) σ3 (by omega) (by rw [e3]; exact mF1_trans f (mF1_sA 35 σ2 _ _)) fun j hj => ?_
        rw [e3, sA_nat _ _ (by omega)]
        by_cases z : j = c
        · rw [if_pos ⟨rfl, z⟩, gA_F1 f (by omega), mV_get V1 (by omega), z]
        · rw [if_neg (fun w => z w.2)]; exact h j (by omega)
    exact a100 n 0 σ1 (by omega) (mF1_refl 35 σ1) fun j hj => by omega
  have go : ∀ (t c : Nat), c + t = n → wp_split_9 Q (t + 1) (Int32.ofInt (qS tv c)) (Int32.ofNat c) σ1 := by
    intro t
    induction t with
    | zero =>
      intro c hc
      have : c = n := by omega
      subst this
      have sb := sumb c (by omega)
      unfold wp_split_9 wp_split_96
      rw [S1.1, i_le (by omega) (by omega), k1, bI_0]
      refine ⟨fun _ => ⟨fun y => no fun ok => (by rw [ok.1] at y; cases y), fun y => ?_⟩, fun w => by omega⟩
      have y : kn = true := by simpa using y
      refine sp_isPlain hn S1.1 V1 (fun c hc => by have := tb c hc; omega) t0 ?_
      rw [bI_0]
      refine ⟨fun z => no fun ok => (by rw [ok.2.1] at z; cases z), fun z => ?_⟩
      have z : hPl tv = true := by simpa using z
      refine sp_solves_24 (rt := true) S1 V1 (fun c hc => by have := tb c hc; omega) (fun ns => ⟨fun _ => no fun ok => ns ((hS_all _ _ _ _ _).mp ok.2.2.1), fun w => absurd rfl w⟩) fun ys => ⟨fun w => absurd w (by decide), fun _ => ⟨vp_03, ?_⟩⟩
      have g0 : gA σ1 20 0 = bI (bo 0).isSome := by rw [i_0, gA_nat σ1 20 (by omega), A1]; exact (hL 0 (by omega)).1
      have g1 : gA σ1 20 1 = bI (bo 1).isSome := by rw [show (1 : Int32) = Int32.ofNat 1 from rfl, gA_nat σ1 20 (by omega), A1]; exact (hL 1 (by omega)).1
      rw [g0, g1, bI_0, bI_0]
      refine ⟨fun u => no fun ok => ?_, fun u => ⟨vp_13, fun w => no fun ok => ?_, fun w => ⟨vp_03, ?_⟩⟩⟩
      · obtain ⟨_, _, _, b0, b1, e0, _⟩ := ok
        rw [e0] at u; cases u
      · obtain ⟨_, _, _, b0, b1, _, e1', _⟩ := ok
        rw [e1'] at w; cases w
      · obtain ⟨b0, e0⟩ : ∃ b, bo 0 = some b := Option.isSome_iff_exists.mp (b_t u)
        obtain ⟨b1, e1'⟩ : ∃ b, bo 1 = some b := Option.isSome_iff_exists.mp (b_t w)
        obtain ⟨c0, d0, _⟩ := (hL 0 (by omega)).2 b0 e0
        obtain ⟨c1, d1, _⟩ := (hL 1 (by omega)).2 b1 e1'
        have h0 : gA σ1 21 0 = Int32.ofInt (b0 : Int) := by rw [i_0, gA_nat σ1 21 (by omega), A1, ← i_ofN]; exact c0
        have h1 : gA σ1 21 1 = Int32.ofInt (b1 : Int) := by rw [show (1 : Int32) = Int32.ofNat 1 from rfl, gA_nat σ1 21 (by omega), A1, ← i_ofN]; exact c1
        rw [h0, h1, i_ltI (by omega) (by omega), i_leI (by omega) (by omega), ← qn]
        have un : ∀ b0' b1' : Nat, bo 0 = some b0' → bo 1 = some b1' → b0' = b0 ∧ b1' = b1 := fun b0' b1' p q => ⟨by rw [e0] at p; exact (Option.some.inj p).symm, by rw [e1'] at q; exact (Option.some.inj q).symm⟩
        refine ⟨fun l => no fun ok => ?_, fun l => ⟨vp_13, fun l2 => ⟨c + 1, work ⟨y, z, (hS_all _ _ _ _ _).mpr ys, b0, b1, e0, e1', by omega, l2⟩⟩, fun l2 => no fun ok => ?_⟩⟩
        · obtain ⟨_, _, _, b0', b1', p, q, s0, s1⟩ := ok
          have := un b0' b1' p q; omega
        · obtain ⟨_, _, _, b0', b1', p, q, s0, s1⟩ := ok
          have := un b0' b1' p q; omega
    | succ t ih =>
      intro c hc
      unfold wp_split_9
      rw [S1.1, i_le (by omega) (by omega)]
      refine ⟨fun w => by omega, fun _ => ⟨(i_in (by omega)).mpr (by omega), fun x5 e5 x6 e6 => ?_⟩⟩
      rw [e5, e6, i_one, mV_get V1 (by omega), i_addI]
      exact ih (c + 1) (by omega)
  exact ⟨n + 1, go n 0 (by omega)⟩
