/-! DIVIDING: plain, and the twin -/
theorem mN_get {n a : Nat} {σ : St} {v : Vc} (h : mN n a σ v) {c : Nat} (hc : c < n) (h6 : c < 6) : gA σ a (Int32.ofNat c) = Int32.ofInt (v c) := by rw [gA_nat σ a (by omega)]; exact h c hc
theorem sp_isBelowN {n wh k : Nat} {x u : Vc} {L : List Vc} {sg : Int} {Q : Int32 → St → Prop} {σ : St} (hn : n ≤ 6) (hw : wh ≤ 2) (h17 : gI σ 17 = Int32.ofNat n) (V : mN n 35 σ x) (M : mLs σ n wh L) (hL : L.length ≤ 2000) (hk : L[k]? = some u) (hx : ∀ c, c < 6 → (x c).natAbs ≤ 100) (hu : ∀ c, c < 6 → (u c).natAbs ≤ 100) (hx0 : ∀ c, n ≤ c → x c = 0) (hu0 : ∀ c, n ≤ c → u c = 0) (hsg : sg = 1 ∨ sg = -1) (q0 : ¬ vCf (fun c => sg * u c) x → Q 0 σ) (q1 : vCf (fun c => sg * u c) x → Q 1 σ) : wp_isBelow (Int32.ofNat wh) (Int32.ofNat k) (Int32.ofInt sg) σ Q := by
  have kl : k < L.length := (List.getElem?_eq_some_iff.mp hk).1
  have stop : ∀ (t c : Nat), ¬ vCf (fun c => sg * u c) x → wp_isBelow_6 Q (t + 1) (Int32.ofNat wh) (Int32.ofNat k) (Int32.ofInt sg) 0 (Int32.ofNat c) σ := by
    intro t c hno
    unfold wp_isBelow_6 wp_isBelow_107
    exact ⟨fun _ => ⟨isB_0, q0 hno⟩, fun _ => ⟨fun _ => ⟨isB_0, q0 hno⟩, fun w => absurd rfl w⟩⟩
  have go : ∀ (t c : Nat), c + t = n → (∀ j, j < c → (x j < 0 → x j ≤ sg * u j ∧ sg * u j ≤ 0) ∧ (0 ≤ x j → 0 ≤ sg * u j ∧ sg * u j ≤ x j)) → wp_isBelow_6 Q (t + 2) (Int32.ofNat wh) (Int32.ofNat k) (Int32.ofInt sg) 1 (Int32.ofNat c) σ := by
    intro t
    induction t with
    | zero =>
      intro c hc hj
      unfold wp_isBelow_6 wp_isBelow_107
      rw [h17, i_le (by omega) (by omega)]
      refine ⟨fun _ => ⟨isB_1, q1 fun j h6 => ?_⟩, fun w => by omega⟩
      by_cases y : j < c
      · exact hj j y
      · show (x j < 0 → x j ≤ sg * u j ∧ sg * u j ≤ 0) ∧ (0 ≤ x j → 0 ≤ sg * u j ∧ sg * u j ≤ x j)
        rw [hx0 j (by omega), hu0 j (by omega), Int.mul_zero]
        omega
    | succ t ih =>
      intro c hc hj
      have bx := hx c (by omega)
      have bu := hu c (by omega)
      have bs : (sg * u c).natAbs ≤ 100 := by rcases hsg with e | e <;> rw [e] <;> omega
      have cell := M.2 k u hk c (by omega)
      have no : (¬ ((x c < 0 → x c ≤ sg * u c ∧ sg * u c ≤ 0) ∧ (0 ≤ x c → 0 ≤ sg * u c ∧ sg * u c ≤ x c))) → wp_isBelow_99 Q (wp_isBelow_6 Q (t + 2)) (Int32.ofNat wh) (Int32.ofNat k) (Int32.ofInt sg) (Int32.ofNat c) 0 σ := by
        intro h
        unfold wp_isBelow_99
        intro x1 e1
        subst e1
        rw [i_one]
        exact stop (t + 1) (c + 1) fun z => h (z c (by omega))
      have yes : ((x c < 0 → x c ≤ sg * u c ∧ sg * u c ≤ 0) ∧ (0 ≤ x c → 0 ≤ sg * u c ∧ sg * u c ≤ x c)) → wp_isBelow_99 Q (wp_isBelow_6 Q (t + 2)) (Int32.ofNat wh) (Int32.ofNat k) (Int32.ofInt sg) (Int32.ofNat c) 1 σ := by
        intro h
        unfold wp_isBelow_99
        intro x1 e1
        subst e1
        rw [i_one]
        refine ih (c + 1) (by omega) fun j hj' => ?_
        by_cases y : j = c
        · rw [y]; exact h
        · exact hj j (by omega)
      unfold wp_isBelow_6 wp_isBelow_98 wp_isBelow_73
      rw [h17, i_le (by omega) (by omega), i_tw]
      refine ⟨fun w => by omega, fun _ => ⟨fun w => absurd w (by decide), fun _ => ⟨(i_in (by omega)).mpr (by omega), fun x1 e1 => ?_⟩⟩⟩
      rw [gA_nat σ 23 (by omega), cell, i_mulI] at e1
      subst e1
      have z0 : (0 : Int).natAbs < 2147483648 := by decide
      rw [mN_get V (by omega) (by omega), i_0I, i_ltI (by omega) z0, i_ltI z0 (by omega), i_ltI (by omega) (by omega), i_ltI (by omega) z0, i_ltI (by omega) (by omega)]
      have inn : vp_in (Int32.ofNat c) 6 := (i_in (by omega)).mpr (by omega)
      refine ⟨inn, fun a => ⟨fun b => no fun h => by have := h.1 a; omega, fun b => ⟨inn, fun d => no fun h => by have := h.1 a; omega, fun d => yes ⟨fun _ => by omega, fun _ => by omega⟩⟩⟩, fun a => ⟨fun b => no fun h => by have := h.2 (by omega); omega, fun b => ⟨inn, fun d => no fun h => by have := h.2 (by omega); omega, fun d => yes ⟨fun _ => by omega, fun _ => by omega⟩⟩⟩⟩
  exact ⟨n + 2, go n 0 (by omega) fun j hj => by omega⟩


def vSub (r v : Vc) : Vc := fun c => r c - v c
/-- how often a vector can be taken -/
def dTk (v : Vc) : Nat → Vc → Nat × Vc
  | 0, r => (0, r)
  | f + 1, r => if vBe v r then ((dTk v f (vSub r v)).1 + 1, (dTk v f (vSub r v)).2) else (0, r)
def dCs : List Vc → Vc → List Nat
  | [], _ => []
  | v :: t, r => (dTk v 101 r).1 :: dCs t (dTk v 101 r).2
/-- what stays fair under taking -/
def dFr (n : Nat) (r : Vc) : Prop := (∀ c, c < 6 → 0 ≤ r c) ∧ (∀ c, n ≤ c → r c = 0) ∧ qS r 6 ≤ 100
def dFv (n : Nat) (v : Vc) : Prop := (∀ c, c < 6 → 0 ≤ v c) ∧ (∀ c, n ≤ c → v c = 0) ∧ 0 < qS v 6 ∧ ∀ c, c < 6 → (v c).natAbs ≤ 100
theorem dFr_sub {n : Nat} {r v : Vc} (h : dFr n r) (v0 : ∀ c, c < 6 → 0 ≤ v c) (vz : ∀ c, n ≤ c → v c = 0) (b : vBe v r) : dFr n (vSub r v) ∧ qS (vSub r v) 6 = qS r 6 - qS v 6 := by
  have e : qS (vSub r v) 6 = qS r 6 - qS v 6 := qS_sub r v 6
  have nn := qS_nonneg (f := v) (n := 6) v0
  refine ⟨⟨fun c hc => ?_, fun c hc => ?_, by have := h.2.2; omega⟩, e⟩
  · have := vBe_iff.mp b c hc
    unfold vSub; omega
  · unfold vSub; rw [h.2.1 c hc, vz c hc]; rfl
theorem dFr_b {n : Nat} {r : Vc} (h : dFr n r) : ∀ c, c < 6 → 0 ≤ r c ∧ r c ≤ 100 := fun c hc => by
  have := qS_term (f := r) (n := 6) h.1 hc
  have := h.1 c hc
  have := h.2.2
  omega
theorem dTk_fr {n : Nat} {v : Vc} (hv : dFv n v) : ∀ (f : Nat) (r : Vc), dFr n r → dFr n (dTk v f r).2 ∧ (dTk v f r).1 ≤ f := by
  intro f
  induction f with
  | zero => intro r h; exact ⟨h, Nat.le_refl _⟩
  | succ f ih =>
    intro r h
    unfold dTk
    by_cases b : vBe v r
    · rw [if_pos b]
      have i := ih _ (dFr_sub h hv.1 hv.2.1 b).1
      exact ⟨i.1, by show _ + 1 ≤ _; omega⟩
    · rw [if_neg b]; exact ⟨h, Nat.zero_le _⟩
theorem dCs_len : ∀ (L : List Vc) (r : Vc), (dCs L r).length = L.length := by
  intro L
  induction L with
  | nil => intro r; rfl
  | cons v t ih => intro r; show (dCs t _).length + 1 = _; rw [ih]; rfl
/-- where one is in the list -/
theorem dCs_at {L : List Vc} : ∀ (k : Nat) (r0 : Vc), ∃ r, ∀ v, L[k]? = some v → (dCs L r0)[k]? = some (dTk v 101 r).1 := by
  induction L with
  | nil => intro k r0; exact ⟨r0, fun v h => by simp at h⟩
  | cons u t ih =>
    intro k r0
    cases k with
    | zero => exact ⟨r0, fun v h => by simp at h; subst h; rfl⟩
    | succ k =>
      obtain ⟨r, hr⟩ := ih k (dTk u 101 r0).2
      exact ⟨r, fun v h => hr v (by simpa using h)⟩
def dRs : List Vc → Vc → Vc
  | [], r => r
  | v :: t, r => dRs t (dTk v 101 r).2
theorem dRs_take {L : List Vc} : ∀ (k : Nat) (r0 v : Vc), L[k]? = some v → dRs (L.take (k + 1)) r0 = (dTk v 101 (dRs (L.take k) r0)).2 ∧ (dCs L r0)[k]? = some (dTk v 101 (dRs (L.take k) r0)).1 := by
  induction L with
  | nil => intro k r0 v h; simp at h
  | cons u t ih =>
    intro k r0 v h
    cases k with
    | zero => simp at h; subst h; exact ⟨rfl, rfl⟩
    | succ k =>
      obtain ⟨h1, h2⟩ := ih k (dTk u 101 r0).2 v (by simpa using h)
      exact ⟨h1, h2⟩
theorem dRs_fr {n : Nat} {L : List Vc} {r : Vc} (hL : ∀ v, v ∈ L → dFv n v) (h : dFr n r) : ∀ k, dFr n (dRs (L.take k) r) := by
  have key : ∀ (M : List Vc) (r : Vc), (∀ v, v ∈ M → dFv n v) → dFr n r → dFr n (dRs M r) := by
    intro M
    induction M with
    | nil => intro r _ h; exact h
    | cons v t ih =>
      intro r hm h
      exact ih _ (fun u hu => hm u (List.mem_cons_of_mem _ hu)) (dTk_fr (hm v List.mem_cons_self) 101 r h).1
  intro k
  exact key _ r (fun v hv => hL v (List.mem_of_mem_take hv)) h
theorem vCf_be {v r : Vc} (v0 : ∀ c, c < 6 → 0 ≤ v c) (r0 : ∀ c, c < 6 → 0 ≤ r c) : vCf v r ↔ vBe v r := by
  constructor
  · intro h; exact vBe_iff.mpr fun c hc => ((h c hc).2 (r0 c hc)).2
  · intro h c hc
    have := vBe_iff.mp h c hc
    have := r0 c hc
    have := v0 c hc
    exact ⟨fun w => by omega, fun _ => by omega⟩
/-- only the arrays 27, 35 have changed -/
def mH (σ σ2 : St) : Prop := σ2.1 = σ.1 ∧ σ2.2.2 = σ.2.2 ∧ ∀ j, j ≠ 27 → j ≠ 35 → σ2.2.1 j = σ.2.1 j
theorem mH_trans {σ σ2 σ3 : St} (f : mH σ σ2) (g : mH σ2 σ3) : mH σ σ3 := ⟨g.1.trans f.1, g.2.1.trans f.2.1, fun j a b => (g.2.2 j a b).trans (f.2.2 j a b)⟩
theorem mH_35 {σ σ2 : St} (f : mF1 35 σ σ2) : mH σ σ2 := ⟨f.1, f.2.1, fun j _ b => f.2.2 j b⟩
theorem mH_27 {σ σ2 : St} (f : mF1 27 σ σ2) : mH σ σ2 := ⟨f.1, f.2.1, fun j a _ => f.2.2 j a⟩
theorem mLs_H {σ σ2 : St} (f : mH σ σ2) {n w : Nat} {L : List Vc} (M : mLs σ n w L) : mLs σ2 n w L := by
  unfold mLs; rw [f.2.2 22 (by omega) (by omega), f.2.2 23 (by omega) (by omega)]; exact M
theorem gI_H {σ σ2 : St} (f : mH σ σ2) (k : Nat) : gI σ2 k = gI σ k := by unfold gI; rw [f.1]
theorem i_ofI1 : (1 : Int32) = Int32.ofInt 1 := rfl
theorem sp_split_207 {n k : Nat} {L : List Vc} {v : Vc} {Q : Int32 → St → Prop} {K190 : Int32 → Int32 → St → Prop} {σ0 : St} {v2 : Int32} {c0 : Nat} (hn : n ≤ 6) (h17 : gI σ0 17 = Int32.ofNat n) (M : mLs σ0 n 0 L) (hL : L.length ≤ 2000) (hk : L[k]? = some v) (hv : dFv n v) (r0 : Vc)
    (q : ∀ σ2, mH σ0 σ2 → mN n 35 σ2 (dTk v 101 r0).2 → σ2.2.1 27 k = Int32.ofNat (dTk v 101 r0).1 → (∀ j, j ≠ k → σ2.2.1 27 j = σ0.2.1 27 j) → K190 v2 (Int32.ofNat (k + 1)) σ2) : ∀ (f cnt : Nat) (r : Vc) (σ : St), dFr n r → qS r 6 < f → cnt + (dTk v f r).1 = (dTk v 101 r0).1 → (dTk v f r).2 = (dTk v 101 r0).2 → cnt + f ≤ 101 → mH σ0 σ → mN n 35 σ r → σ.2.1 27 k = Int32.ofNat cnt → (∀ j, j ≠ k → σ.2.1 27 j = σ0.2.1 27 j) → wp_split_207 Q K190 (f + 1) v2 (Int32.ofNat k) σ := by
  have kl : k < L.length := (List.getElem?_eq_some_iff.mp hk).1
  have neg : ∀ (f cnt : Nat) (r : Vc) (σ : St), dFr n r → cnt = (dTk v 101 r0).1 → r = (dTk v 101 r0).2 → mH σ0 σ → mN n 35 σ r → σ.2.1 27 k = Int32.ofNat cnt → (∀ j, j ≠ k → σ.2.1 27 j = σ0.2.1 27 j) → ∀ x3 : Int32, x3 = Int32.ofNat k + 1 → K190 v2 x3 σ := by
    intro f cnt r σ _ e1 e2 fr V t1 t2 x3 e3
    rw [e3, i_one]
    exact q σ fr (by rw [← e2]; exact V) (by rw [t1, e1]) t2
  intro f
  induction f with
  | zero =>
    intro cnt r σ h hf
    have := qS_nonneg (f := r) (n := 6) h.1
    omega
  | succ f ih =>
    intro cnt r σ h hf e1 e2 hc fr V t1 t2
    have rb := dFr_b h
    have cf : vCf (fun c => 1 * v c) r ↔ vBe v r := by
      rw [show (fun c => 1 * v c) = v from funext fun c => Int.one_mul _]
      exact vCf_be hv.1 h.1
    unfold wp_split_207
    rw [i_0, i_ofI1]
    refine sp_isBelowN (u := v) hn (by omega) (by rw [gI_H fr]; exact h17) V (mLs_H fr M) hL hk (fun c hc => by have := rb c hc; omega) hv.2.2.2 h.2.1 hv.2.1 (.inl rfl) (fun no => ⟨fun _ => ?_, fun w => absurd rfl w⟩) fun yes => ⟨fun w => absurd w (by decide), fun _ => ⟨n + 1, ?_⟩⟩
    · have nb : ¬ vBe v r := fun b => no (cf.mpr b)
      have eu : dTk v (f + 1) r = (0, r) := if_neg nb
      rw [eu] at e1 e2
      exact neg f cnt r σ h (by simp only at e1; omega) e2 fr V t1 t2
    · have b := cf.mp yes
      have eu : dTk v (f + 1) r = ((dTk v f (vSub r v)).1 + 1, (dTk v f (vSub r v)).2) := if_pos b
      rw [eu] at e1 e2
      simp only at e1 e2
      have sb := dFr_sub h hv.1 hv.2.1 b
      have sub : ∀ (t c : Nat) (σ1 : St), c + t = n → mF1 35 σ σ1 → (∀ j, j < n → σ1.2.1 35 j = Int32.ofInt (if j < c then r j - v j else r j)) → wp_split_220 Q K190 (wp_split_207 Q K190 (f + 1)) (t + 1) v2 (Int32.ofNat k) (Int32.ofNat c) σ1 := by
        intro t
        induction t with
        | zero =>
          intro c σ1 hc f1 h1
          have fr1 := mH_trans fr (mH_35 f1)
          unfold wp_split_220
          rw [gI_H fr1, h17, i_le (by omega) (by omega)]
          refine ⟨fun _ => ⟨(i_in (by omega)).mpr (by omega), (i_in (by omega)).mpr (by omega), fun σ2 es => ?_⟩, fun w => by omega⟩
          have f2 : mF1 27 σ1 σ2 := by rw [es]; exact mF1_sA 27 σ1 _ _
          have A2 : ∀ j, σ2.2.1 27 j = if j = k then Int32.ofNat cnt + 1 else σ0.2.1 27 j := fun j => by
            rw [es, sA_nat _ _ (by omega)]
            by_cases z : j = k
            · rw [if_pos ⟨rfl, z⟩, if_pos z, gA_nat σ1 27 (by omega), f1.2.2 27 (by omega), t1]
            · rw [if_neg (fun w => z w.2), if_neg z, f1.2.2 27 (by omega)]; exact t2 j z
          refine ih (cnt + 1) (vSub r v) σ2 sb.1 (by have := sb.2; have := hv.2.2.1; omega) (by omega) e2 (by omega) (mH_trans fr1 (mH_27 f2)) (fun j hj => ?_) (by rw [A2, if_pos rfl, i_one]) fun j hj => by rw [A2, if_neg hj]
          rw [f2.2.2 35 (by omega), h1 j hj, if_pos (by omega)]; rfl
        | succ t iht =>
          intro c σ1 hc f1 h1
          have fr1 := mH_trans fr (mH_35 f1)
          have cell := M.2 k v hk c (by omega)
          unfold wp_split_220
          rw [gI_H fr1, h17, i_le (by omega) (by omega), i_six]
          refine ⟨fun w => by omega, fun _ => ⟨(i_in (by omega)).mpr (by omega), (i_in (by omega)).mpr (by omega), (i_in (by omega)).mpr (by omega), fun σ2 es x3 e3 => ?_⟩⟩
          rw [e3, i_one]
          have g35 : gA σ1 35 (Int32.ofNat c) = Int32.ofInt (r c) := by rw [gA_nat σ1 35 (by omega), h1 c (by omega), if_neg (by omega)]
          have g23 : gA σ1 23 (Int32.ofNat (6 * k + c)) = Int32.ofInt (v c) := by
            rw [gA_nat σ1 23 (by omega), fr1.2.2 23 (by omega) (by omega), ← cell]
            rw [show 12000 * 0 + 6 * k + c = 6 * k + c by omega]
          rw [g35, g23, i_subI] at es
          refine iht (c + 1) σ2 (by omega) (by rw [es]; exact mF1_trans f1 (mF1_sA 35 σ1 _ _)) fun j hj => ?_
          rw [es, sA_nat _ _ (by omega)]
          by_cases z : j = c
          · rw [if_pos ⟨rfl, z⟩, if_pos (by omega), z]
          · rw [if_neg (fun w => z w.2), h1 j hj]
            by_cases y : j < c
            · rw [if_pos y, if_pos (by omega)]
            · rw [if_neg y, if_neg (by omega)]
      exact sub n 0 σ (by omega) (mF1_refl 35 σ) fun j hj => by rw [if_neg (by omega)]; exact V j hj
