/-! READING: the twin's letter0 and word -/
def tC0 (tx : Nat → Int) (len i : Nat) : Int := if i < len then tx i else 0
theorem sp_letter0 {len i : Nat} {tx : Nat → Int} {σ : St} {Q : Int32 → St → Prop} (T : mTx σ len tx) (hl : len ≤ 300) (hi : i < 1000) (q : Q (Int32.ofInt (tC0 tx len i)) σ) : wp_letter0 (Int32.ofNat i) σ Q := by
  unfold wp_letter0 wp_letter0_18
  unfold tC0 at q
  rw [T.1, i_le (by omega) (by omega)]
  refine ⟨fun w => by rw [if_neg (by omega)] at q; exact q, fun w => ⟨(i_in (by omega)).mpr (by omega), ?_⟩⟩
  rw [if_pos (by omega)] at q
  rw [gA_nat σ 1 (by omega), T.2 i (by omega)]; exact q
/-- only int 7 and the arrays 4, 5, 6 have changed -/
def mFc (σ σ2 : St) : Prop := (∀ k, k ≠ 7 → gI σ2 k = gI σ k) ∧ σ2.2.2 = σ.2.2 ∧ ∀ j, j ≠ 4 → j ≠ 5 → j ≠ 6 → σ2.2.1 j = σ.2.1 j
theorem mFc_trans {σ σ2 σ3 : St} (f : mFc σ σ2) (g : mFc σ2 σ3) : mFc σ σ3 := ⟨fun k h => (g.1 k h).trans (f.1 k h), g.2.1.trans f.2.1, fun j a b c => (g.2.2 j a b c).trans (f.2.2 j a b c)⟩
theorem mTx_Fc {σ σ2 : St} (f : mFc σ σ2) {len : Nat} {tx : Nat → Int} (T : mTx σ len tx) : mTx σ2 len tx := ⟨(f.1 2 (by omega)).trans T.1, fun j hj => by rw [f.2.2 1 (by omega) (by omega) (by omega)]; exact T.2 j hj⟩
/-- the words so far -/
def mWs (σ : St) (D : List (Nat × Nat × Int)) : Prop := gI σ 7 = Int32.ofNat D.length ∧ ∀ (m : Nat) (w : Nat × Nat × Int), D[m]? = some w → σ.2.1 4 m = Int32.ofNat w.1 ∧ σ.2.1 5 m = Int32.ofNat w.2.1 ∧ (w.1 = 1 ∨ w.1 = 2 → σ.2.1 6 m = Int32.ofInt w.2.2)
theorem sp_word {k p : Nat} {v : Int32} {x : Int} {D : List (Nat × Nat × Int)} {σ : St} {Q : St → Prop} (W : mWs σ D) (hD : D.length < 301) (hv : k = 1 ∨ k = 2 → v = Int32.ofInt x) (q : ∀ σ2, mFc σ σ2 → mWs σ2 (D ++ [(k, p, x)]) → Q σ2) : wp_word (Int32.ofNat k) (Int32.ofNat p) v σ Q := by
  have win : vp_in (Int32.ofNat D.length) 301 := (i_in (by omega)).mpr hD
  unfold wp_word
  rw [W.1]
  refine ⟨win, fun σ1 e1 => ?_⟩
  have g1 : gI σ1 7 = Int32.ofNat D.length := by rw [e1]; exact W.1
  rw [g1]
  refine ⟨win, fun σ2 e2 => ?_⟩
  have g2 : gI σ2 7 = Int32.ofNat D.length := by rw [e2]; exact g1
  rw [g2]
  refine ⟨win, fun σ3 e3 σ4 e4 => ?_⟩
  have g3 : gI σ3 7 = Int32.ofNat D.length := by rw [e3]; exact g2
  rw [g3, i_one] at e4
  have A4 : ∀ j c, σ4.2.1 j c = if j = 6 ∧ c = D.length then v else if j = 5 ∧ c = D.length then Int32.ofNat p else if j = 4 ∧ c = D.length then Int32.ofNat k else σ.2.1 j c := fun j c => by
    rw [e4]; show σ3.2.1 j c = _
    rw [e3, sA_nat _ _ (by omega), e2, sA_nat _ _ (by omega), e1, sA_nat _ _ (by omega)]
  refine q σ4 ⟨fun j hj => by rw [e4, gI_sI, if_neg hj, e3, e2, e1]; rfl, by rw [e4, e3, e2, e1]; rfl, fun j a b c => funext fun x => by rw [A4, if_neg (by omega), if_neg (by omega), if_neg (by omega)]⟩ ⟨by rw [e4, gI_sI, if_pos rfl, List.length_append]; rfl, fun m w hm => ?_⟩
  by_cases z : m < D.length
  · rw [List.getElem?_append_left z] at hm
    obtain ⟨a, b, c⟩ := W.2 m w hm
    refine ⟨by rw [A4, if_neg (by omega), if_neg (by omega), if_neg (by omega)]; exact a, by rw [A4, if_neg (by omega), if_neg (by omega), if_neg (by omega)]; exact b, fun h => by rw [A4, if_neg (by omega), if_neg (by omega), if_neg (by omega)]; exact c h⟩
  · have ml := (List.getElem?_eq_some_iff.mp hm).1
    rw [List.length_append, List.length_singleton] at ml
    have em : m = D.length := by omega
    subst em
    rw [List.getElem?_append_right (Nat.le_refl _), Nat.sub_self] at hm
    have ew : (k, p, x) = w := by simpa using hm
    subst ew
    refine ⟨by rw [A4, if_neg (by omega), if_neg (by omega), if_pos ⟨rfl, rfl⟩], by rw [A4, if_neg (by omega), if_pos ⟨rfl, rfl⟩], fun h => by rw [A4, if_pos ⟨rfl, rfl⟩]; exact hv h⟩
