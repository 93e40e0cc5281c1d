/-! READING: the twin's cut, a word kept -/
theorem sp_cut_261 {k p e : Nat} {c x : Int} {u : Int32} {D : List (Nat × Nat × Int)} {σ : St} {Q : St → Prop} {K9 : Int32 → Int32 → St → Prop} (W : mWs σ D) (hD : D.length < 301) (hk : k ≤ 10) (hu : k = 1 ∨ k = 2 → u = Int32.ofInt x) (hc : c ≠ 32) (hb : c.natAbs ≤ 1000) (q : ∀ σ2, mFc σ σ2 → mWs σ2 (D ++ [(k, p, x)]) → K9 (Int32.ofNat e) (if k = 10 then 0 else 1) σ2) : wp_cut_261 Q K9 (Int32.ofNat p) 1 (Int32.ofInt c) (Int32.ofNat e) u (Int32.ofNat k) σ := by
  unfold wp_cut_261 wp_cut_288 wp_cut_289
  rw [show (32 : Int32) = Int32.ofInt 32 from rfl, i_eqI (by omega) (by decide)]
  refine ⟨fun z => absurd z hc, fun _ => sp_word W hD hu fun σ2 f2 W2 => ?_⟩
  have qq := q σ2 f2 W2
  rw [show (10 : Int32) = Int32.ofNat 10 from rfl, i_eq (by omega) (by omega)]
  refine ⟨fun z => ?_, fun z => ?_⟩
  · rw [if_pos z] at qq; exact qq
  · rw [if_neg z] at qq; exact qq
