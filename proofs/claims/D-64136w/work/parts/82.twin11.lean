/-- the solution is brought below the leads, if its numbers fit -/
theorem sp_shorten_2 {n k st : Nat} {cN : Nat → Nat} {w V : Nat → Nat → Int} {v0 : Nat → Int} {E : Nat} {Q : St → Prop} {σ0 : St} (hn : n ≤ 6) (hk : k ≤ 6) (h17 : gI σ0 17 = Int32.ofNat n) (h31 : gI σ0 31 = Int32.ofNat k) (hB : mB σ0 n k st V) (hV : ∀ i, i < k → ∀ c, c < n → V (st + i) (4 + c) = w i c) (hH : qHN n k cN w) (hpb : ∀ i, i < k → (w i (cN i)).natAbs < 2 ^ 63) (q : ∀ σ2 v, mFo σ0 σ2 → mO σ2 n v → ((∀ i, i < k → (v0 (cN i)).natAbs ≤ E) → (∀ i, i < k → 2 ^ k * (E * (w i (cN i)).natAbs) < 2 ^ 63) → (∃ t : Nat → Int, ∀ c, c < n → v c = v0 c - qS (fun l => t l * w l c) k) ∧ ∀ i, i < k → (v (cN i)).natAbs < (w i (cN i)).natAbs) → Q σ2) : ∀ (d i : Nat) (σ : St) (v : Nat → Int), i + d = k → mFo σ0 σ → mO σ n v → ((∀ i, i < k → (v0 (cN i)).natAbs ≤ E) → (∀ i, i < k → 2 ^ k * (E * (w i (cN i)).natAbs) < 2 ^ 63) → (∃ t : Nat → Int, ∀ c, c < n → v c = v0 c - qS (fun l => t l * w l c) i) ∧ (∀ l, l < i → (v (cN l)).natAbs < (w l (cN l)).natAbs) ∧ ∀ l, i ≤ l → l < k → (v (cN l)).natAbs ≤ 2 ^ i * (E * (w l (cN l)).natAbs)) → wp_shorten_2 Q (d + 1) (Int32.ofNat i) σ := by
  intro d
  induction d with
  | zero =>
    intro i σ v hi fr hO h
    have : i = k := by omega
    subst this
    unfold wp_shorten_2
    rw [gI_Fo fr, h31, i_le (by omega) (by omega)]
    exact ⟨fun _ => q σ v fr hO fun a b => ⟨(h a b).1, (h a b).2.1⟩, fun h => absurd (Nat.le_refl _) h⟩
  | succ d ih =>
    intro i σ v hi fr hO h
    have ik : i < k := by omega
    unfold wp_shorten_2
    rw [gI_Fo fr, h31, i_le (by omega) (by omega)]
    refine ⟨fun h => by omega, fun _ => ⟨cN i + 1, ?_⟩⟩
    obtain ⟨l1, l2, l3⟩ := hH.1 i ik
    have hBs : mB σ n k st V := fun a c ha hc => by rw [fr.2.2 30 (by decide)]; exact hB a c ha hc
    refine sp_shorten_12 (cN := cN) (st := st) (V := V) hn hk ik (by rw [gI_Fo fr]; exact h17) hBs l1 (by rw [hV i ik _ l1]; exact l2) (by rw [hV i ik _ l1]; exact hpb i ik) (fun c hc => by rw [hV i ik c (by omega)]; exact l3 c hc) (fun u m hu hm hm0 σ2 f2 hO2 => ?_) (cN i) 0 (by omega)
    -- u and v are the same numbers of the machine
    have hO3 : mO σ2 n (fun c => v c - m * w i c) := fun c hc => by
      rw [hO2 c hc, ← l_sub, ← hu c hc, hO c hc, l_sub, hV i ik c hc]
    refine ih (i + 1) σ2 _ (by omega) (mFo_trans fr f2) hO3 fun hE hb => ?_
    obtain ⟨⟨t, ht⟩, a2, a3⟩ := h hE hb
    -- the multiple is what it should be
    have pw : ∀ l, l < k → 2 ^ i * (E * (w l (cN l)).natAbs) < 2 ^ 63 := fun l hl => by
      have := hb l hl
      have m := Nat.mul_le_mul_right (E * (w l (cN l)).natAbs) (Nat.pow_le_pow_right (show 1 ≤ 2 by omega) (show i ≤ k by omega))
      exact Nat.lt_of_le_of_lt m this
    have vb : (v (cN i)).natAbs < 2 ^ 63 := Nat.lt_of_le_of_lt (a3 i (Nat.le_refl _) ik) (pw i ik)
    have hm2 : Int64.ofInt m = Int64.ofInt ((v (cN i)).tdiv (w i (cN i))) := by
      rw [hm, ← hu _ l1, hO _ l1, hV i ik _ l1, l_div vb (hpb i ik)]
    have tle : ((v (cN i)).tdiv (w i (cN i))).natAbs ≤ (v (cN i)).natAbs := by rw [Int.natAbs_tdiv]; exact Nat.div_le_self _ _
    have em : m = (v (cN i)).tdiv (w i (cN i)) := by
      have := congrArg Int64.toInt hm2
      rwa [hm0, l_int (by omega)] at this
    subst em
    have p0 : 0 < (w i (cN i)).natAbs := by omega
    have mb : ((v (cN i)).tdiv (w i (cN i))).natAbs ≤ 2 ^ i * E := by
      rw [Int.natAbs_tdiv]
      have a := a3 i (Nat.le_refl _) ik
      rw [← Nat.mul_assoc] at a
      exact Nat.div_le_of_le_mul (by rw [Nat.mul_comm]; exact a)
    refine ⟨⟨fun l => if l = i then (v (cN i)).tdiv (w i (cN i)) else t l, fun c hc => ?_⟩, fun l hl => ?_, fun l h1 h2 => ?_⟩
    · show v c - (v (cN i)).tdiv (w i (cN i)) * w i c = _
      rw [qS]
      show _ = v0 c - (qS (fun l => (if l = i then (v (cN i)).tdiv (w i (cN i)) else t l) * w l c) i + (if i = i then (v (cN i)).tdiv (w i (cN i)) else t i) * w i c)
      rw [if_pos rfl, ht c hc]
      have : qS (fun l => (if l = i then (v (cN i)).tdiv (w i (cN i)) else t l) * w l c) i = qS (fun l => t l * w l c) i := qS_congr fun l hl => by rw [if_neg (by omega)]
      rw [this]; omega
    · show (v (cN l) - (v (cN i)).tdiv (w i (cN i)) * w i (cN l)).natAbs < _
      by_cases e : l = i
      · subst e
        have t := Int.tmod_add_mul_tdiv (v (cN l)) (w l (cN l))
        rw [Int.mul_comm] at t
        have : v (cN l) - (v (cN l)).tdiv (w l (cN l)) * w l (cN l) = (v (cN l)).tmod (w l (cN l)) := by omega
        rw [this, Int.natAbs_tmod]; exact Nat.mod_lt _ p0
      · rw [l3 (cN l) (hH.2.1 l i (by omega) ik), Int.mul_zero, Int.sub_zero]; exact a2 l (by omega)
    · show (v (cN l) - (v (cN i)).tdiv (w i (cN i)) * w i (cN l)).natAbs ≤ _
      have a := a3 l (by omega) h2
      have wl : (w i (cN l)).natAbs ≤ (w l (cN l)).natAbs := by have := hH.2.2 i l (by omega) h2; omega
      have b := q_abs_mul_le mb wl
      have e : 2 ^ (i + 1) * (E * (w l (cN l)).natAbs) = 2 ^ i * (E * (w l (cN l)).natAbs) + 2 ^ i * E * (w l (cN l)).natAbs := by rw [Nat.pow_succ]; clear a b pw hb hE; grind
      rw [e]; omega
