/-! TYPE, the desk -/
theorem sp_X1_type {ev ow : Nat → Nat} {h : Hp} {a0 len : Nat} {rf fd sh : Nat → Nat} {tx : Nat → Int} {p1 : Int64} {p3 : Int32} {Q : Int32 → Hp → Prop} (D : xDk ow h a0 rf fd sh) (T : xScn ow h (rf 0) len tx) (no : (∀ n, p3 = Int32.ofNat n → ¬ tyOk len p1 n) → Q (-1) h) (q : ∀ n h2, p3 = Int32.ofNat n → tyOk len p1 n → hE (· = 2) ow h ow h2 → (∀ k, k ≠ 1 → hI h2 (rf 0) k = hI h (rf 0) k) → (∀ k, hR h2 (rf 0) k = hR h (rf 0) k) → xScn ow h2 (rf 0) (len + n) (txAp tx len p1 n) → Q (Int32.ofNat (len + n)) h2) : wp_X1_type ev h a0 p1 p3 Q := by
  have r0 := D.2.2.1 0 (by omega) (by omega) (by omega) (by omega) (by omega)
  obtain ⟨s1, s2, s3, s4, t, s5, s6, s7, s8, s9⟩ := T
  have one : (1 : Int32) = Int32.ofNat 1 := rfl
  have eight : (8 : Int32) = Int32.ofNat 8 := rfl
  have lim : (300 : Int32) = Int32.ofNat 300 := rfl
  unfold wp_X1_type wp_X1_type_26
  by_cases neg : p3 < 0
  · have nf : ∀ n, p3 = Int32.ofNat n → ¬ tyOk len p1 n := by
      rintro n rfl ⟨h1, h2, _⟩
      exact i_nneg (by omega) neg
    have lt1 : p3 < 1 := by
      rw [Int32.lt_iff_toInt_lt] at neg ⊢
      have : (0 : Int32).toInt = 0 := rfl
      have : (1 : Int32).toInt = 1 := rfl
      omega
    exact ⟨fun _ => no nf, fun z => absurd lt1 z⟩
  obtain ⟨n, nb, rfl⟩ := i_ex neg
  have un : ∀ n', Int32.ofNat n = Int32.ofNat n' → tyOk len p1 n' → n' = n := fun n' e ok => ((i_eq nb (by have := ok.2.1; omega)).mp e).symm
  have bad' : ¬ tyOk len p1 n → Q (-1) h := fun hn => no fun n' e ok => hn (by have := un n' e ok; subst this; exact ok)
  rw [one, eight, i_lt nb (by omega), i_lt (by omega) nb]
  refine ⟨fun z => bad' fun ok => by have := ok.1; omega, fun z1 => ⟨fun z => bad' fun ok => by have := ok.2.1; omega, fun z2 => ⟨D.1, rf 0, r0, s1, ?_⟩⟩⟩
  rw [s3, i_add, lim, i_le (by omega) (by omega)]
  refine ⟨fun z3 => ⟨n + 1, ?_⟩, fun z => bad' fun ok => by have := ok.2.2.1; omega⟩
  have put : tyOk len p1 n → ∀ (m c : Nat) (h1 : Hp), c + m = n → hE (· = 2) ow h ow h1 → (∀ k, k ≠ 1 → hI h1 (rf 0) k = hI h (rf 0) k) → (∀ k, hR h1 (rf 0) k = hR h (rf 0) k) → hI h1 (rf 0) 1 = Int32.ofNat (len + c) → (∀ j, j < len + c → hA h1 t (Int32.ofNat j) = Int32.ofInt (txMid tx len p1 n c j)) → wp_X1_type_99 ev Q (m + 1) a0 p1 (Int32.ofNat m - 1) h1 := by
    intro ok m
    induction m with
    | zero =>
      intro c h1 hc f hi hr h2 hj
      have : c = n := by omega
      subst this
      have D1 := xDk_E f (by omega) (by omega) D
      have k1 := hok_E f s1
      have k6 := hok_E f s6
      unfold wp_X1_type_99
      refine ⟨fun _ => ⟨D1.1, rf 0, D1.2.2.1 0 (by omega) (by omega) (by omega) (by omega) (by omega), k1.1, ?_⟩, fun z => absurd (by decide +kernel) z⟩
      rw [h2]
      exact q c h1 rfl ok f hi hr ⟨k1.1, s2, h2, by omega, t, by rw [hr 0]; exact s5, k6.1, s7, k6.2.2.trans s8, hj⟩
    | succ m ih =>
      intro c h1 hc f hi hr h2 hj
      have okc := (chOk_iff p1 m).mp (ok.2.2.2 m (by omega))
      have et : Int32.ofNat (m + 1) - 1 = Int32.ofNat m := i_sub (a := m + 1) (b := 1) (by omega)
      have et2 : Int32.ofNat m + (-1) = Int32.ofNat m - 1 := (Int32.sub_eq_add_neg _ _).symm
      have D1 := xDk_E f (by omega) (by omega) D
      have r1 := D1.2.2.1 0 (by omega) (by omega) (by omega) (by omega) (by omega)
      have k1 := hok_E f s1
      have k6 := hok_E f s6
      have ts : t ≠ rf 0 := fun e => hok_ne s6 s1 (by decide) e
      unfold wp_X1_type_99
      rw [et]
      refine ⟨fun z => absurd z (i_nneg (by omega)), fun _ => ⟨D1.1, rf 0, r1, k1.1, t, by rw [hr 0]; exact s5, D1.1, rf 0, r1, k1.1, fun x11 e11 => ⟨k1.1, fun h12 e12 => ⟨by rw [e12]; exact k6.1, ?_, fun h14 e14 x17 e17 => ?_⟩⟩⟩⟩
      · rw [e11, h2, e12, hN_uI, k6.2.2, s8]; exact (i_in (by omega)).mpr (by omega)
      rw [e17, et2]
      have ch : (((p1 >>> ((8 * Int32.ofNat m).toInt64 &&& 63)) &&& 255)).toInt32 = Int32.ofInt (chV p1 m).toInt := l_toI (chV p1 m) (by omega) (by omega)
      rw [ch, i_byte2 okc.1 okc.2, e11, h2] at e14
      rw [e11, h2, i_one] at e12
      have f12 : hE (· = 2) ow h1 ow h12 := by rw [e12]; exact hE_uI h1 s2 1 _
      have f14 : hE (· = 2) ow h12 ow h14 := by rw [e14]; exact hE_uA h12 s7 _ _
      refine ih (c + 1) h14 (by omega) (hE_trans f (hE_trans f12 f14)) (fun k hk => ?_) (fun k => ?_) ?_ fun j hj1 => ?_
      · rw [e14, hI_uA, e12, hI_uI, if_neg (fun w => hk w.2)]; exact hi k hk
      · rw [e14, hR_uA, e12, hR_uI]; exact hr k
      · rw [e14, hI_uA, e12, hI_uI, if_pos ⟨rfl, rfl⟩]; rfl
      · rw [← txMid_s (by omega), e14, hA_uA, i_cl (by omega), i_cl (by omega)]
        by_cases z : j = len + c
        · rw [if_pos ⟨rfl, z⟩, if_pos z, show n - 1 - c = m by omega]
        · rw [if_neg (fun w => z w.2), if_neg z, e12, hA_uI]; exact hj j (by omega)
  have go : ∀ (m k : Nat), k + m = n → wp_X1_type_34 ev Q (m + 1) a0 p1 (Int32.ofNat n) (bI (allB (chOk p1) k)) (Int32.ofNat k) h := by
    intro m
    induction m with
    | zero =>
      intro k hk
      have : k = n := by omega
      subst this
      unfold wp_X1_type_34
      rw [i_le nb (by omega), bI_0]
      refine ⟨fun _ => ⟨fun y x1 ex => ⟨k + 1, ?_⟩, fun y => bad' fun ok => ?_⟩, fun z => by omega⟩
      · rw [ex]
        exact put ⟨by omega, by omega, by omega, (allB_iff _ k).mp (b_t y)⟩ k 0 h (by omega) (hE_refl _ _ _) (fun _ _ => rfl) (fun _ => rfl) s3 fun j hj => by
          unfold txMid; rw [if_neg (by omega)]; exact s9 j (by omega)
      · rw [(allB_iff _ k).mpr ok.2.2.2] at y; cases y
    | succ m ih =>
      intro k hk
      have c31 : (31 : Int64).toInt = 31 := rfl
      have c127 : (127 : Int64).toInt = 127 := rfl
      unfold wp_X1_type_34 wp_X1_type_77 wp_X1_type_78
      rw [i_le nb (by omega)]
      refine ⟨fun z => by omega, fun _ y2 ey => ?_⟩
      have ey : y2 = chV p1 k := ey
      rw [lg_cmp_le, lg_cmp_ge, Int64.le_iff_toInt_le, Int64.le_iff_toInt_le, ey, c31, c127]
      have nx : ∀ u : Int32, u = bI (chOk p1 k) → ∀ x1 : Int32, x1 = (bI (allB (chOk p1) k) &&& u) → ∀ x2 : Int32, x2 = Int32.ofNat k + 1 → wp_X1_type_34 ev Q (m + 1) a0 p1 (Int32.ofNat n) x1 x2 h := by
        intro u hu x1 ex x2 ex2
        rw [ex, ex2, hu, bI_and, i_one]
        exact ih (k + 1) (by omega)
      have of : ¬ (32 ≤ (chV p1 k).toInt ∧ (chV p1 k).toInt ≤ 126) → (0 : Int32) = bI (chOk p1 k) := fun hn => by
        have : chOk p1 k = false := decide_eq_false hn
        rw [this]; rfl
      have ot : (32 ≤ (chV p1 k).toInt ∧ (chV p1 k).toInt ≤ 126) → (1 : Int32) = bI (chOk p1 k) := fun hn => by
        rw [(chOk_iff p1 k).mpr hn]; rfl
      exact ⟨fun w => nx 0 (of (by omega)), fun w => ⟨fun w2 => nx 0 (of (by omega)), fun w2 => nx 1 (ot (by omega))⟩⟩
  exact go n 0 (by omega)
