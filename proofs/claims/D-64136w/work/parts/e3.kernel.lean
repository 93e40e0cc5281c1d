/-! SOLVABLE, kernel, kernelAt, both sides -/
theorem sp_solved {n R : Nat} {A : Nat → Nat → Int} {σ : St} {Q : St → Prop} (S : mSys σ n R A) (q : ∀ σ2, mFs σ σ2 → mWh σ2 n R A → Q σ2) : wp_solveWhole σ Q :=
  sp_solve S.2.2.1 S.2.2.2.1 S.1 S.2.1 (fun s _ => S.2.2.2.2.2.2 s) (fun s hs c hc => S.2.2.2.2.1 s hs c hc) q
theorem sp_solvable {n R : Nat} {A : Nat → Nat → Int} {σ : St} {Q : Int32 → St → Prop} (S : mSys σ n R A) (un : gI σ 14 = 0 → Q 0 (sI σ 0 1)) (q : gI σ 14 ≠ 0 → ∀ σ2 b, mFs (sI σ 0 0) σ2 → (qSol n R A ∧ b = 1 ∨ ¬ qSol n R A ∧ b = 0) → Q b σ2) : wp_solvable σ Q := by
  unfold wp_solvable wp_solvable_13 wp_solvable_41
  refine ⟨fun k σ1 e1 => ⟨fun w => ?_, fun _ => by rw [e1]; exact un k⟩, fun k σ1 e1 => ⟨fun _ => ?_, fun w => ?_⟩⟩
  · rw [e1, gI_sI, if_pos rfl] at w; exact absurd w (by decide)
  · have S1 : mSys σ1 n R A := mSys_gen (by rw [e1]; rfl) (by rw [e1]; rfl) (by rw [e1]; rfl) S
    refine sp_solved S1 fun σ2 f W => ?_
    obtain ⟨_, w, _, _, _, _, _, hs⟩ := mWh_out W
    rw [e1] at f
    rcases hs with ⟨s1, s2⟩ | ⟨s1, s2⟩
    · exact ⟨fun z => by rw [s2] at z; exact absurd z (by decide), fun _ => q k σ2 1 f (.inl ⟨s1, rfl⟩)⟩
    · exact ⟨fun _ => q k σ2 0 f (.inr ⟨s1, rfl⟩), fun z => absurd s2 z⟩
  · rw [e1, gI_sI, if_pos rfl] at w; exact absurd (by decide) w
theorem sp_kernel {n R : Nat} {A : Nat → Nat → Int} {σ : St} {Q : Int32 → St → Prop} (S : mSys σ n R A) (un : gI σ 14 = 0 → Q 0 (sI σ 0 1)) (q : gI σ 14 ≠ 0 → ∀ σ2 k w, mFs (sI σ 0 0) σ2 → qWit n R A k w → Q (Int32.ofNat k) σ2) : wp_kernel σ Q := by
  unfold wp_kernel wp_kernel_13
  refine ⟨fun k σ1 e1 => ⟨fun w => ?_, fun _ => by rw [e1]; exact un k⟩, fun k σ1 e1 => ⟨fun _ => ?_, fun w => ?_⟩⟩
  · rw [e1, gI_sI, if_pos rfl] at w; exact absurd w (by decide)
  · have S1 : mSys σ1 n R A := mSys_gen (by rw [e1]; rfl) (by rw [e1]; rfl) (by rw [e1]; rfl) S
    refine sp_solved S1 fun σ2 f W => ?_
    obtain ⟨kk, w, hw, _, _, h31, _, _⟩ := mWh_out W
    rw [e1] at f
    rw [h31]
    exact q k σ2 kk w f hw
  · rw [e1, gI_sI, if_pos rfl] at w; exact absurd (by decide) w
/-- what kernelAt may change -/
def mFk (σ σ2 : St) : Prop := (∀ j, j ≠ 0 → j ≠ 31 → j ≠ 33 → σ2.1 j = σ.1 j) ∧ σ2.2.1 = σ.2.1 ∧ ∀ j, j ≠ 30 → j ≠ 32 → σ2.2.2 j = σ.2.2 j
theorem mFk_s {σ σ2 : St} {u : Int32} (f : mFs (sI σ 0 u) σ2) : mFk σ σ2 := ⟨fun j h0 h1 h2 => by rw [f.1 j h1 h2]; show (if j = 0 then u else σ.1 j) = _; rw [if_neg h0], f.2.1, f.2.2⟩
theorem sp_kernelAt {n R : Nat} {A : Nat → Nat → Int} {kn : Bool} {p1 p2 : Int32} {σ : St} {Q : Int64 → St → Prop} (S : mSys σ n R A) (k14 : gI σ 14 = bI kn) (k0 : kn = false → n = 0) (no : ∀ σ2, mFk σ σ2 → gI σ2 0 = 1 → ((noCol n p2 ∨ p1 < 0) ∨ ∃ k w, qWit n R A k w ∧ noCol k p1) → Q 0 σ2) (q : ∀ σ2 k w i c, mFk σ σ2 → gI σ2 0 = 0 → qWit n R A k w → i < k → c < n → p1 = Int32.ofNat i → p2 = Int32.ofNat c → Q (Int64.ofInt (w i c)) σ2) : wp_kernelAt p1 p2 σ Q := by
  have hn := S.2.2.1
  unfold wp_kernelAt wp_kernelAt_17
  intro σ1 e1
  have S1 : mSys σ1 n R A := mSys_gen (by rw [e1]; rfl) (by rw [e1]; rfl) (by rw [e1]; rfl) S
  have f1 : mFk σ σ1 := by rw [e1]; exact mFk_s (mFs_refl _)
  have t1 : gI σ1 0 = 1 := by rw [e1, gI_sI, if_pos rfl]
  refine sp_isColumn S1 (by rw [e1, gI_sI, if_neg (by omega)]; exact k14) k0 (fun w => ⟨fun _ => no σ1 f1 t1 (.inl (.inl w)), fun z => absurd rfl z⟩) fun c hc e => ⟨fun z => absurd z (by decide), fun _ => ⟨fun ge => ?_, fun lt => no σ1 f1 t1 (.inl (.inr (Int32.not_le.mp lt)))⟩⟩
  refine sp_solved S1 fun σ4 f W => ?_
  obtain ⟨k, w, hw, hk6, _, h31, hL, _⟩ := mWh_out W
  rw [h31]
  have end37 : ∀ u : Int32, ∀ σ5, σ5 = sI σ4 0 u → mFk σ σ5 ∧ gI σ5 0 = u := by
    intro u σ5 e5
    refine ⟨⟨fun j h0 h1 h2 => ?_, ?_, fun j h1 h2 => ?_⟩, by rw [e5, gI_sI, if_pos rfl]⟩
    · rw [e5]; show (if j = 0 then u else σ4.1 j) = _
      rw [if_neg h0, f.1 j h1 h2, f1.1 j h0 h1 h2]
    · rw [e5]; exact f.2.1.trans f1.2.1
    · rw [e5]; exact (f.2.2 j h1 h2).trans (f1.2.2 j h1 h2)
  unfold wp_kernelAt_37 wp_kernelAt_62
  refine ⟨fun le σ5 e5 => ?_, fun le σ5 e5 => ?_⟩
  · obtain ⟨g1, g2⟩ := end37 1 σ5 e5
    refine ⟨fun _ => no σ5 g1 g2 (.inr ⟨k, w, hw, .inr ⟨fun z => Int32.not_lt.mpr ge z, le⟩⟩), fun z => ?_⟩
    rw [g2] at z; exact absurd z (by decide)
  · obtain ⟨g1, g2⟩ := end37 0 σ5 e5
    refine ⟨fun z => absurd g2 z, fun _ => ?_⟩
    rcases col_ex hk6 p1 with u | ⟨i, hi, ei⟩
    · rcases u with u | u
      · exact absurd u (Int32.not_lt.mpr ge)
      · exact absurd u.2 le
    · rw [e, ei, i_six]
      refine ⟨(i_in (by omega)).mpr (by omega), ?_⟩
      have : gL σ5 30 (Int32.ofNat (6 * i + c)) = Int64.ofInt (w i c) := by
        rw [← hL i c hi hc, e5]; rfl
      rw [this]
      exact q σ5 k w i c g1 g2 hw hi hc ei e
/-- the desk -/
theorem sp_X1_solvable {ev ow : Nat → Nat} {D : Nat → Prop} {h : Hp} {a0 o e n R MC MS : Nat} {rf fd sh : Nat → Nat} {A : Nat → Nat → Int} {Q : Int32 → Hp → Prop} {Xr : String → Hp → Prop} (Dk : xDk ow h a0 rf fd sh) (X : xSol D h (rf 4) o e n R A) (mc : 1 ≤ MC) (ms : 6 ≤ MS) (un : hI h a0 8 = 0 → Xr eISE h) (q : hI h a0 8 ≠ 0 → ∀ b, (qSol n R A ∧ b = 1 ∨ ¬ qSol n R A ∧ b = 0) → Q b h) : wp_X1_solvable ev h a0 MC MS Q Xr := by
  obtain ⟨k, z, w, x1, x2, x3, x4, x5, x6, x7, x8⟩ := X
  have l := x4
  obtain ⟨d, ⟨l1, _⟩, _⟩ := l
  unfold wp_X1_solvable wp_X1_needSystem wp_X1_solvable_19
  refine ⟨MC, MS, 0, 0, by omega, by omega, Dk.1, Dk.1, fun k8 => ⟨Dk.1, rf 4, Dk.2.2.1 4 (by omega) (by omega) (by omega) (by omega) (by omega), l1, ?_⟩, fun k8 => ⟨MC - 1, MS - 6, by omega, by omega, un k8⟩⟩
  rcases x8 with ⟨s1, s2⟩ | ⟨s1, s2⟩
  · exact ⟨fun z => by rw [s2] at z; exact absurd z (by decide), fun _ => q k8 1 (.inl ⟨s1, rfl⟩)⟩
  · exact ⟨fun _ => q k8 0 (.inr ⟨s1, rfl⟩), fun z => absurd s2 z⟩
theorem sp_X1_kernel {ev ow : Nat → Nat} {D : Nat → Prop} {h : Hp} {a0 o e n R MC MS : Nat} {rf fd sh : Nat → Nat} {A : Nat → Nat → Int} {Q : Int32 → Hp → Prop} {Xr : String → Hp → Prop} (Dk : xDk ow h a0 rf fd sh) (X : xSol D h (rf 4) o e n R A) (mc : 1 ≤ MC) (ms : 6 ≤ MS) (un : hI h a0 8 = 0 → Xr eISE h) (q : hI h a0 8 ≠ 0 → ∀ k w, qWit n R A k w → Q (Int32.ofNat k) h) : wp_X1_kernel ev h a0 MC MS Q Xr := by
  obtain ⟨k, z, w, x1, x2, x3, x4, x5, x6, x7, x8⟩ := X
  have l := x4
  obtain ⟨d, ⟨l1, _⟩, _⟩ := l
  unfold wp_X1_kernel wp_X1_needSystem
  exact ⟨MC, MS, 0, 0, by omega, by omega, Dk.1, Dk.1, fun k8 => ⟨Dk.1, rf 4, Dk.2.2.1 4 (by omega) (by omega) (by omega) (by omega) (by omega), l1, sp_X5_dimension l1 x5 x6 x2 (q k8 k w x1)⟩, fun k8 => ⟨MC - 1, MS - 6, by omega, by omega, un k8⟩⟩
theorem sp_X1_kernelAt {ev ow : Nat → Nat} {D : Nat → Prop} {i : Nat} {h : Hp} {a0 o e n R vr MC MS : Nat} {rf fd sh : Nat → Nat} {A : Nat → Nat → Int} {Lt : Nat → Int32} {p1 p2 : Int32} {Q : Int64 → Hp → Prop} {Xr : String → Hp → Prop} (Dk : xDk ow h a0 rf fd sh) (M : xMo ow i h (rf 2) R n vr A Lt) (X : xSol D h (rf 4) o e n R A) (mc : 1 ≤ MC) (ms : 6 ≤ MS) (no : (∃ k w, qWit n R A k w ∧ (noCol k p1 ∨ noCol n p2)) → Xr eIOB h) (q : ∀ k w i c, qWit n R A k w → i < k → c < n → p1 = Int32.ofNat i → p2 = Int32.ofNat c → Q (Int64.ofInt (w i c)) h) : wp_X1_kernelAt ev h a0 p1 p2 MC MS Q Xr := by
  obtain ⟨k, z, w, x1, x2, x3, x4, x5, x6, x7, x8⟩ := X
  have l := x4
  obtain ⟨d, ⟨l1, _⟩, _⟩ := l
  have r4 := Dk.2.2.1 4 (by omega) (by omega) (by omega) (by omega) (by omega)
  have bad : (noCol k p1 ∨ noCol n p2) → wp_X1_kernelAt_23 ev Q Xr a0 h MC MS := fun hh => ⟨MC - 1, MS - 6, by omega, by omega, no ⟨k, w, x1, hh⟩⟩
  unfold wp_X1_kernelAt
  refine ⟨fun y => bad (.inl (.inl y)), fun y => ⟨Dk.1, rf 4, r4, l1, sp_X5_dimension l1 x5 x6 x2 ⟨fun y2 => bad (.inl (.inr ⟨y, y2⟩)), fun y2 => ⟨Dk.1, sp_X1_isColumn Dk M (fun nc => ⟨fun t => absurd rfl t, fun _ => bad (.inr nc)⟩) fun c hc ec => ⟨fun _ => ⟨Dk.1, rf 4, r4, l1, ?_⟩, fun t => absurd t (by decide)⟩⟩⟩⟩⟩
  rcases col_ex (show k ≤ 6 by omega) p1 with u | ⟨i', hi, ei⟩
  · rcases u with u | u
    · exact absurd u y
    · exact absurd u.2 y2
  · obtain ⟨b, b1, b2, b3, b4⟩ := x7 i' c hi (by omega)
    rw [ec, ei]
    exact sp_X5_kernelAt x4 x6 (by omega) (by omega) b1 b2 b3 b4 (q k w i' c x1 hi hc ei ec)
