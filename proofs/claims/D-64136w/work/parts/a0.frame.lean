/-! OWNERS AND FRAMES: ow says to which part of the component a cell belongs; hE I: only cells of the parts I have changed, and new ones are there -/
def hSame (h h2 : Hp) (a : Nat) : Prop :=
  h2.2.2.2.1 a = h.2.2.2.1 a ∧ h2.2.2.2.2.1 a = h.2.2.2.2.1 a ∧ h2.2.2.2.2.2.1 a = h.2.2.2.2.2.1 a ∧ h2.2.2.2.2.2.2.1 a = h.2.2.2.2.2.2.1 a ∧ h2.2.2.2.2.2.2.2 a = h.2.2.2.2.2.2.2 a
def hE (I : Nat → Prop) (ow : Nat → Nat) (h : Hp) (ow2 : Nat → Nat) (h2 : Hp) : Prop :=
  (∀ a, a ∈ h.1 → a ∈ h2.1 ∧ ow2 a = ow a ∧ h2.2.1 a = h.2.1 a ∧ h2.2.2.1 a = h.2.2.1 a) ∧ ∀ a, a ∈ h.1 → ¬ I (ow a) → hSame h h2 a
theorem hE_refl (I : Nat → Prop) (ow : Nat → Nat) (h : Hp) : hE I ow h ow h := ⟨fun a ha => ⟨ha, rfl, rfl, rfl⟩, fun a ha _ => ⟨rfl, rfl, rfl, rfl, rfl⟩⟩
theorem hE_trans {I : Nat → Prop} {ow ow2 ow3 : Nat → Nat} {h h2 h3 : Hp} (f : hE I ow h ow2 h2) (g : hE I ow2 h2 ow3 h3) : hE I ow h ow3 h3 := by
  refine ⟨fun a ha => ?_, fun a ha hi => ?_⟩
  · obtain ⟨a1, a2, a3, a4⟩ := f.1 a ha
    obtain ⟨b1, b2, b3, b4⟩ := g.1 a a1
    exact ⟨b1, b2.trans a2, b3.trans a3, b4.trans a4⟩
  · obtain ⟨a1, a2, a3, a4⟩ := f.1 a ha
    obtain ⟨e1, e2, e3, e4, e5⟩ := f.2 a ha hi
    obtain ⟨d1, d2, d3, d4, d5⟩ := g.2 a a1 (by rw [a2]; exact hi)
    exact ⟨d1.trans e1, d2.trans e2, d3.trans e3, d4.trans e4, d5.trans e5⟩
theorem hE_mono {I J : Nat → Prop} {ow ow2 : Nat → Nat} {h h2 : Hp} (f : hE I ow h ow2 h2) (hIJ : ∀ i, I i → J i) : hE J ow h ow2 h2 :=
  ⟨f.1, fun a ha hi => f.2 a ha fun w => hi (hIJ _ w)⟩
theorem hok_E {I : Nat → Prop} {ow ow2 : Nat → Nat} {h h2 : Hp} (f : hE I ow h ow2 h2) {a k : Nat} (ha : hok h a k) : hok h2 a k ∧ ow2 a = ow a ∧ hN h2 a = hN h a := by
  obtain ⟨a1, a2, a3, a4⟩ := f.1 a ha.1
  exact ⟨⟨a1, a3.trans ha.2⟩, a2, a4⟩
theorem hI_E {I : Nat → Prop} {ow ow2 : Nat → Nat} {h h2 : Hp} (f : hE I ow h ow2 h2) {a n : Nat} (ha : hok h a n) (hi : ¬ I (ow a)) (k : Nat) : hI h2 a k = hI h a k := by unfold hI; rw [(f.2 a ha.1 hi).1]
theorem hR_E {I : Nat → Prop} {ow ow2 : Nat → Nat} {h h2 : Hp} (f : hE I ow h ow2 h2) {a n : Nat} (ha : hok h a n) (hi : ¬ I (ow a)) (k : Nat) : hR h2 a k = hR h a k := by unfold hR; rw [(f.2 a ha.1 hi).2.1]
theorem hA_E {I : Nat → Prop} {ow ow2 : Nat → Nat} {h h2 : Hp} (f : hE I ow h ow2 h2) {a n : Nat} (ha : hok h a n) (hi : ¬ I (ow a)) (k : Int32) : hA h2 a k = hA h a k := by unfold hA; rw [(f.2 a ha.1 hi).2.2.1]
theorem hJ_E {I : Nat → Prop} {ow ow2 : Nat → Nat} {h h2 : Hp} (f : hE I ow h ow2 h2) {a n : Nat} (ha : hok h a n) (hi : ¬ I (ow a)) (k : Int32) : hJ h2 a k = hJ h a k := by unfold hJ; rw [(f.2 a ha.1 hi).2.2.2.1]
theorem hO_E {I : Nat → Prop} {ow ow2 : Nat → Nat} {h h2 : Hp} (f : hE I ow h ow2 h2) {a n : Nat} (ha : hok h a n) (hi : ¬ I (ow a)) (k : Int32) : hO h2 a k = hO h a k := by unfold hO; rw [(f.2 a ha.1 hi).2.2.2.2]
/-- one cell changed -/
theorem hE_uI {I : Nat → Prop} {ow : Nat → Nat} (h : Hp) {a : Nat} (hi : I (ow a)) (k : Nat) (x : Int32) : hE I ow h ow (uI h a k x) := by
  refine ⟨fun b hb => ⟨hb, rfl, rfl, rfl⟩, fun b hb hn => ?_⟩
  have : b ≠ a := fun e => hn (e ▸ hi)
  exact ⟨by simp [uI, va_up, this], rfl, rfl, rfl, rfl⟩
theorem hE_uR {I : Nat → Prop} {ow : Nat → Nat} (h : Hp) {a : Nat} (hi : I (ow a)) (k : Nat) (x : Option Nat) : hE I ow h ow (uR h a k x) := by
  refine ⟨fun b hb => ⟨hb, rfl, rfl, rfl⟩, fun b hb hn => ?_⟩
  have : b ≠ a := fun e => hn (e ▸ hi)
  exact ⟨rfl, by simp [uR, va_up, this], rfl, rfl, rfl⟩
theorem hE_uA {I : Nat → Prop} {ow : Nat → Nat} (h : Hp) {a : Nat} (hi : I (ow a)) (k x : Int32) : hE I ow h ow (uA h a k x) := by
  refine ⟨fun b hb => ⟨hb, rfl, rfl, rfl⟩, fun b hb hn => ?_⟩
  have : b ≠ a := fun e => hn (e ▸ hi)
  exact ⟨rfl, rfl, by simp [uA, uAf, va_up, this], rfl, rfl⟩
theorem hE_uAf {I : Nat → Prop} {ow : Nat → Nat} (h : Hp) {a : Nat} (hi : I (ow a)) (g : Nat → Int32) : hE I ow h ow (uAf h a g) := by
  refine ⟨fun b hb => ⟨hb, rfl, rfl, rfl⟩, fun b hb hn => ?_⟩
  have : b ≠ a := fun e => hn (e ▸ hi)
  exact ⟨rfl, rfl, by simp [uAf, va_up, this], rfl, rfl⟩
theorem hE_uJ {I : Nat → Prop} {ow : Nat → Nat} (h : Hp) {a : Nat} (hi : I (ow a)) (k : Int32) (x : Int64) : hE I ow h ow (uJ h a k x) := by
  refine ⟨fun b hb => ⟨hb, rfl, rfl, rfl⟩, fun b hb hn => ?_⟩
  have : b ≠ a := fun e => hn (e ▸ hi)
  exact ⟨rfl, rfl, rfl, by simp [uJ, uJf, va_up, this], rfl⟩
theorem hE_uO {I : Nat → Prop} {ow : Nat → Nat} (h : Hp) {a : Nat} (hi : I (ow a)) (k : Int32) (x : Option Nat) : hE I ow h ow (uO h a k x) := by
  refine ⟨fun b hb => ⟨hb, rfl, rfl, rfl⟩, fun b hb hn => ?_⟩
  have : b ≠ a := fun e => hn (e ▸ hi)
  exact ⟨rfl, rfl, rfl, rfl, by simp [uO, uOf, va_up, this]⟩
theorem hE_uOf {I : Nat → Prop} {ow : Nat → Nat} (h : Hp) {a : Nat} (hi : I (ow a)) (g : Nat → Option Nat) : hE I ow h ow (uOf h a g) := by
  refine ⟨fun b hb => ⟨hb, rfl, rfl, rfl⟩, fun b hb hn => ?_⟩
  have : b ≠ a := fun e => hn (e ▸ hi)
  exact ⟨rfl, rfl, rfl, rfl, by simp [uOf, va_up, this]⟩
/-- a new cell, of part i -/
def owS (ow : Nat → Nat) (q i : Nat) : Nat → Nat := fun a => if a = q then i else ow a
theorem owS_q (ow : Nat → Nat) (q i : Nat) : owS ow q i q = i := if_pos rfl
theorem owS_ne (ow : Nat → Nat) {q i a : Nat} (h : a ≠ q) : owS ow q i a = ow a := if_neg h
theorem hE_nO {I : Nat → Prop} {ow : Nat → Nat} {h : Hp} {q k : Nat} (i : Nat) (hq : q ∉ h.1) : hE I ow h (owS ow q i) (nO h q k) := by
  refine ⟨fun b hb => ?_, fun b hb hn => ?_⟩
  · have : b ≠ q := fun e => hq (e ▸ hb)
    exact ⟨List.mem_append_left _ hb, owS_ne ow this, by simp [nO, va_up, this], rfl⟩
  · have : b ≠ q := fun e => hq (e ▸ hb)
    exact ⟨by simp [nO, va_up, this], by simp [nO, va_up, this], rfl, rfl, rfl⟩
theorem hE_nA {I : Nat → Prop} {ow : Nat → Nat} {h : Hp} {q k n : Nat} (i : Nat) (hq : q ∉ h.1) : hE I ow h (owS ow q i) (nA h q k n) := by
  refine ⟨fun b hb => ?_, fun b hb hn => ?_⟩
  · have : b ≠ q := fun e => hq (e ▸ hb)
    exact ⟨List.mem_append_left _ hb, owS_ne ow this, by simp [nA, va_up, this], by simp [nA, va_up, this]⟩
  · have : b ≠ q := fun e => hq (e ▸ hb)
    exact ⟨rfl, rfl, by simp [nA, va_up, this], by simp [nA, va_up, this], by simp [nA, va_up, this]⟩
/-- the lattice's frame as a frame of its part -/
theorem hE_F {D : Nat → Prop} {o e a0 : Nat} {h h2 : Hp} {I : Nat → Prop} {ow : Nat → Nat} (f : xF D o e a0 h h2) (ho : I (ow o)) (he : I (ow e)) (ha : I (ow a0)) (hD : ∀ a, D a → I (ow a)) : hE I ow h ow h2 := by
  refine ⟨fun a h1 => ⟨by rw [f.1]; exact h1, rfl, by rw [f.2.1], by rw [f.2.2.1]⟩, fun a h1 hn => ?_⟩
  refine ⟨f.2.2.2.1 a fun w => hn (w ▸ ha), by rw [f.2.2.2.2.1], by rw [f.2.2.2.2.2.1], f.2.2.2.2.2.2.1 a (fun w => hn (hD a w)) fun w => hn (w ▸ he), f.2.2.2.2.2.2.2 a fun w => hn (w ▸ ho)⟩
