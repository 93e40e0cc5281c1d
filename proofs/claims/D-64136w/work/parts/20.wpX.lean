set_option maxRecDepth 100000
def wp_J7_max_10 (ev : Nat → Nat) (Qr : Int32 → Hp → Prop) (u0 : Int32) (h : Hp) : Prop :=
  Qr u0 h
/-- java/lang/Math.max(II)I -/
def wp_J7_max (ev : Nat → Nat) (h : Hp) (p0 : Int32) (p1 : Int32) (Qr : Int32 → Hp → Prop) : Prop :=
  (p0 < p1 →
    wp_J7_max_10 ev Qr  p1 h) ∧
  (¬ p0 < p1 →
    wp_J7_max_10 ev Qr  p0 h)
/-- jdk/internal/util/ArraysSupport.hugeLength(II)I -/
def wp_J10_hugeLength (ev : Nat → Nat) (h : Hp) (p0 : Int32) (p1 : Int32) (Qr : Int32 → Hp → Prop) : Prop :=
  ∀ (x1 : Int32), x1 = (p0 + p1) →
  (0 ≤ x1 →
    (2147483639 < x1 →
      Qr x1 h) ∧
    (¬ 2147483639 < x1 →
      Qr 2147483639 h)) ∧
  (¬ 0 ≤ x1 →
    False)
def wp_J10_newLength_21 (ev : Nat → Nat) (Qr : Int32 → Hp → Prop) (v0 : Int32) (v1 : Int32) (h : Hp) : Prop :=
  wp_J10_hugeLength ev h v0 v1 (fun (x2 : Int32) (h1 : Hp) =>
    Qr x2 h1)
/-- jdk/internal/util/ArraysSupport.newLength(III)I -/
def wp_J10_newLength (ev : Nat → Nat) (h : Hp) (p0 : Int32) (p1 : Int32) (p2 : Int32) (Qr : Int32 → Hp → Prop) : Prop :=
  wp_J7_max ev h p1 p2 (fun (x2 : Int32) (h1 : Hp) =>
    ∀ (x3 : Int32), x3 = (p0 + x2) →
    (x3 ≤ 0 →
      wp_J10_newLength_21 ev Qr  p0 p1 h1) ∧
    (¬ x3 ≤ 0 →
      (2147483639 < x3 →
        wp_J10_newLength_21 ev Qr  p0 p1 h1) ∧
      (¬ 2147483639 < x3 →
        Qr x3 h1)))
def wp_J7_min_10 (ev : Nat → Nat) (Qr : Int32 → Hp → Prop) (u0 : Int32) (h : Hp) : Prop :=
  Qr u0 h
/-- java/lang/Math.min(II)I -/
def wp_J7_min (ev : Nat → Nat) (h : Hp) (p0 : Int32) (p1 : Int32) (Qr : Int32 → Hp → Prop) : Prop :=
  (p1 < p0 →
    wp_J7_min_10 ev Qr  p1 h) ∧
  (¬ p1 < p0 →
    wp_J7_min_10 ev Qr  p0 h)
/-- java/util/Arrays.copyOf([Ljava/lang/Object;ILjava/lang/Class;)[Ljava/lang/Object; -/
def wp_J11_copyOf_2 (ev : Nat → Nat) (h : Hp) (p0 : Nat) (p1 : Int32) (p2 : Nat) (MC MS : Nat) (Qr : Option Nat → Hp → Prop) : Prop :=
  (¬ p2 = (ev 12) →
    False) ∧
  (p2 = (ev 12) →
    ¬ p1 < 0 ∧ ∀ (k1 : Nat), p1.toNatClampNeg = k1 → k1 ≤ 100000 ∧
    ∃ mc3 ms4 : Nat, MC = 1 + mc3 ∧ MS = k1 + ms4 ∧
    ∀ (q5 : Nat), (q5 ∉ h.1 ∧ q5 ≠ ev 11) → ∀ (h6 : Hp), h6 = nA h q5 26 k1 →
    (p0 = ev 11 ∨ hok h6 p0 26) ∧
    wp_J7_min ev h6 (hL ev h6 p0) p1 (fun (x9 : Int32) (h8 : Hp) =>
      hok h8 p0 26 ∧
      hok h8 q5 26 ∧
      (¬ (0 : Int32) < 0 ∧ ¬ (0 : Int32) < 0 ∧ ¬ (x9 : Int32) < 0 ∧ (0 : Int32).toNatClampNeg + (x9 : Int32).toNatClampNeg ≤ hN h8 p0 ∧ (0 : Int32).toNatClampNeg + (x9 : Int32).toNatClampNeg ≤ hN h8 q5 ∧ ∀ i : Nat, i < (x9 : Int32).toNatClampNeg → ∀ y : Nat, h8.2.2.2.2.2.2.2 p0 ((0 : Int32).toNatClampNeg + i) = some y → hok h8 y 10) ∧
      ∀ (h10 : Hp), h10 = uOf h8 q5 (va_cpy (h8.2.2.2.2.2.2.2 p0) (h8.2.2.2.2.2.2.2 q5) (0 : Int32).toNatClampNeg (0 : Int32).toNatClampNeg (x9 : Int32).toNatClampNeg) →
      Qr (some q5) h10))
/-- java/util/Arrays.copyOf([Ljava/lang/Object;I)[Ljava/lang/Object; -/
def wp_J11_copyOf (ev : Nat → Nat) (h : Hp) (p0 : Nat) (p1 : Int32) (MC MS : Nat) (Qr : Option Nat → Hp → Prop) : Prop :=
  hok h p0 26 ∧
  ∃ c2 d3 mc4 ms5 : Nat, MC = c2 + mc4 ∧ MS = d3 + ms5 ∧
  wp_J11_copyOf_2 ev h p0 p1 (ev 12) c2 d3 (fun (r7 : Option Nat) (h6 : Hp) =>
    ∃ b8 : Nat, r7 = some b8 ∧
    Qr (some b8) h6)
def wp_J6_grow_2_20 (ev : Nat → Nat) (Qr : Option Nat → Hp → Prop) (a0 : Nat) (v1 : Int32) (v2 : Int32) (h : Hp) (mc ms : Nat) : Prop :=
  wp_J10_newLength ev h v2 (v1 - v2) (v2 >>> (1 &&& 31)) (fun (x2 : Int32) (h1 : Hp) =>
    hok h1 a0 11 ∧
    ∃ b4 : Nat, hR h1 a0 1 = some b4 ∧
    ∃ c5 d6 mc7 ms8 : Nat, mc = c5 + mc7 ∧ ms = d6 + ms8 ∧
    wp_J11_copyOf ev h1 b4 x2 c5 d6 (fun (r10 : Option Nat) (h9 : Hp) =>
      ∃ b11 : Nat, r10 = some b11 ∧
      hok h9 a0 11 ∧
      ∀ (h12 : Hp), h12 = uR h9 a0 1 (some b11) →
      Qr (some b11) h12))
/-- java/util/ArrayList.grow(I)[Ljava/lang/Object; -/
def wp_J6_grow_2 (ev : Nat → Nat) (h : Hp) (a0 : Nat) (p1 : Int32) (MC MS : Nat) (Qr : Option Nat → Hp → Prop) : Prop :=
  hok h a0 11 ∧
  ∃ b2 : Nat, hR h a0 1 = some b2 ∧
  (b2 = ev 11 ∨ hok h b2 26) ∧
  ∀ (x4 : Int32), x4 = (hL ev h b2) →
  (0 < x4 →
    wp_J6_grow_2_20 ev Qr  a0 p1 x4 h MC MS) ∧
  (¬ 0 < x4 →
    hok h a0 11 ∧
    ∃ b6 : Nat, hR h a0 1 = some b6 ∧
    (b6 = (ev 11) →
      wp_J7_max ev h 10 p1 (fun (x8 : Int32) (h7 : Hp) =>
        ¬ x8 < 0 ∧ ∀ (k9 : Nat), x8.toNatClampNeg = k9 → k9 ≤ 100000 ∧
        ∃ mc11 ms12 : Nat, MC = 1 + mc11 ∧ MS = k9 + ms12 ∧
        ∀ (q13 : Nat), (q13 ∉ h7.1 ∧ q13 ≠ ev 11) → ∀ (h14 : Hp), h14 = nA h7 q13 26 k9 →
        hok h14 a0 11 ∧
        ∀ (h15 : Hp), h15 = uR h14 a0 1 (some q13) →
        Qr (some q13) h15)) ∧
    (¬ b6 = (ev 11) →
      wp_J6_grow_2_20 ev Qr  a0 p1 x4 h MC MS))
/-- java/util/ArrayList.grow()[Ljava/lang/Object; -/
def wp_J6_grow (ev : Nat → Nat) (h : Hp) (a0 : Nat) (MC MS : Nat) (Qr : Option Nat → Hp → Prop) : Prop :=
  hok h a0 11 ∧
  ∃ c2 d3 mc4 ms5 : Nat, MC = c2 + mc4 ∧ MS = d3 + ms5 ∧
  hok h a0 11 ∧
  wp_J6_grow_2 ev h a0 ((hI h a0 2) + 1) c2 d3 (fun (r7 : Option Nat) (h6 : Hp) =>
    ∃ b9 : Nat, r7 = some b9 ∧
    Qr (some b9) h6)
def wp_J6_add_2_11 (ev : Nat → Nat) (Qr : Hp → Prop) (a0 : Nat) (v1 : Nat) (v2 : Nat) (v3 : Int32) (h : Hp) (mc ms : Nat) : Prop :=
  hok h v2 26 ∧
  hok h v1 10 ∧
  vp_in v3 (hN h v2) ∧
  ∀ (h1 : Hp), h1 = uO h v2 v3 (some v1) →
  hok h1 a0 11 ∧
  ∀ (h5 : Hp), h5 = uI h1 a0 2 (v3 + 1) →
  Qr h5
/-- java/util/ArrayList.add(Ljava/lang/Object;[Ljava/lang/Object;I)V -/
def wp_J6_add_2 (ev : Nat → Nat) (h : Hp) (a0 : Nat) (p1 : Nat) (p2 : Nat) (p3 : Int32) (MC MS : Nat) (Qr : Hp → Prop) : Prop :=
  (p2 = ev 11 ∨ hok h p2 26) ∧
  (¬ p3 = (hL ev h p2) →
    wp_J6_add_2_11 ev Qr  a0 p1 p2 p3 h MC MS) ∧
  (p3 = (hL ev h p2) →
    ∃ c2 d3 mc4 ms5 : Nat, MC = c2 + mc4 ∧ MS = d3 + ms5 ∧
    hok h a0 11 ∧
    wp_J6_grow ev h a0 c2 d3 (fun (r7 : Option Nat) (h6 : Hp) =>
      ∃ b9 : Nat, r7 = some b9 ∧
      wp_J6_add_2_11 ev Qr  a0 p1 b9 p3 h6 mc4 ms5))
/-- java/util/ArrayList.add(Ljava/lang/Object;)Z -/
def wp_J6_add (ev : Nat → Nat) (h : Hp) (a0 : Nat) (p1 : Nat) (MC MS : Nat) (Qr : Int32 → Hp → Prop) : Prop :=
  hok h a0 11 ∧
  hok h a0 11 ∧
  ∀ (h2 : Hp), h2 = uI h a0 0 ((hI h a0 0) + 1) →
  hok h2 a0 11 ∧
  ∃ b5 : Nat, hR h2 a0 1 = some b5 ∧
  hok h2 a0 11 ∧
  ∃ c7 d8 mc9 ms10 : Nat, MC = c7 + mc9 ∧ MS = d8 + ms10 ∧
  hok h2 a0 11 ∧
  wp_J6_add_2 ev h2 a0 p1 b5 (hI h2 a0 2) c7 d8 (fun (h11 : Hp) =>
    isB 1 ∧ Qr 1 h11)
def wp_J6_rangeCheckForAdd_12 (ev : Nat → Nat) (Qr : Hp → Prop) (a0 : Nat) (h : Hp) : Prop :=
  False
/-- java/util/ArrayList.rangeCheckForAdd(I)V -/
def wp_J6_rangeCheckForAdd (ev : Nat → Nat) (h : Hp) (a0 : Nat) (p1 : Int32) (Qr : Hp → Prop) : Prop :=
  hok h a0 11 ∧
  ((hI h a0 2) < p1 →
    wp_J6_rangeCheckForAdd_12 ev Qr  a0 h) ∧
  (¬ (hI h a0 2) < p1 →
    (0 ≤ p1 →
      Qr h) ∧
    (¬ 0 ≤ p1 →
      wp_J6_rangeCheckForAdd_12 ev Qr  a0 h))
def wp_J6_add_3_38 (ev : Nat → Nat) (Qr : Hp → Prop) (a0 : Nat) (v1 : Int32) (v2 : Nat) (v3 : Int32) (v4 : Nat) (h : Hp) (mc ms : Nat) : Prop :=
  hok h v4 26 ∧
  hok h v4 26 ∧
  (¬ (v1 : Int32) < 0 ∧ ¬ ((v1 + 1) : Int32) < 0 ∧ ¬ ((v3 - v1) : Int32) < 0 ∧ (v1 : Int32).toNatClampNeg + ((v3 - v1) : Int32).toNatClampNeg ≤ hN h v4 ∧ ((v1 + 1) : Int32).toNatClampNeg + ((v3 - v1) : Int32).toNatClampNeg ≤ hN h v4 ∧ ∀ i : Nat, i < ((v3 - v1) : Int32).toNatClampNeg → ∀ y : Nat, h.2.2.2.2.2.2.2 v4 ((v1 : Int32).toNatClampNeg + i) = some y → hok h y 10) ∧
  ∀ (h1 : Hp), h1 = uOf h v4 (va_cpy (h.2.2.2.2.2.2.2 v4) (h.2.2.2.2.2.2.2 v4) (v1 : Int32).toNatClampNeg ((v1 + 1) : Int32).toNatClampNeg ((v3 - v1) : Int32).toNatClampNeg) →
  hok h1 v4 26 ∧
  hok h1 v2 10 ∧
  vp_in v1 (hN h1 v4) ∧
  ∀ (h5 : Hp), h5 = uO h1 v4 v1 (some v2) →
  hok h5 a0 11 ∧
  ∀ (h9 : Hp), h9 = uI h5 a0 2 (v3 + 1) →
  Qr h9
/-- java/util/ArrayList.add(ILjava/lang/Object;)V -/
def wp_J6_add_3 (ev : Nat → Nat) (h : Hp) (a0 : Nat) (p1 : Int32) (p2 : Nat) (MC MS : Nat) (Qr : Hp → Prop) : Prop :=
  hok h a0 11 ∧
  wp_J6_rangeCheckForAdd ev h a0 p1 (fun (h1 : Hp) =>
    hok h1 a0 11 ∧
    hok h1 a0 11 ∧
    ∀ (h4 : Hp), h4 = uI h1 a0 0 ((hI h1 a0 0) + 1) →
    hok h4 a0 11 ∧
    ∀ (x7 : Int32), x7 = (hI h4 a0 2) →
    hok h4 a0 11 ∧
    ∃ b9 : Nat, hR h4 a0 1 = some b9 ∧
    (b9 = ev 11 ∨ hok h4 b9 26) ∧
    (¬ x7 = (hL ev h4 b9) →
      wp_J6_add_3_38 ev Qr  a0 p1 p2 x7 b9 h4 MC MS) ∧
    (x7 = (hL ev h4 b9) →
      ∃ c11 d12 mc13 ms14 : Nat, MC = c11 + mc13 ∧ MS = d12 + ms14 ∧
      hok h4 a0 11 ∧
      wp_J6_grow ev h4 a0 c11 d12 (fun (r16 : Option Nat) (h15 : Hp) =>
        ∃ b18 : Nat, r16 = some b18 ∧
        wp_J6_add_3_38 ev Qr  a0 p1 p2 x7 b18 h15 mc13 ms14)))
def wp_J6_clear_27 (ev : Nat → Nat) (Qr : Hp → Prop) : Nat → Nat → Nat → Int32 → Int32 → Hp → Prop
  | 0, _, _, _, _, _ => False
  | n27 + 1, a0, v1, v2, v3, h =>
    (v2 ≤ v3 →
      Qr h) ∧
    (¬ v2 ≤ v3 →
      hok h v1 26 ∧
      vp_in v3 (hN h v1) ∧
      ∀ (h1 : Hp), h1 = uO h v1 v3 none →
      ∀ (x4 : Int32), x4 = v3 + 1 →
      wp_J6_clear_27 ev Qr n27 a0 v1 v2 x4 h1)
/-- java/util/ArrayList.clear()V -/
def wp_J6_clear (ev : Nat → Nat) (h : Hp) (a0 : Nat) (Qr : Hp → Prop) : Prop :=
  hok h a0 11 ∧
  hok h a0 11 ∧
  ∀ (h2 : Hp), h2 = uI h a0 0 ((hI h a0 0) + 1) →
  hok h2 a0 11 ∧
  ∃ b5 : Nat, hR h2 a0 1 = some b5 ∧
  hok h2 a0 11 ∧
  ∀ (x7 : Int32), x7 = (hI h2 a0 2) →
  hok h2 a0 11 ∧
  ∀ (h8 : Hp), h8 = uI h2 a0 2 0 →
  ∃ n27, wp_J6_clear_27 ev Qr  n27 a0 b5 x7 0 h8
def wp_J9_checkIndex_9 (ev : Nat → Nat) (Qr : Int32 → Hp → Prop) (v0 : Int32) (v1 : Int32) (v2 : Option Nat) (h : Hp) : Prop :=
  False
/-- jdk/internal/util/Preconditions.checkIndex(IILjava/util/function/BiFunction;)I -/
def wp_J9_checkIndex (ev : Nat → Nat) (h : Hp) (p0 : Int32) (p1 : Int32) (p2 : Option Nat) (Qr : Int32 → Hp → Prop) : Prop :=
  (p0 < 0 →
    wp_J9_checkIndex_9 ev Qr  p0 p1 p2 h) ∧
  (¬ p0 < 0 →
    (p0 < p1 →
      Qr p0 h) ∧
    (¬ p0 < p1 →
      wp_J9_checkIndex_9 ev Qr  p0 p1 p2 h))
/-- java/util/Objects.checkIndex(II)I -/
def wp_J8_checkIndex (ev : Nat → Nat) (h : Hp) (p0 : Int32) (p1 : Int32) (Qr : Int32 → Hp → Prop) : Prop :=
  wp_J9_checkIndex ev h p0 p1 none (fun (x2 : Int32) (h1 : Hp) =>
    Qr x2 h1)
/-- java/util/ArrayList.elementData(I)Ljava/lang/Object; -/
def wp_J6_elementData (ev : Nat → Nat) (h : Hp) (a0 : Nat) (p1 : Int32) (Qr : Option Nat → Hp → Prop) : Prop :=
  hok h a0 11 ∧
  ∃ b2 : Nat, hR h a0 1 = some b2 ∧
  hok h b2 26 ∧
  vp_in p1 (hN h b2) ∧
  Qr (hO h b2 p1) h
/-- java/util/ArrayList.get(I)Ljava/lang/Object; -/
def wp_J6_get (ev : Nat → Nat) (h : Hp) (a0 : Nat) (p1 : Int32) (Qr : Option Nat → Hp → Prop) : Prop :=
  hok h a0 11 ∧
  wp_J8_checkIndex ev h p1 (hI h a0 2) (fun (x3 : Int32) (h2 : Hp) =>
    hok h2 a0 11 ∧
    wp_J6_elementData ev h2 a0 p1 (fun (r5 : Option Nat) (h4 : Hp) =>
      Qr r5 h4))
def wp_J6_fastRemove_34 (ev : Nat → Nat) (Qr : Hp → Prop) (a0 : Nat) (v1 : Nat) (v3 : Int32) (h : Hp) : Prop :=
  hok h a0 11 ∧
  ∀ (h1 : Hp), h1 = uI h a0 2 v3 →
  hok h1 v1 26 ∧
  vp_in v3 (hN h1 v1) ∧
  ∀ (h3 : Hp), h3 = uO h1 v1 v3 none →
  Qr h3
/-- java/util/ArrayList.fastRemove([Ljava/lang/Object;I)V -/
def wp_J6_fastRemove (ev : Nat → Nat) (h : Hp) (a0 : Nat) (p1 : Nat) (p2 : Int32) (Qr : Hp → Prop) : Prop :=
  hok h a0 11 ∧
  hok h a0 11 ∧
  ∀ (h2 : Hp), h2 = uI h a0 0 ((hI h a0 0) + 1) →
  hok h2 a0 11 ∧
  ∀ (x5 : Int32), x5 = ((hI h2 a0 2) - 1) →
  (x5 ≤ p2 →
    wp_J6_fastRemove_34 ev Qr  a0 p1 x5 h2) ∧
  (¬ x5 ≤ p2 →
    hok h2 p1 26 ∧
    hok h2 p1 26 ∧
    (¬ ((p2 + 1) : Int32) < 0 ∧ ¬ (p2 : Int32) < 0 ∧ ¬ ((x5 - p2) : Int32) < 0 ∧ ((p2 + 1) : Int32).toNatClampNeg + ((x5 - p2) : Int32).toNatClampNeg ≤ hN h2 p1 ∧ (p2 : Int32).toNatClampNeg + ((x5 - p2) : Int32).toNatClampNeg ≤ hN h2 p1 ∧ ∀ i : Nat, i < ((x5 - p2) : Int32).toNatClampNeg → ∀ y : Nat, h2.2.2.2.2.2.2.2 p1 (((p2 + 1) : Int32).toNatClampNeg + i) = some y → hok h2 y 10) ∧
    ∀ (h6 : Hp), h6 = uOf h2 p1 (va_cpy (h2.2.2.2.2.2.2.2 p1) (h2.2.2.2.2.2.2.2 p1) ((p2 + 1) : Int32).toNatClampNeg (p2 : Int32).toNatClampNeg ((x5 - p2) : Int32).toNatClampNeg) →
    wp_J6_fastRemove_34 ev Qr  a0 p1 x5 h6)
/-- java/util/ArrayList.remove(I)Ljava/lang/Object; -/
def wp_J6_remove (ev : Nat → Nat) (h : Hp) (a0 : Nat) (p1 : Int32) (Qr : Option Nat → Hp → Prop) : Prop :=
  hok h a0 11 ∧
  wp_J8_checkIndex ev h p1 (hI h a0 2) (fun (x3 : Int32) (h2 : Hp) =>
    hok h2 a0 11 ∧
    ∃ b5 : Nat, hR h2 a0 1 = some b5 ∧
    hok h2 b5 26 ∧
    vp_in p1 (hN h2 b5) ∧
    hok h2 a0 11 ∧
    wp_J6_fastRemove ev h2 a0 b5 p1 (fun (h8 : Hp) =>
      Qr (hO h2 b5 p1) h8))
def wp_J6_isEmpty_12 (ev : Nat → Nat) (Qr : Int32 → Hp → Prop) (a0 : Nat) (u0 : Int32) (h : Hp) : Prop :=
  isB u0 ∧ Qr u0 h
/-- java/util/ArrayList.isEmpty()Z -/
def wp_J6_isEmpty (ev : Nat → Nat) (h : Hp) (a0 : Nat) (Qr : Int32 → Hp → Prop) : Prop :=
  hok h a0 11 ∧
  (¬ (hI h a0 2) = 0 →
    wp_J6_isEmpty_12 ev Qr  a0 0 h) ∧
  ((hI h a0 2) = 0 →
    wp_J6_isEmpty_12 ev Qr  a0 1 h)
def wp_J7_abs_10 (ev : Nat → Nat) (Qr : Int32 → Hp → Prop) (u0 : Int32) (h : Hp) : Prop :=
  Qr u0 h
/-- java/lang/Math.abs(I)I -/
def wp_J7_abs (ev : Nat → Nat) (h : Hp) (p0 : Int32) (Qr : Int32 → Hp → Prop) : Prop :=
  (0 ≤ p0 →
    wp_J7_abs_10 ev Qr  p0 h) ∧
  (¬ 0 ≤ p0 →
    wp_J7_abs_10 ev Qr  ((-p0)) h)
def wp_J7_abs_2_12 (ev : Nat → Nat) (Qr : Int64 → Hp → Prop) (u0 : Int64) (h : Hp) : Prop :=
  Qr u0 h
/-- java/lang/Math.abs(J)J -/
def wp_J7_abs_2 (ev : Nat → Nat) (h : Hp) (p0 : Int64) (Qr : Int64 → Hp → Prop) : Prop :=
  (0 ≤ (lg_cmp p0 0) →
    wp_J7_abs_2_12 ev Qr  p0 h) ∧
  (¬ 0 ≤ (lg_cmp p0 0) →
    wp_J7_abs_2_12 ev Qr  ((-p0)) h)
def wp_J7_floorDiv_27 (ev : Nat → Nat) (Qr : Int64 → Hp → Prop) (v4 : Int64) (h : Hp) : Prop :=
  Qr v4 h
/-- java/lang/Math.floorDiv(JJ)J -/
def wp_J7_floorDiv (ev : Nat → Nat) (h : Hp) (p0 : Int64) (p2 : Int64) (Qr : Int64 → Hp → Prop) : Prop :=
  ¬ p2 = 0 ∧
  ∀ (y2 : Int64), y2 = (p0 / p2) →
  (0 ≤ (lg_cmp (p0 ^^^ p2) 0) →
    wp_J7_floorDiv_27 ev Qr  y2 h) ∧
  (¬ 0 ≤ (lg_cmp (p0 ^^^ p2) 0) →
    ((lg_cmp (y2 * p2) p0) = 0 →
      wp_J7_floorDiv_27 ev Qr  y2 h) ∧
    (¬ (lg_cmp (y2 * p2) p0) = 0 →
      Qr (y2 - 1) h))
/-- LeastSolutions$Vector.<init>()V -/
def wp_X11_init (ev : Nat → Nat) (h : Hp) (a0 : Nat) (MC MS : Nat) (Qr : Hp → Prop) : Prop :=
  ∃ mc2 ms3 : Nat, MC = 1 + mc2 ∧ MS = 6 + ms3 ∧
  ∀ (q4 : Nat), q4 ∉ h.1 → ∀ (h5 : Hp), h5 = nA h q4 21 6 →
  hok h5 a0 10 ∧
  ∀ (h6 : Hp), h6 = uR h5 a0 0 (some q4) →
  Qr h6
def wp_X11_be_37 (ev : Nat → Nat) (Qr : Hp → Prop) (K7 : Nat → Nat → Int32 → Int32 → Hp → Prop) (a0 : Nat) (v1 : Nat) (v2 : Int32) (v3 : Int32) (u0 : Nat) (u1 : Int32) (u2 : Int32) (h : Hp) : Prop :=
  hok h u0 21 ∧
  vp_in u1 (hN h u0) ∧
  ∀ (h1 : Hp), h1 = uA h u0 u1 (vp_nar .byte ((u2).toInt8.toInt32)) →
  hok h1 a0 10 ∧
  hok h1 v1 20 ∧
  vp_in v3 (hN h1 v1) ∧
  hok h1 a0 10 ∧
  ∀ (h7 : Hp), h7 = uI h1 a0 1 ((hI h1 a0 1) + (hA h1 v1 v3)) →
  ∀ (x9 : Int32), x9 = v3 + 1 →
  K7 a0 v1 v2 x9 h7
def wp_X11_be_7 (ev : Nat → Nat) (Qr : Hp → Prop) : Nat → Nat → Nat → Int32 → Int32 → Hp → Prop
  | 0, _, _, _, _, _ => False
  | n7 + 1, a0, v1, v2, v3, h =>
    (6 ≤ v3 →
      Qr h) ∧
    (¬ 6 ≤ v3 →
      hok h a0 10 ∧
      ∃ b2 : Nat, hR h a0 0 = some b2 ∧
      (¬ ((v2 >>> (v3 &&& 31)) &&& 1) = 1 →
        hok h v1 20 ∧
        vp_in v3 (hN h v1) ∧
        wp_X11_be_37 ev Qr (wp_X11_be_7 ev Qr n7) a0 v1 v2 v3 b2 v3 ((hA h v1 v3)) h) ∧
      (((v2 >>> (v3 &&& 31)) &&& 1) = 1 →
        hok h v1 20 ∧
        vp_in v3 (hN h v1) ∧
        wp_X11_be_37 ev Qr (wp_X11_be_7 ev Qr n7) a0 v1 v2 v3 b2 v3 ((-(hA h v1 v3))) h))
/-- LeastSolutions$Vector.be([II)V -/
def wp_X11_be (ev : Nat → Nat) (h : Hp) (a0 : Nat) (p1 : Nat) (p2 : Int32) (Qr : Hp → Prop) : Prop :=
  hok h a0 10 ∧
  ∀ (h1 : Hp), h1 = uI h a0 1 0 →
  ∃ n7, wp_X11_be_7 ev Qr  n7 a0 p1 p2 0 h1
def wp_X11_show_2 (ev : Nat → Nat) (Qr : Hp → Prop) : Nat → Nat → Nat → Int32 → Hp → Prop
  | 0, _, _, _, _ => False
  | n2 + 1, a0, v1, v2, h =>
    (6 ≤ v2 →
      Qr h) ∧
    (¬ 6 ≤ v2 →
      hok h a0 10 ∧
      ∃ b2 : Nat, hR h a0 0 = some b2 ∧
      hok h b2 21 ∧
      vp_in v2 (hN h b2) ∧
      hok h v1 20 ∧
      vp_in v2 (hN h v1) ∧
      ∀ (h5 : Hp), h5 = uA h v1 v2 (hA h b2 v2) →
      ∀ (x8 : Int32), x8 = v2 + 1 →
      wp_X11_show_2 ev Qr n2 a0 v1 x8 h5)
/-- LeastSolutions$Vector.show([I)V -/
def wp_X11_show (ev : Nat → Nat) (h : Hp) (a0 : Nat) (p1 : Nat) (Qr : Hp → Prop) : Prop :=
  ∃ n2, wp_X11_show_2 ev Qr  n2 a0 p1 0 h
def wp_X11_isIn_38 (ev : Nat → Nat) (Qr : Int32 → Hp → Prop) (a0 : Nat) (v2 : Int32) (h : Hp) : Prop :=
  isB v2 ∧ Qr v2 h
def wp_X11_isIn_31 (ev : Nat → Nat) (Qr : Int32 → Hp → Prop) (K4 : Nat → Nat → Int32 → Int32 → Hp → Prop) (a0 : Nat) (v1 : Nat) (v3 : Int32) (u0 : Int32) (h : Hp) : Prop :=
  ∀ (x1 : Int32), x1 = v3 + 1 →
  K4 a0 v1 u0 x1 h
def wp_X11_isIn_4 (ev : Nat → Nat) (Qr : Int32 → Hp → Prop) : Nat → Nat → Nat → Int32 → Int32 → Hp → Prop
  | 0, _, _, _, _, _ => False
  | n4 + 1, a0, v1, v2, v3, h =>
    (6 ≤ v3 →
      wp_X11_isIn_38 ev Qr  a0 v2 h) ∧
    (¬ 6 ≤ v3 →
      (v2 = 0 →
        wp_X11_isIn_38 ev Qr  a0 v2 h) ∧
      (¬ v2 = 0 →
        hok h a0 10 ∧
        ∃ b2 : Nat, hR h a0 0 = some b2 ∧
        hok h b2 21 ∧
        vp_in v3 (hN h b2) ∧
        hok h v1 20 ∧
        vp_in v3 (hN h v1) ∧
        ((hA h v1 v3) < (hA h b2 v3) →
          wp_X11_isIn_31 ev Qr (wp_X11_isIn_4 ev Qr n4) a0 v1 v3 0 h) ∧
        (¬ (hA h v1 v3) < (hA h b2 v3) →
          wp_X11_isIn_31 ev Qr (wp_X11_isIn_4 ev Qr n4) a0 v1 v3 1 h)))
/-- LeastSolutions$Vector.isIn([I)Z -/
def wp_X11_isIn (ev : Nat → Nat) (h : Hp) (a0 : Nat) (p1 : Nat) (Qr : Int32 → Hp → Prop) : Prop :=
  ∃ n4, wp_X11_isIn_4 ev Qr  n4 a0 p1 1 0 h
def wp_X11_against_2_73 (ev : Nat → Nat) (Qr : Int32 → Hp → Prop) (a0 : Nat) (u0 : Int32) (h : Hp) : Prop :=
  Qr u0 h
def wp_X11_against_2_50 (ev : Nat → Nat) (Qr : Int32 → Hp → Prop) (a0 : Nat) (v1 : Nat) (v2 : Int32) (h : Hp) : Prop :=
  (¬ v2 = 6 →
    hok h a0 10 ∧
    ∃ b2 : Nat, hR h a0 0 = some b2 ∧
    hok h b2 21 ∧
    vp_in v2 (hN h b2) ∧
    hok h v1 10 ∧
    ∃ b6 : Nat, hR h v1 0 = some b6 ∧
    hok h b6 21 ∧
    vp_in v2 (hN h b6) ∧
    wp_X11_against_2_73 ev Qr  a0 (((hA h b2 v2) - (hA h b6 v2))) h) ∧
  (v2 = 6 →
    wp_X11_against_2_73 ev Qr  a0 0 h)
def wp_X11_against_2_23 (ev : Nat → Nat) (Qr : Int32 → Hp → Prop) : Nat → Nat → Nat → Int32 → Hp → Prop
  | 0, _, _, _, _ => False
  | n23 + 1, a0, v1, v2, h =>
    (6 ≤ v2 →
      wp_X11_against_2_50 ev Qr  a0 v1 v2 h) ∧
    (¬ 6 ≤ v2 →
      hok h a0 10 ∧
      ∃ b2 : Nat, hR h a0 0 = some b2 ∧
      hok h b2 21 ∧
      vp_in v2 (hN h b2) ∧
      hok h v1 10 ∧
      ∃ b6 : Nat, hR h v1 0 = some b6 ∧
      hok h b6 21 ∧
      vp_in v2 (hN h b6) ∧
      (¬ (hA h b2 v2) = (hA h b6 v2) →
        wp_X11_against_2_50 ev Qr  a0 v1 v2 h) ∧
      ((hA h b2 v2) = (hA h b6 v2) →
        ∀ (x9 : Int32), x9 = v2 + 1 →
        wp_X11_against_2_23 ev Qr n23 a0 v1 x9 h))
/-- LeastSolutions$Vector.against(LLeastSolutions$Vector;)I -/
def wp_X11_against_2 (ev : Nat → Nat) (h : Hp) (a0 : Nat) (p1 : Nat) (Qr : Int32 → Hp → Prop) : Prop :=
  hok h a0 10 ∧
  hok h p1 10 ∧
  ((hI h a0 1) = (hI h p1 1) →
    ∃ n23, wp_X11_against_2_23 ev Qr  n23 a0 p1 0 h) ∧
  (¬ (hI h a0 1) = (hI h p1 1) →
    hok h a0 10 ∧
    hok h p1 10 ∧
    Qr ((hI h a0 1) - (hI h p1 1)) h)
/-- LeastSolutions$Vector.against(Ljava/lang/Object;)I -/
def wp_X11_against (ev : Nat → Nat) (h : Hp) (a0 : Nat) (p1 : Nat) (Qr : Int32 → Hp → Prop) : Prop :=
  hok h p1 10 ∧
  hok h a0 10 ∧
  wp_X11_against_2 ev h a0 p1 (fun (x3 : Int32) (h2 : Hp) =>
    Qr x3 h2)
/-- java/util/AbstractCollection.<init>()V -/
def wp_J4_init (ev : Nat → Nat) (h : Hp) (a0 : Nat) (Qr : Hp → Prop) : Prop :=
  Qr h
/-- java/util/AbstractList.<init>()V -/
def wp_J5_init (ev : Nat → Nat) (h : Hp) (a0 : Nat) (Qr : Hp → Prop) : Prop :=
  wp_J4_init ev h a0 (fun (h1 : Hp) =>
    hok h1 a0 11 ∧
    ∀ (h2 : Hp), h2 = uI h1 a0 0 0 →
    Qr h2)
/-- java/util/ArrayList.<init>()V -/
def wp_J6_init (ev : Nat → Nat) (h : Hp) (a0 : Nat) (Qr : Hp → Prop) : Prop :=
  wp_J5_init ev h a0 (fun (h1 : Hp) =>
    hok h1 a0 11 ∧
    ∀ (h2 : Hp), h2 = uR h1 a0 1 (some (ev 11)) →
    Qr h2)
/-- LeastSolutions$Shelf.<init>()V -/
def wp_X7_init (ev : Nat → Nat) (h : Hp) (a0 : Nat) (MC MS : Nat) (Qr : Hp → Prop) : Prop :=
  ∃ mc1 ms2 : Nat, MC = 1 + mc1 ∧ MS = 3 + ms2 ∧
  ∀ (q3 : Nat), q3 ∉ h.1 → ∀ (h4 : Hp), h4 = nO h q3 11 →
  wp_J6_init ev h4 q3 (fun (h5 : Hp) =>
    hok h5 a0 6 ∧
    ∀ (h6 : Hp), h6 = uR h5 a0 0 (some q3) →
    ∃ mc8 ms9 : Nat, mc1 = 1 + mc8 ∧ ms2 = 3 + ms9 ∧
    ∀ (q10 : Nat), q10 ∉ h6.1 → ∀ (h11 : Hp), h11 = nO h6 q10 11 →
    wp_J6_init ev h11 q10 (fun (h12 : Hp) =>
      hok h12 a0 6 ∧
      ∀ (h13 : Hp), h13 = uR h12 a0 1 (some q10) →
      Qr h13))
/-- java/util/ArrayList.size()I -/
def wp_J6_size (ev : Nat → Nat) (h : Hp) (a0 : Nat) (Qr : Int32 → Hp → Prop) : Prop :=
  hok h a0 11 ∧
  Qr (hI h a0 2) h
/-- LeastSolutions$Shelf.size()I -/
def wp_X7_size (ev : Nat → Nat) (h : Hp) (a0 : Nat) (Qr : Int32 → Hp → Prop) : Prop :=
  hok h a0 6 ∧
  ∃ b2 : Nat, hR h a0 0 = some b2 ∧
  hok h b2 11 ∧
  wp_J6_size ev h b2 (fun (x4 : Int32) (h3 : Hp) =>
    Qr x4 h3)
/-- LeastSolutions$Shelf.get(I)LLeastSolutions$Ranked; -/
def wp_X7_get (ev : Nat → Nat) (h : Hp) (a0 : Nat) (p1 : Int32) (Qr : Option Nat → Hp → Prop) : Prop :=
  hok h a0 6 ∧
  ∃ b2 : Nat, hR h a0 0 = some b2 ∧
  hok h b2 11 ∧
  wp_J6_get ev h b2 p1 (fun (r4 : Option Nat) (h3 : Hp) =>
    (∀ b : Nat, r4 = some b → hok h3 b 10) ∧
    Qr r4 h3)
def wp_X7_clear_2 (ev : Nat → Nat) (Qr : Hp → Prop) : Nat → Nat → Int32 → Hp → Nat → Nat → Prop
  | 0, _, _, _, _, _ => False
  | n2 + 1, a0, v1, h, mc, ms =>
    hok h a0 6 ∧
    ∃ b2 : Nat, hR h a0 0 = some b2 ∧
    hok h b2 11 ∧
    wp_J6_size ev h b2 (fun (x4 : Int32) (h3 : Hp) =>
      (x4 ≤ v1 →
        hok h3 a0 6 ∧
        ∃ b7 : Nat, hR h3 a0 0 = some b7 ∧
        hok h3 b7 11 ∧
        wp_J6_clear ev h3 b7 (fun (h8 : Hp) =>
          Qr h8)) ∧
      (¬ x4 ≤ v1 →
        hok h3 a0 6 ∧
        ∃ b11 : Nat, hR h3 a0 1 = some b11 ∧
        hok h3 a0 6 ∧
        ∃ b13 : Nat, hR h3 a0 0 = some b13 ∧
        hok h3 b13 11 ∧
        wp_J6_get ev h3 b13 v1 (fun (r15 : Option Nat) (h14 : Hp) =>
          (∀ b : Nat, r15 = some b → hok h14 b 10) ∧
          ∃ b18 : Nat, r15 = some b18 ∧
          ∃ c19 d20 mc21 ms22 : Nat, mc = c19 + mc21 ∧ ms = d20 + ms22 ∧
          hok h14 b11 11 ∧
          wp_J6_add ev h14 b11 b18 c19 d20 (fun (x24 : Int32) (h23 : Hp) =>
            ∀ (x26 : Int32), x26 = v1 + 1 →
            wp_X7_clear_2 ev Qr n2 a0 x26 h23 mc21 ms22))))
/-- LeastSolutions$Shelf.clear()V -/
def wp_X7_clear (ev : Nat → Nat) (h : Hp) (a0 : Nat) (MC MS : Nat) (Qr : Hp → Prop) : Prop :=
  ∃ n2, wp_X7_clear_2 ev Qr  n2 a0 0 h MC MS
def wp_X7_spare_33 (ev : Nat → Nat) (Qr : Option Nat → Hp → Prop) (a0 : Nat) (u0 : Option Nat) (h : Hp) : Prop :=
  Qr u0 h
/-- LeastSolutions$Shelf.spare()LLeastSolutions$Ranked; -/
def wp_X7_spare (ev : Nat → Nat) (h : Hp) (a0 : Nat) (Qr : Option Nat → Hp → Prop) : Prop :=
  hok h a0 6 ∧
  ∃ b2 : Nat, hR h a0 1 = some b2 ∧
  hok h b2 11 ∧
  wp_J6_isEmpty ev h b2 (fun (x4 : Int32) (h3 : Hp) =>
    (x4 = 0 →
      hok h3 a0 6 ∧
      ∃ b7 : Nat, hR h3 a0 1 = some b7 ∧
      hok h3 a0 6 ∧
      ∃ b9 : Nat, hR h3 a0 1 = some b9 ∧
      hok h3 b9 11 ∧
      wp_J6_size ev h3 b9 (fun (x11 : Int32) (h10 : Hp) =>
        hok h10 b7 11 ∧
        wp_J6_remove ev h10 b7 (x11 - 1) (fun (r14 : Option Nat) (h13 : Hp) =>
          (∀ b : Nat, r14 = some b → hok h13 b 10) ∧
          wp_X7_spare_33 ev Qr  a0 r14 h13))) ∧
    (¬ x4 = 0 →
      wp_X7_spare_33 ev Qr  a0 none h3))
/-- LeastSolutions$Found.<init>()V -/
def wp_X9_init (ev : Nat → Nat) (h : Hp) (a0 : Nat) (MC MS : Nat) (Qr : Hp → Prop) : Prop :=
  ∃ mc1 ms2 : Nat, MC = 1 + mc1 ∧ MS = 2 + ms2 ∧
  ∀ (q3 : Nat), q3 ∉ h.1 → ∀ (h4 : Hp), h4 = nO h q3 6 →
  ∃ c5 d6 mc7 ms8 : Nat, mc1 = c5 + mc7 ∧ ms2 = d6 + ms8 ∧
  wp_X7_init ev h4 q3 c5 d6 (fun (h9 : Hp) =>
    hok h9 a0 8 ∧
    ∀ (h10 : Hp), h10 = uR h9 a0 0 (some q3) →
    hok h10 a0 8 ∧
    ∀ (h12 : Hp), h12 = uI h10 a0 1 (-1) →
    Qr h12)
def wp_X9_isThere_12 (ev : Nat → Nat) (Qr : Int32 → Hp → Prop) (a0 : Nat) (u0 : Int32) (h : Hp) : Prop :=
  isB u0 ∧ Qr u0 h
/-- LeastSolutions$Found.isThere()Z -/
def wp_X9_isThere (ev : Nat → Nat) (h : Hp) (a0 : Nat) (Qr : Int32 → Hp → Prop) : Prop :=
  hok h a0 8 ∧
  ((hI h a0 1) < 0 →
    wp_X9_isThere_12 ev Qr  a0 0 h) ∧
  (¬ (hI h a0 1) < 0 →
    wp_X9_isThere_12 ev Qr  a0 1 h)
/-- LeastSolutions$Found.clear()V -/
def wp_X9_clear (ev : Nat → Nat) (h : Hp) (a0 : Nat) (MC MS : Nat) (Qr : Hp → Prop) : Prop :=
  hok h a0 8 ∧
  ∃ b2 : Nat, hR h a0 0 = some b2 ∧
  ∃ c3 d4 mc5 ms6 : Nat, MC = c3 + mc5 ∧ MS = d4 + ms6 ∧
  hok h b2 6 ∧
  wp_X7_clear ev h b2 c3 d4 (fun (h7 : Hp) =>
    hok h7 a0 8 ∧
    ∀ (h9 : Hp), h9 = uI h7 a0 1 (-1) →
    Qr h9)
/-- LeastSolutions$Scanner.<init>()V -/
def wp_X2_init (ev : Nat → Nat) (h : Hp) (a0 : Nat) (MC MS : Nat) (Qr : Hp → Prop) : Prop :=
  ∃ mc2 ms3 : Nat, MC = 1 + mc2 ∧ MS = 300 + ms3 ∧
  ∀ (q4 : Nat), q4 ∉ h.1 → ∀ (h5 : Hp), h5 = nA h q4 21 300 →
  hok h5 a0 1 ∧
  ∀ (h6 : Hp), h6 = uR h5 a0 0 (some q4) →
  hok h6 a0 1 ∧
  ∀ (h8 : Hp), h8 = uR h6 a0 3 (some (ev 9)) →
  Qr h8
def wp_X2_at_18 (ev : Nat → Nat) (Qr : Int32 → Hp → Prop) (a0 : Nat) (u0 : Int32) (h : Hp) : Prop :=
  Qr u0 h
/-- LeastSolutions$Scanner.at(I)I -/
def wp_X2_at (ev : Nat → Nat) (h : Hp) (a0 : Nat) (p1 : Int32) (Qr : Int32 → Hp → Prop) : Prop :=
  hok h a0 1 ∧
  ((hI h a0 1) ≤ p1 →
    wp_X2_at_18 ev Qr  a0 (-1) h) ∧
  (¬ (hI h a0 1) ≤ p1 →
    hok h a0 1 ∧
    ∃ b3 : Nat, hR h a0 0 = some b3 ∧
    hok h b3 21 ∧
    vp_in p1 (hN h b3) ∧
    wp_X2_at_18 ev Qr  a0 ((hA h b3 p1)) h)
def wp_X2_isDigit_25 (ev : Nat → Nat) (Qr : Int32 → Hp → Prop) (a0 : Nat) (u0 : Int32) (h : Hp) : Prop :=
  isB u0 ∧ Qr u0 h
def wp_X2_isDigit_24 (ev : Nat → Nat) (Qr : Int32 → Hp → Prop) (a0 : Nat) (h : Hp) : Prop :=
  wp_X2_isDigit_25 ev Qr  a0 0 h
/-- LeastSolutions$Scanner.isDigit(I)Z -/
def wp_X2_isDigit (ev : Nat → Nat) (h : Hp) (a0 : Nat) (p1 : Int32) (Qr : Int32 → Hp → Prop) : Prop :=
  hok h a0 1 ∧
  wp_X2_at ev h a0 p1 (fun (x2 : Int32) (h1 : Hp) =>
    (x2 < 48 →
      wp_X2_isDigit_24 ev Qr  a0 h1) ∧
    (¬ x2 < 48 →
      hok h1 a0 1 ∧
      wp_X2_at ev h1 a0 p1 (fun (x5 : Int32) (h4 : Hp) =>
        (57 < x5 →
          wp_X2_isDigit_24 ev Qr  a0 h4) ∧
        (¬ 57 < x5 →
          wp_X2_isDigit_25 ev Qr  a0 1 h4))))
def wp_X2_number_74 (ev : Nat → Nat) (Qr : Option Nat → Hp → Prop) (a0 : Nat) (u0 : Nat) (h : Hp) : Prop :=
  Qr (some u0) h
def wp_X2_number_5 (ev : Nat → Nat) (Qr : Option Nat → Hp → Prop) : Nat → Nat → Hp → Prop
  | 0, _, _ => False
  | n5 + 1, a0, h =>
    hok h a0 1 ∧
    hok h a0 1 ∧
    wp_X2_isDigit ev h a0 (hI h a0 2) (fun (x3 : Int32) (h2 : Hp) =>
      (x3 = 0 →
        hok h2 a0 1 ∧
        hok h2 a0 1 ∧
        (((hI h2 a0 2) - (hI h2 a0 4)) ≤ 4 →
          wp_X2_number_74 ev Qr  a0 ((ev 0)) h2) ∧
        (¬ ((hI h2 a0 2) - (hI h2 a0 4)) ≤ 4 →
          wp_X2_number_74 ev Qr  a0 ((ev 10)) h2)) ∧
      (¬ x3 = 0 →
        hok h2 a0 1 ∧
        hok h2 a0 1 ∧
        hok h2 a0 1 ∧
        wp_X2_at ev h2 a0 (hI h2 a0 2) (fun (x10 : Int32) (h9 : Hp) =>
          hok h9 a0 1 ∧
          ∀ (h12 : Hp), h12 = uI h9 a0 5 (((10 * (hI h2 a0 5)) + x10) - 48) →
          hok h12 a0 1 ∧
          hok h12 a0 1 ∧
          ∀ (h15 : Hp), h15 = uI h12 a0 2 ((hI h12 a0 2) + 1) →
          wp_X2_number_5 ev Qr n5 a0 h15)))
/-- LeastSolutions$Scanner.number()LLeastSolutions$Word; -/
def wp_X2_number (ev : Nat → Nat) (h : Hp) (a0 : Nat) (Qr : Option Nat → Hp → Prop) : Prop :=
  hok h a0 1 ∧
  ∀ (h1 : Hp), h1 = uI h a0 5 0 →
  ∃ n5, wp_X2_number_5 ev Qr  n5 a0 h1
def wp_X2_scan_215 (ev : Nat → Nat) (Qr : Option Nat → Hp → Prop) (a0 : Nat) (u0 : Nat) (h : Hp) : Prop :=
  Qr (some u0) h
def wp_X2_scan_186 (ev : Nat → Nat) (Qr : Option Nat → Hp → Prop) (a0 : Nat) (v1 : Int32) (v2 : Int32) (u0 : Nat) (u1 : Int32) (u2 : Int32) (h : Hp) : Prop :=
  hok h u0 1 ∧
  ∀ (h1 : Hp), h1 = uI h u0 2 (u1 + u2) →
  (¬ v2 = 0 →
    (¬ v1 = 60 →
      wp_X2_scan_215 ev Qr  a0 ((ev 7)) h1) ∧
    (v1 = 60 →
      wp_X2_scan_215 ev Qr  a0 ((ev 6)) h1)) ∧
  (v2 = 0 →
    wp_X2_scan_215 ev Qr  a0 ((ev 10)) h1)
def wp_X2_scan_172 (ev : Nat → Nat) (Qr : Option Nat → Hp → Prop) (a0 : Nat) (v1 : Int32) (v2 : Int32) (h : Hp) : Prop :=
  hok h a0 1 ∧
  (v2 = 0 →
    wp_X2_scan_186 ev Qr  a0 v1 v2 a0 ((hI h a0 2)) 0 h) ∧
  (¬ v2 = 0 →
    wp_X2_scan_186 ev Qr  a0 v1 v2 a0 ((hI h a0 2)) 1 h)
def wp_X2_scan_71 (ev : Nat → Nat) (Qr : Option Nat → Hp → Prop) (a0 : Nat) (v1 : Int32) (u0 : Int32) (h : Hp) : Prop :=
  (v1 = (-1) →
    Qr (some (ev 9)) h) ∧
  (¬ v1 = (-1) →
    (v1 = 42 →
      Qr (some (ev 4)) h) ∧
    (¬ v1 = 42 →
      (v1 = 43 →
        Qr (some (ev 2)) h) ∧
      (¬ v1 = 43 →
        (v1 = 45 →
          Qr (some (ev 3)) h) ∧
        (¬ v1 = 45 →
          (v1 = 59 →
            Qr (some (ev 8)) h) ∧
          (¬ v1 = 59 →
            (v1 = 60 →
              wp_X2_scan_172 ev Qr  a0 v1 u0 h) ∧
            (¬ v1 = 60 →
              (v1 = 61 →
                Qr (some (ev 5)) h) ∧
              (¬ v1 = 61 →
                (v1 = 62 →
                  wp_X2_scan_172 ev Qr  a0 v1 u0 h) ∧
                (¬ v1 = 62 →
                  Qr (some (ev 10)) h))))))))
def wp_X2_scan_53 (ev : Nat → Nat) (Qr : Option Nat → Hp → Prop) (a0 : Nat) (v1 : Int32) (h : Hp) : Prop :=
  hok h a0 1 ∧
  hok h a0 1 ∧
  wp_X2_at ev h a0 (hI h a0 2) (fun (x3 : Int32) (h2 : Hp) =>
    (¬ x3 = 61 →
      wp_X2_scan_71 ev Qr  a0 v1 0 h2) ∧
    (x3 = 61 →
      wp_X2_scan_71 ev Qr  a0 v1 1 h2))
/-- LeastSolutions$Scanner.scan()LLeastSolutions$Word; -/
def wp_X2_scan (ev : Nat → Nat) (h : Hp) (a0 : Nat) (Qr : Option Nat → Hp → Prop) : Prop :=
  hok h a0 1 ∧
  hok h a0 1 ∧
  wp_X2_isDigit ev h a0 (hI h a0 2) (fun (x3 : Int32) (h2 : Hp) =>
    (x3 = 0 →
      hok h2 a0 1 ∧
      ∀ (x6 : Int32), x6 = (hI h2 a0 2) →
      hok h2 a0 1 ∧
      ∀ (h7 : Hp), h7 = uI h2 a0 2 (x6 + 1) →
      hok h7 a0 1 ∧
      wp_X2_at ev h7 a0 x6 (fun (x10 : Int32) (h9 : Hp) =>
        hok h9 a0 1 ∧
        ∀ (h12 : Hp), h12 = uI h9 a0 5 x10 →
        (x10 < 97 →
          wp_X2_scan_53 ev Qr  a0 x10 h12) ∧
        (¬ x10 < 97 →
          (122 < x10 →
            wp_X2_scan_53 ev Qr  a0 x10 h12) ∧
          (¬ 122 < x10 →
            Qr (some (ev 1)) h12)))) ∧
    (¬ x3 = 0 →
      hok h2 a0 1 ∧
      wp_X2_number ev h2 a0 (fun (r15 : Option Nat) (h14 : Hp) =>
        ∃ b17 : Nat, r15 = some b17 ∧
        Qr (some b17) h14)))
def wp_X2_advance_0 (ev : Nat → Nat) (Qr : Hp → Prop) : Nat → Nat → Hp → Prop
  | 0, _, _ => False
  | n0 + 1, a0, h =>
    hok h a0 1 ∧
    hok h a0 1 ∧
    wp_X2_at ev h a0 (hI h a0 2) (fun (x3 : Int32) (h2 : Hp) =>
      (¬ x3 = 32 →
        hok h2 a0 1 ∧
        hok h2 a0 1 ∧
        ∀ (h6 : Hp), h6 = uI h2 a0 4 (hI h2 a0 2) →
        hok h6 a0 1 ∧
        wp_X2_scan ev h6 a0 (fun (r9 : Option Nat) (h8 : Hp) =>
          ∃ b11 : Nat, r9 = some b11 ∧
          hok h8 a0 1 ∧
          ∀ (h12 : Hp), h12 = uR h8 a0 3 (some b11) →
          Qr h12)) ∧
      (x3 = 32 →
        hok h2 a0 1 ∧
        hok h2 a0 1 ∧
        ∀ (h15 : Hp), h15 = uI h2 a0 2 ((hI h2 a0 2) + 1) →
        wp_X2_advance_0 ev Qr n0 a0 h15))
/-- LeastSolutions$Scanner.advance()V -/
def wp_X2_advance (ev : Nat → Nat) (h : Hp) (a0 : Nat) (Qr : Hp → Prop) : Prop :=
  ∃ n0, wp_X2_advance_0 ev Qr  n0 a0 h
/-- LeastSolutions$Scanner.begin()V -/
def wp_X2_begin (ev : Nat → Nat) (h : Hp) (a0 : Nat) (Qr : Hp → Prop) : Prop :=
  hok h a0 1 ∧
  ∀ (h1 : Hp), h1 = uI h a0 2 0 →
  hok h1 a0 1 ∧
  wp_X2_advance ev h1 a0 (fun (h3 : Hp) =>
    Qr h3)
def wp_X4_clear_31 (ev : Nat → Nat) (Qr : Hp → Prop) (K17 : Nat → Int32 → Hp → Prop) : Nat → Nat → Int32 → Int32 → Hp → Prop
  | 0, _, _, _, _ => False
  | n31 + 1, a0, v1, v2, h =>
    (6 ≤ v2 →
      ∀ (x1 : Int32), x1 = v1 + 1 →
      K17 a0 x1 h) ∧
    (¬ 6 ≤ v2 →
      hok h a0 3 ∧
      ∃ b3 : Nat, hR h a0 4 = some b3 ∧
      hok h b3 24 ∧
      vp_in v1 (hN h b3) ∧
      ∃ b6 : Nat, hO h b3 v1 = some b6 ∧
      hok h b6 20 ∧
      vp_in v2 (hN h b6) ∧
      ∀ (h7 : Hp), h7 = uA h b6 v2 0 →
      ∀ (x10 : Int32), x10 = v2 + 1 →
      wp_X4_clear_31 ev Qr K17 n31 a0 v1 x10 h7)
def wp_X4_clear_17 (ev : Nat → Nat) (Qr : Hp → Prop) : Nat → Nat → Int32 → Hp → Prop
  | 0, _, _, _ => False
  | n17 + 1, a0, v1, h =>
    (4 ≤ v1 →
      Qr h) ∧
    (¬ 4 ≤ v1 →
      hok h a0 3 ∧
      ∃ b2 : Nat, hR h a0 5 = some b2 ∧
      hok h b2 20 ∧
      vp_in v1 (hN h b2) ∧
      ∀ (h3 : Hp), h3 = uA h b2 v1 0 →
      ∃ n31, wp_X4_clear_31 ev Qr (wp_X4_clear_17 ev Qr n17) n31 a0 v1 0 h3)
/-- LeastSolutions$Model.clear()V -/
def wp_X4_clear (ev : Nat → Nat) (h : Hp) (a0 : Nat) (Qr : Hp → Prop) : Prop :=
  hok h a0 3 ∧
  ∀ (h1 : Hp), h1 = uI h a0 0 0 →
  hok h1 a0 3 ∧
  ∀ (h3 : Hp), h3 = uI h1 a0 1 0 →
  hok h3 a0 3 ∧
  ∀ (h5 : Hp), h5 = uI h3 a0 2 0 →
  ∃ n17, wp_X4_clear_17 ev Qr  n17 a0 0 h5
def wp_X5_least_77 (ev : Nat → Nat) (Qr : Int32 → Hp → Prop) (K5 : Nat → Int32 → Int32 → Int32 → Hp → Prop) (a0 : Nat) (v2 : Int32) (v4 : Int32) (u0 : Int32) (h : Hp) : Prop :=
  ∀ (x1 : Int32), x1 = v4 + 1 →
  K5 a0 v2 u0 x1 h
def wp_X5_least_76 (ev : Nat → Nat) (Qr : Int32 → Hp → Prop) (K5 : Nat → Int32 → Int32 → Int32 → Hp → Prop) (a0 : Nat) (v2 : Int32) (v3 : Int32) (v4 : Int32) (h : Hp) : Prop :=
  wp_X5_least_77 ev Qr K5 a0 v2 v4 v3 h
def wp_X5_least_50 (ev : Nat → Nat) (Qr : Int32 → Hp → Prop) (K5 : Nat → Int32 → Int32 → Int32 → Hp → Prop) (a0 : Nat) (v2 : Int32) (v3 : Int32) (v4 : Int32) (u0 : Int32) (h : Hp) : Prop :=
  hok h a0 4 ∧
  ∃ b2 : Nat, hR h a0 0 = some b2 ∧
  hok h b2 25 ∧
  vp_in v4 (hN h b2) ∧
  ∃ b5 : Nat, hO h b2 v4 = some b5 ∧
  hok h b5 23 ∧
  vp_in v2 (hN h b5) ∧
  ((lg_cmp (hJ h b5 v2) 0) = 0 →
    wp_X5_least_76 ev Qr K5 a0 v2 v3 v4 h) ∧
  (¬ (lg_cmp (hJ h b5 v2) 0) = 0 →
    (u0 = 0 →
      wp_X5_least_76 ev Qr K5 a0 v2 v3 v4 h) ∧
    (¬ u0 = 0 →
      wp_X5_least_77 ev Qr K5 a0 v2 v4 v4 h))
def wp_X5_least_45 (ev : Nat → Nat) (Qr : Int32 → Hp → Prop) (K5 : Nat → Int32 → Int32 → Int32 → Hp → Prop) (a0 : Nat) (v2 : Int32) (v3 : Int32) (v4 : Int32) (h : Hp) : Prop :=
  wp_X5_least_50 ev Qr K5 a0 v2 v3 v4 1 h
def wp_X5_least_5 (ev : Nat → Nat) (Qr : Int32 → Hp → Prop) : Nat → Nat → Int32 → Int32 → Int32 → Hp → Prop
  | 0, _, _, _, _, _ => False
  | n5 + 1, a0, v2, v3, v4, h =>
    hok h a0 4 ∧
    ((hI h a0 2) ≤ v4 →
      Qr v3 h) ∧
    (¬ (hI h a0 2) ≤ v4 →
      (v3 < 0 →
        wp_X5_least_45 ev Qr (wp_X5_least_5 ev Qr n5) a0 v2 v3 v4 h) ∧
      (¬ v3 < 0 →
        hok h a0 4 ∧
        ∃ b3 : Nat, hR h a0 0 = some b3 ∧
        hok h b3 25 ∧
        vp_in v4 (hN h b3) ∧
        ∃ b6 : Nat, hO h b3 v4 = some b6 ∧
        hok h b6 23 ∧
        vp_in v2 (hN h b6) ∧
        wp_J7_abs_2 ev h (hJ h b6 v2) (fun (y10 : Int64) (h9 : Hp) =>
          hok h9 a0 4 ∧
          ∃ b12 : Nat, hR h9 a0 0 = some b12 ∧
          hok h9 b12 25 ∧
          vp_in v3 (hN h9 b12) ∧
          ∃ b15 : Nat, hO h9 b12 v3 = some b15 ∧
          hok h9 b15 23 ∧
          vp_in v2 (hN h9 b15) ∧
          wp_J7_abs_2 ev h9 (hJ h9 b15 v2) (fun (y19 : Int64) (h18 : Hp) =>
            (0 ≤ (lg_cmp y10 y19) →
              wp_X5_least_50 ev Qr (wp_X5_least_5 ev Qr n5) a0 v2 v3 v4 0 h18) ∧
            (¬ 0 ≤ (lg_cmp y10 y19) →
              wp_X5_least_45 ev Qr (wp_X5_least_5 ev Qr n5) a0 v2 v3 v4 h18)))))
/-- LeastSolutions$Lattice.least(II)I -/
def wp_X5_least (ev : Nat → Nat) (h : Hp) (a0 : Nat) (p1 : Int32) (p2 : Int32) (Qr : Int32 → Hp → Prop) : Prop :=
  ∃ n5, wp_X5_least_5 ev Qr  n5 a0 p2 (-1) p1 h
/-- LeastSolutions$Lattice.exchange(II)V -/
def wp_X5_exchange (ev : Nat → Nat) (h : Hp) (a0 : Nat) (p1 : Int32) (p2 : Int32) (Qr : Hp → Prop) : Prop :=
  hok h a0 4 ∧
  ∃ b2 : Nat, hR h a0 0 = some b2 ∧
  hok h b2 25 ∧
  vp_in p1 (hN h b2) ∧
  ∃ b5 : Nat, hO h b2 p1 = some b5 ∧
  hok h a0 4 ∧
  ∃ b7 : Nat, hR h a0 0 = some b7 ∧
  hok h a0 4 ∧
  ∃ b9 : Nat, hR h a0 0 = some b9 ∧
  hok h b9 25 ∧
  vp_in p2 (hN h b9) ∧
  ∃ b12 : Nat, hO h b9 p2 = some b12 ∧
  hok h b7 25 ∧
  hok h b12 23 ∧
  vp_in p1 (hN h b7) ∧
  ∀ (h13 : Hp), h13 = uO h b7 p1 (some b12) →
  hok h13 a0 4 ∧
  ∃ b18 : Nat, hR h13 a0 0 = some b18 ∧
  hok h13 b18 25 ∧
  hok h13 b5 23 ∧
  vp_in p2 (hN h13 b18) ∧
  ∀ (h19 : Hp), h19 = uO h13 b18 p2 (some b5) →
  Qr h19
def wp_X5_turn_2 (ev : Nat → Nat) (Qr : Hp → Prop) : Nat → Nat → Int32 → Int32 → Hp → Prop
  | 0, _, _, _, _ => False
  | n2 + 1, a0, v1, v2, h =>
    (10 ≤ v2 →
      Qr h) ∧
    (¬ 10 ≤ v2 →
      hok h a0 4 ∧
      ∃ b2 : Nat, hR h a0 0 = some b2 ∧
      hok h b2 25 ∧
      vp_in v1 (hN h b2) ∧
      ∃ b5 : Nat, hO h b2 v1 = some b5 ∧
      hok h a0 4 ∧
      ∃ b7 : Nat, hR h a0 0 = some b7 ∧
      hok h b7 25 ∧
      vp_in v1 (hN h b7) ∧
      ∃ b10 : Nat, hO h b7 v1 = some b10 ∧
      hok h b10 23 ∧
      vp_in v2 (hN h b10) ∧
      hok h b5 23 ∧
      vp_in v2 (hN h b5) ∧
      ∀ (h13 : Hp), h13 = uJ h b5 v2 (-(hJ h b10 v2)) →
      ∀ (x16 : Int32), x16 = v2 + 1 →
      wp_X5_turn_2 ev Qr n2 a0 v1 x16 h13)
/-- LeastSolutions$Lattice.turn(I)V -/
def wp_X5_turn (ev : Nat → Nat) (h : Hp) (a0 : Nat) (p1 : Int32) (Qr : Hp → Prop) : Prop :=
  ∃ n2, wp_X5_turn_2 ev Qr  n2 a0 p1 0 h
def wp_X5_add_3 (ev : Nat → Nat) (Qr : Hp → Prop) : Nat → Nat → Int32 → Int32 → Int64 → Int32 → Hp → Prop
  | 0, _, _, _, _, _, _ => False
  | n3 + 1, a0, v1, v2, v3, v5, h =>
    (10 ≤ v5 →
      Qr h) ∧
    (¬ 10 ≤ v5 →
      hok h a0 4 ∧
      ∃ b2 : Nat, hR h a0 0 = some b2 ∧
      hok h b2 25 ∧
      vp_in v1 (hN h b2) ∧
      ∃ b5 : Nat, hO h b2 v1 = some b5 ∧
      hok h b5 23 ∧
      vp_in v5 (hN h b5) ∧
      hok h a0 4 ∧
      ∃ b9 : Nat, hR h a0 0 = some b9 ∧
      hok h b9 25 ∧
      vp_in v2 (hN h b9) ∧
      ∃ b12 : Nat, hO h b9 v2 = some b12 ∧
      hok h b12 23 ∧
      vp_in v5 (hN h b12) ∧
      hok h b5 23 ∧
      vp_in v5 (hN h b5) ∧
      ∀ (h15 : Hp), h15 = uJ h b5 v5 ((hJ h b5 v5) + (v3 * (hJ h b12 v5))) →
      ∀ (x18 : Int32), x18 = v5 + 1 →
      wp_X5_add_3 ev Qr n3 a0 v1 v2 v3 x18 h15)
/-- LeastSolutions$Lattice.add(IIJ)V -/
def wp_X5_add (ev : Nat → Nat) (h : Hp) (a0 : Nat) (p1 : Int32) (p2 : Int32) (p3 : Int64) (Qr : Hp → Prop) : Prop :=
  ∃ n3, wp_X5_add_3 ev Qr  n3 a0 p1 p2 p3 0 h
def wp_X5_gather_122 (ev : Nat → Nat) (Qr : Int32 → Hp → Prop) (a0 : Nat) (u0 : Int32) (h : Hp) : Prop :=
  isB u0 ∧ Qr u0 h
def wp_X5_gather_107 (ev : Nat → Nat) (Qr : Int32 → Hp → Prop) (K7 : Nat → Int32 → Int32 → Int32 → Hp → Prop) (a0 : Nat) (v1 : Int32) (v2 : Int32) (u0 : Int32) (h : Hp) : Prop :=
  K7 a0 v1 v2 u0 h
def wp_X5_gather_40 (ev : Nat → Nat) (Qr : Int32 → Hp → Prop) (K7 : Nat → Int32 → Int32 → Int32 → Hp → Prop) : Nat → Nat → Int32 → Int32 → Int32 → Hp → Prop
  | 0, _, _, _, _, _ => False
  | n40 + 1, a0, v1, v2, v4, h =>
    hok h a0 4 ∧
    ((hI h a0 2) ≤ v4 →
      hok h a0 4 ∧
      wp_X5_least ev h a0 (v1 + 1) v2 (fun (x3 : Int32) (h2 : Hp) =>
        (0 ≤ x3 →
          hok h2 a0 4 ∧
          wp_X5_least ev h2 a0 (v1 + 1) v2 (fun (x6 : Int32) (h5 : Hp) =>
            wp_X5_gather_107 ev Qr K7 a0 v1 v2 x6 h5)) ∧
        (¬ 0 ≤ x3 →
          wp_X5_gather_107 ev Qr K7 a0 v1 v2 (-2) h2))) ∧
    (¬ (hI h a0 2) ≤ v4 →
      hok h a0 4 ∧
      ∃ b9 : Nat, hR h a0 0 = some b9 ∧
      hok h b9 25 ∧
      vp_in v4 (hN h b9) ∧
      ∃ b12 : Nat, hO h b9 v4 = some b12 ∧
      hok h b12 23 ∧
      vp_in v2 (hN h b12) ∧
      hok h a0 4 ∧
      ∃ b16 : Nat, hR h a0 0 = some b16 ∧
      hok h b16 25 ∧
      vp_in v1 (hN h b16) ∧
      ∃ b19 : Nat, hO h b16 v1 = some b19 ∧
      hok h b19 23 ∧
      vp_in v2 (hN h b19) ∧
      wp_J7_floorDiv ev h (hJ h b12 v2) (hJ h b19 v2) (fun (y23 : Int64) (h22 : Hp) =>
        hok h22 a0 4 ∧
        wp_X5_add ev h22 a0 v4 v1 (-y23) (fun (h24 : Hp) =>
          ∀ (x26 : Int32), x26 = v4 + 1 →
          wp_X5_gather_40 ev Qr K7 n40 a0 v1 v2 x26 h24)))
def wp_X5_gather_35 (ev : Nat → Nat) (Qr : Int32 → Hp → Prop) (K7 : Nat → Int32 → Int32 → Int32 → Hp → Prop) (a0 : Nat) (v1 : Int32) (v2 : Int32) (h : Hp) : Prop :=
  ∀ (x1 : Int32), x1 = (v1 + 1) →
  ∃ n40, wp_X5_gather_40 ev Qr K7 n40 a0 v1 v2 x1 h
def wp_X5_gather_7 (ev : Nat → Nat) (Qr : Int32 → Hp → Prop) : Nat → Nat → Int32 → Int32 → Int32 → Hp → Prop
  | 0, _, _, _, _, _ => False
  | n7 + 1, a0, v1, v2, v3, h =>
    (v3 < 0 →
      (¬ v3 = (-2) →
        wp_X5_gather_122 ev Qr  a0 0 h) ∧
      (v3 = (-2) →
        wp_X5_gather_122 ev Qr  a0 1 h)) ∧
    (¬ v3 < 0 →
      hok h a0 4 ∧
      wp_X5_exchange ev h a0 v1 v3 (fun (h1 : Hp) =>
        hok h1 a0 4 ∧
        ∃ b4 : Nat, hR h1 a0 0 = some b4 ∧
        hok h1 b4 25 ∧
        vp_in v1 (hN h1 b4) ∧
        ∃ b7 : Nat, hO h1 b4 v1 = some b7 ∧
        hok h1 b7 23 ∧
        vp_in v2 (hN h1 b7) ∧
        (0 ≤ (lg_cmp (hJ h1 b7 v2) 0) →
          wp_X5_gather_35 ev Qr (wp_X5_gather_7 ev Qr n7) a0 v1 v2 h1) ∧
        (¬ 0 ≤ (lg_cmp (hJ h1 b7 v2) 0) →
          hok h1 a0 4 ∧
          wp_X5_turn ev h1 a0 v1 (fun (h10 : Hp) =>
            wp_X5_gather_35 ev Qr (wp_X5_gather_7 ev Qr n7) a0 v1 v2 h10))))
/-- LeastSolutions$Lattice.gather(II)Z -/
def wp_X5_gather (ev : Nat → Nat) (h : Hp) (a0 : Nat) (p1 : Int32) (p2 : Int32) (Qr : Int32 → Hp → Prop) : Prop :=
  hok h a0 4 ∧
  wp_X5_least ev h a0 p1 p2 (fun (x2 : Int32) (h1 : Hp) =>
    ∃ n7, wp_X5_gather_7 ev Qr  n7 a0 p1 p2 x2 h1)
def wp_X5_settle_139 (ev : Nat → Nat) (Qr : Hp → Prop) (a0 : Nat) (h : Hp) : Prop :=
  Qr h
def wp_X5_settle_135 (ev : Nat → Nat) (Qr : Hp → Prop) (a0 : Nat) (u0 : Nat) (u1 : Int32) (u2 : Int32) (h : Hp) : Prop :=
  hok h u0 4 ∧
  isB (u1 &&& u2) ∧
  ∀ (h1 : Hp), h1 = uI h u0 4 (u1 &&& u2) →
  wp_X5_settle_139 ev Qr  a0 h1
def wp_X5_settle_64 (ev : Nat → Nat) (Qr : Hp → Prop) : Nat → Nat → Int64 → Int32 → Hp → Prop
  | 0, _, _, _, _ => False
  | n64 + 1, a0, v4, v6, h =>
    (4 ≤ v6 →
      hok h a0 4 ∧
      hok h a0 4 ∧
      ∀ (h2 : Hp), h2 = uI h a0 3 ((hI h a0 3) + 1) →
      wp_X5_settle_139 ev Qr  a0 h2) ∧
    (¬ 4 ≤ v6 →
      hok h a0 4 ∧
      ∃ b5 : Nat, hR h a0 1 = some b5 ∧
      hok h b5 23 ∧
      vp_in v6 (hN h b5) ∧
      hok h a0 4 ∧
      ∃ b9 : Nat, hR h a0 0 = some b9 ∧
      hok h a0 4 ∧
      hok h b9 25 ∧
      vp_in (hI h a0 3) (hN h b9) ∧
      ∃ b13 : Nat, hO h b9 (hI h a0 3) = some b13 ∧
      hok h b13 23 ∧
      vp_in v6 (hN h b13) ∧
      hok h b5 23 ∧
      vp_in v6 (hN h b5) ∧
      ∀ (h16 : Hp), h16 = uJ h b5 v6 ((hJ h b5 v6) - (v4 * (hJ h b13 v6))) →
      ∀ (x19 : Int32), x19 = v6 + 1 →
      wp_X5_settle_64 ev Qr n64 a0 v4 x19 h16)
def wp_X5_settle_47 (ev : Nat → Nat) (Qr : Hp → Prop) (a0 : Nat) (v1 : Int32) (v2 : Int64) (u0 : Nat) (u1 : Int32) (u2 : Int32) (h : Hp) : Prop :=
  hok h u0 4 ∧
  isB (u1 &&& u2) ∧
  ∀ (h1 : Hp), h1 = uI h u0 4 (u1 &&& u2) →
  hok h1 a0 4 ∧
  ∃ b5 : Nat, hR h1 a0 1 = some b5 ∧
  hok h1 b5 23 ∧
  vp_in v1 (hN h1 b5) ∧
  ¬ v2 = 0 ∧
  ∀ (y9 : Int64), y9 = ((hJ h1 b5 v1) / v2) →
  ∃ n64, wp_X5_settle_64 ev Qr  n64 a0 y9 0 h1
/-- LeastSolutions$Lattice.settle(I)V -/
def wp_X5_settle (ev : Nat → Nat) (h : Hp) (a0 : Nat) (p1 : Int32) (Qr : Hp → Prop) : Prop :=
  hok h a0 4 ∧
  hok h a0 4 ∧
  wp_X5_gather ev h a0 (hI h a0 3) p1 (fun (x3 : Int32) (h2 : Hp) =>
    (x3 = 0 →
      hok h2 a0 4 ∧
      hok h2 a0 4 ∧
      ∃ b7 : Nat, hR h2 a0 1 = some b7 ∧
      hok h2 b7 23 ∧
      vp_in p1 (hN h2 b7) ∧
      (¬ (lg_cmp (hJ h2 b7 p1) 0) = 0 →
        wp_X5_settle_135 ev Qr  a0 a0 ((hI h2 a0 4)) 0 h2) ∧
      ((lg_cmp (hJ h2 b7 p1) 0) = 0 →
        wp_X5_settle_135 ev Qr  a0 a0 ((hI h2 a0 4)) 1 h2)) ∧
    (¬ x3 = 0 →
      hok h2 a0 4 ∧
      ∃ b11 : Nat, hR h2 a0 0 = some b11 ∧
      hok h2 a0 4 ∧
      hok h2 b11 25 ∧
      vp_in (hI h2 a0 3) (hN h2 b11) ∧
      ∃ b15 : Nat, hO h2 b11 (hI h2 a0 3) = some b15 ∧
      hok h2 b15 23 ∧
      vp_in p1 (hN h2 b15) ∧
      ∀ (y18 : Int64), y18 = (hJ h2 b15 p1) →
      hok h2 a0 4 ∧
      hok h2 a0 4 ∧
      ∃ b21 : Nat, hR h2 a0 1 = some b21 ∧
      hok h2 b21 23 ∧
      vp_in p1 (hN h2 b21) ∧
      ¬ y18 = 0 ∧
      (¬ (lg_cmp ((hJ h2 b21 p1) - (hJ h2 b21 p1) / y18 * y18) 0) = 0 →
        wp_X5_settle_47 ev Qr  a0 p1 y18 a0 ((hI h2 a0 4)) 0 h2) ∧
      ((lg_cmp ((hJ h2 b21 p1) - (hJ h2 b21 p1) / y18 * y18) 0) = 0 →
        wp_X5_settle_47 ev Qr  a0 p1 y18 a0 ((hI h2 a0 4)) 1 h2)))
def wp_X5_first_29 (ev : Nat → Nat) (Qr : Int32 → Hp → Prop) (a0 : Nat) (v2 : Int32) (h : Hp) : Prop :=
  Qr v2 h
def wp_X5_first_2 (ev : Nat → Nat) (Qr : Int32 → Hp → Prop) : Nat → Nat → Int32 → Int32 → Hp → Prop
  | 0, _, _, _, _ => False
  | n2 + 1, a0, v1, v2, h =>
    (6 ≤ v2 →
      wp_X5_first_29 ev Qr  a0 v2 h) ∧
    (¬ 6 ≤ v2 →
      hok h a0 4 ∧
      ∃ b2 : Nat, hR h a0 0 = some b2 ∧
      hok h b2 25 ∧
      vp_in v1 (hN h b2) ∧
      ∃ b5 : Nat, hO h b2 v1 = some b5 ∧
      hok h b5 23 ∧
      vp_in (4 + v2) (hN h b5) ∧
      (¬ (lg_cmp (hJ h b5 (4 + v2)) 0) = 0 →
        wp_X5_first_29 ev Qr  a0 v2 h) ∧
      ((lg_cmp (hJ h b5 (4 + v2)) 0) = 0 →
        ∀ (x8 : Int32), x8 = v2 + 1 →
        wp_X5_first_2 ev Qr n2 a0 v1 x8 h))
/-- LeastSolutions$Lattice.first(I)I -/
def wp_X5_first (ev : Nat → Nat) (h : Hp) (a0 : Nat) (p1 : Int32) (Qr : Int32 → Hp → Prop) : Prop :=
  ∃ n2, wp_X5_first_2 ev Qr  n2 a0 p1 0 h
def wp_X5_lead_53 (ev : Nat → Nat) (Qr : Hp → Prop) : Nat → Nat → Int32 → Int32 → Int32 → Hp → Prop
  | 0, _, _, _, _, _ => False
  | n53 + 1, a0, v1, v2, v3, h =>
    (v2 ≤ v3 →
      Qr h) ∧
    (¬ v2 ≤ v3 →
      hok h a0 4 ∧
      ∃ b2 : Nat, hR h a0 0 = some b2 ∧
      hok h b2 25 ∧
      vp_in v3 (hN h b2) ∧
      ∃ b5 : Nat, hO h b2 v3 = some b5 ∧
      hok h b5 23 ∧
      vp_in (4 + v1) (hN h b5) ∧
      hok h a0 4 ∧
      ∃ b9 : Nat, hR h a0 0 = some b9 ∧
      hok h b9 25 ∧
      vp_in v2 (hN h b9) ∧
      ∃ b12 : Nat, hO h b9 v2 = some b12 ∧
      hok h b12 23 ∧
      vp_in (4 + v1) (hN h b12) ∧
      wp_J7_floorDiv ev h (hJ h b5 (4 + v1)) (hJ h b12 (4 + v1)) (fun (y16 : Int64) (h15 : Hp) =>
        hok h15 a0 4 ∧
        wp_X5_add ev h15 a0 v3 v2 (-y16) (fun (h17 : Hp) =>
          ∀ (x19 : Int32), x19 = v3 + 1 →
          wp_X5_lead_53 ev Qr n53 a0 v1 v2 x19 h17)))
def wp_X5_lead_47 (ev : Nat → Nat) (Qr : Hp → Prop) (a0 : Nat) (h : Hp) : Prop :=
  Qr h
def wp_X5_lead_28 (ev : Nat → Nat) (Qr : Hp → Prop) (a0 : Nat) (v1 : Int32) (v2 : Int32) (h : Hp) : Prop :=
  hok h a0 4 ∧
  (v2 = (hI h a0 2) →
    wp_X5_lead_47 ev Qr  a0 h) ∧
  (¬ v2 = (hI h a0 2) →
    hok h a0 4 ∧
    wp_X5_gather ev h a0 v2 (4 + v1) (fun (x3 : Int32) (h2 : Hp) =>
      (¬ x3 = 0 →
        hok h2 a0 4 ∧
        ∀ (x6 : Int32), x6 = (hI h2 a0 3) →
        ∃ n53, wp_X5_lead_53 ev Qr  n53 a0 v1 v2 x6 h2) ∧
      (x3 = 0 →
        wp_X5_lead_47 ev Qr  a0 h2)))
def wp_X5_lead_5 (ev : Nat → Nat) (Qr : Hp → Prop) : Nat → Nat → Int32 → Int32 → Hp → Prop
  | 0, _, _, _, _ => False
  | n5 + 1, a0, v1, v2, h =>
    hok h a0 4 ∧
    ((hI h a0 2) ≤ v2 →
      wp_X5_lead_28 ev Qr  a0 v1 v2 h) ∧
    (¬ (hI h a0 2) ≤ v2 →
      hok h a0 4 ∧
      wp_X5_first ev h a0 v2 (fun (x3 : Int32) (h2 : Hp) =>
        (v1 ≤ x3 →
          wp_X5_lead_28 ev Qr  a0 v1 v2 h2) ∧
        (¬ v1 ≤ x3 →
          ∀ (x5 : Int32), x5 = v2 + 1 →
          wp_X5_lead_5 ev Qr n5 a0 v1 x5 h2)))
/-- LeastSolutions$Lattice.lead(I)V -/
def wp_X5_lead (ev : Nat → Nat) (h : Hp) (a0 : Nat) (p1 : Int32) (Qr : Hp → Prop) : Prop :=
  hok h a0 4 ∧
  ∀ (x2 : Int32), x2 = (hI h a0 3) →
  ∃ n5, wp_X5_lead_5 ev Qr  n5 a0 p1 x2 h
def wp_X5_work_165 (ev : Nat → Nat) (Qr : Hp → Prop) (K150 : Nat → Nat → Int32 → Hp → Prop) : Nat → Nat → Nat → Int32 → Int32 → Hp → Prop
  | 0, _, _, _, _, _ => False
  | n165 + 1, a0, v1, v2, v3, h =>
    hok h a0 4 ∧
    ((hI h a0 2) ≤ v3 →
      ∀ (x2 : Int32), x2 = v2 + 1 →
      K150 a0 v1 x2 h) ∧
    (¬ (hI h a0 2) ≤ v3 →
      hok h a0 4 ∧
      wp_X5_lead ev h a0 v3 (fun (h3 : Hp) =>
        ∀ (x5 : Int32), x5 = v3 + 1 →
        wp_X5_work_165 ev Qr K150 n165 a0 v1 v2 x5 h3))
def wp_X5_work_150 (ev : Nat → Nat) (Qr : Hp → Prop) : Nat → Nat → Nat → Int32 → Hp → Prop
  | 0, _, _, _, _ => False
  | n150 + 1, a0, v1, v2, h =>
    hok h v1 3 ∧
    ((hI h v1 0) ≤ v2 →
      Qr h) ∧
    (¬ (hI h v1 0) ≤ v2 →
      hok h a0 4 ∧
      wp_X5_settle ev h a0 v2 (fun (h2 : Hp) =>
        ∃ n165, wp_X5_work_165 ev Qr (wp_X5_work_150 ev Qr n150) n165 a0 v1 v2 0 h2))
def wp_X5_work_131 (ev : Nat → Nat) (Qr : Hp → Prop) (K102 : Nat → Nat → Int32 → Hp → Prop) (a0 : Nat) (v1 : Nat) (v2 : Int32) (u0 : Nat) (u1 : Int32) (u2 : Int64) (h : Hp) : Prop :=
  hok h u0 23 ∧
  vp_in u1 (hN h u0) ∧
  ∀ (h1 : Hp), h1 = uJ h u0 u1 u2 →
  ∀ (x4 : Int32), x4 = v2 + 1 →
  K102 a0 v1 x4 h1
def wp_X5_work_102 (ev : Nat → Nat) (Qr : Hp → Prop) : Nat → Nat → Nat → Int32 → Hp → Prop
  | 0, _, _, _, _ => False
  | n102 + 1, a0, v1, v2, h =>
    (4 ≤ v2 →
      hok h a0 4 ∧
      ∀ (h1 : Hp), h1 = uI h a0 3 0 →
      hok h1 a0 4 ∧
      ∀ (h3 : Hp), h3 = uI h1 a0 4 1 →
      ∃ n150, wp_X5_work_150 ev Qr  n150 a0 v1 0 h3) ∧
    (¬ 4 ≤ v2 →
      hok h a0 4 ∧
      ∃ b6 : Nat, hR h a0 1 = some b6 ∧
      hok h v1 3 ∧
      ((hI h v1 0) ≤ v2 →
        wp_X5_work_131 ev Qr (wp_X5_work_102 ev Qr n102) a0 v1 v2 b6 v2 0 h) ∧
      (¬ (hI h v1 0) ≤ v2 →
        hok h v1 3 ∧
        ∃ b9 : Nat, hR h v1 5 = some b9 ∧
        hok h b9 20 ∧
        vp_in v2 (hN h b9) ∧
        wp_X5_work_131 ev Qr (wp_X5_work_102 ev Qr n102) a0 v1 v2 b6 v2 ((((hA h b9 v2)).toInt64)) h))
def wp_X5_work_87 (ev : Nat → Nat) (Qr : Hp → Prop) (K10 : Nat → Nat → Int32 → Hp → Prop) (K62 : Nat → Nat → Int32 → Int32 → Hp → Prop) (a0 : Nat) (v1 : Nat) (v2 : Int32) (v3 : Int32) (u0 : Nat) (u1 : Int32) (u2 : Int64) (h : Hp) : Prop :=
  hok h u0 23 ∧
  vp_in u1 (hN h u0) ∧
  ∀ (h1 : Hp), h1 = uJ h u0 u1 u2 →
  ∀ (x4 : Int32), x4 = v3 + 1 →
  K62 a0 v1 v2 x4 h1
def wp_X5_work_62 (ev : Nat → Nat) (Qr : Hp → Prop) (K10 : Nat → Nat → Int32 → Hp → Prop) : Nat → Nat → Nat → Int32 → Int32 → Hp → Prop
  | 0, _, _, _, _, _ => False
  | n62 + 1, a0, v1, v2, v3, h =>
    (6 ≤ v3 →
      ∀ (x1 : Int32), x1 = v2 + 1 →
      K10 a0 v1 x1 h) ∧
    (¬ 6 ≤ v3 →
      hok h a0 4 ∧
      ∃ b3 : Nat, hR h a0 0 = some b3 ∧
      hok h b3 25 ∧
      vp_in v2 (hN h b3) ∧
      ∃ b6 : Nat, hO h b3 v2 = some b6 ∧
      (¬ v2 = v3 →
        wp_X5_work_87 ev Qr K10 (wp_X5_work_62 ev Qr K10 n62) a0 v1 v2 v3 b6 ((4 + v3)) 0 h) ∧
      (v2 = v3 →
        wp_X5_work_87 ev Qr K10 (wp_X5_work_62 ev Qr K10 n62) a0 v1 v2 v3 b6 ((4 + v3)) 1 h))
def wp_X5_work_53 (ev : Nat → Nat) (Qr : Hp → Prop) (K10 : Nat → Nat → Int32 → Hp → Prop) (K20 : Nat → Nat → Int32 → Int32 → Hp → Prop) (a0 : Nat) (v1 : Nat) (v2 : Int32) (v3 : Int32) (u0 : Nat) (u1 : Int32) (u2 : Int64) (h : Hp) : Prop :=
  hok h u0 23 ∧
  vp_in u1 (hN h u0) ∧
  ∀ (h1 : Hp), h1 = uJ h u0 u1 u2 →
  ∀ (x4 : Int32), x4 = v3 + 1 →
  K20 a0 v1 v2 x4 h1
def wp_X5_work_20 (ev : Nat → Nat) (Qr : Hp → Prop) (K10 : Nat → Nat → Int32 → Hp → Prop) : Nat → Nat → Nat → Int32 → Int32 → Hp → Prop
  | 0, _, _, _, _, _ => False
  | n20 + 1, a0, v1, v2, v3, h =>
    (4 ≤ v3 →
      ∃ n62, wp_X5_work_62 ev Qr K10 n62 a0 v1 v2 0 h) ∧
    (¬ 4 ≤ v3 →
      hok h a0 4 ∧
      ∃ b2 : Nat, hR h a0 0 = some b2 ∧
      hok h b2 25 ∧
      vp_in v2 (hN h b2) ∧
      ∃ b5 : Nat, hO h b2 v2 = some b5 ∧
      hok h v1 3 ∧
      ((hI h v1 0) ≤ v3 →
        wp_X5_work_53 ev Qr K10 (wp_X5_work_20 ev Qr K10 n20) a0 v1 v2 v3 b5 v3 0 h) ∧
      (¬ (hI h v1 0) ≤ v3 →
        hok h v1 3 ∧
        ∃ b8 : Nat, hR h v1 4 = some b8 ∧
        hok h b8 24 ∧
        vp_in v3 (hN h b8) ∧
        ∃ b11 : Nat, hO h b8 v3 = some b11 ∧
        hok h b11 20 ∧
        vp_in v2 (hN h b11) ∧
        wp_X5_work_53 ev Qr K10 (wp_X5_work_20 ev Qr K10 n20) a0 v1 v2 v3 b5 v3 ((((hA h b11 v2)).toInt64)) h))
def wp_X5_work_10 (ev : Nat → Nat) (Qr : Hp → Prop) : Nat → Nat → Nat → Int32 → Hp → Prop
  | 0, _, _, _, _ => False
  | n10 + 1, a0, v1, v2, h =>
    hok h a0 4 ∧
    ((hI h a0 2) ≤ v2 →
      ∃ n102, wp_X5_work_102 ev Qr  n102 a0 v1 0 h) ∧
    (¬ (hI h a0 2) ≤ v2 →
      ∃ n20, wp_X5_work_20 ev Qr (wp_X5_work_10 ev Qr n10) n20 a0 v1 v2 0 h)
/-- LeastSolutions$Lattice.work(LLeastSolutions$Model;)V -/
def wp_X5_work (ev : Nat → Nat) (h : Hp) (a0 : Nat) (p1 : Nat) (Qr : Hp → Prop) : Prop :=
  hok h p1 3 ∧
  hok h a0 4 ∧
  ∀ (h2 : Hp), h2 = uI h a0 2 (hI h p1 1) →
  ∃ n10, wp_X5_work_10 ev Qr  n10 a0 p1 0 h2
/-- LeastSolutions$Lattice.dimension()I -/
def wp_X5_dimension (ev : Nat → Nat) (h : Hp) (a0 : Nat) (Qr : Int32 → Hp → Prop) : Prop :=
  hok h a0 4 ∧
  hok h a0 4 ∧
  Qr ((hI h a0 2) - (hI h a0 3)) h
/-- LeastSolutions$Lattice.kernelAt(II)J -/
def wp_X5_kernelAt (ev : Nat → Nat) (h : Hp) (a0 : Nat) (p1 : Int32) (p2 : Int32) (Qr : Int64 → Hp → Prop) : Prop :=
  hok h a0 4 ∧
  ∃ b2 : Nat, hR h a0 0 = some b2 ∧
  hok h a0 4 ∧
  hok h b2 25 ∧
  vp_in ((hI h a0 3) + p1) (hN h b2) ∧
  ∃ b6 : Nat, hO h b2 ((hI h a0 3) + p1) = some b6 ∧
  hok h b6 23 ∧
  vp_in (4 + p2) (hN h b6) ∧
  Qr (hJ h b6 (4 + p2)) h
/-- LeastSolutions$Grower.<init>()V -/
def wp_X6_init (ev : Nat → Nat) (h : Hp) (a0 : Nat) (MC MS : Nat) (Qr : Hp → Prop) : Prop :=
  ∃ mc2 ms3 : Nat, MC = 1 + mc2 ∧ MS = 6 + ms3 ∧
  ∀ (q4 : Nat), q4 ∉ h.1 → ∀ (h5 : Hp), h5 = nA h q4 20 6 →
  hok h5 a0 5 ∧
  ∀ (h6 : Hp), h6 = uR h5 a0 1 (some q4) →
  ∃ mc8 ms9 : Nat, mc2 = 1 + mc8 ∧ ms3 = 2 + ms9 ∧
  ∀ (q10 : Nat), q10 ∉ h6.1 → ∀ (h11 : Hp), h11 = nO h6 q10 6 →
  ∃ c12 d13 mc14 ms15 : Nat, mc8 = c12 + mc14 ∧ ms9 = d13 + ms15 ∧
  wp_X7_init ev h11 q10 c12 d13 (fun (h16 : Hp) =>
    hok h16 a0 5 ∧
    ∀ (h17 : Hp), h17 = uR h16 a0 2 (some q10) →
    ∃ mc20 ms21 : Nat, mc14 = 1 + mc20 ∧ ms15 = 224 + ms21 ∧
    ∀ (q22 : Nat), q22 ∉ h17.1 → ∀ (h23 : Hp), h23 = nA h17 q22 20 224 →
    hok h23 a0 5 ∧
    ∀ (h24 : Hp), h24 = uR h23 a0 3 (some q22) →
    ∃ mc27 ms28 : Nat, mc20 = 1 + mc27 ∧ ms21 = 224 + ms28 ∧
    ∀ (q29 : Nat), q29 ∉ h24.1 → ∀ (h30 : Hp), h30 = nA h24 q29 20 224 →
    hok h30 a0 5 ∧
    ∀ (h31 : Hp), h31 = uR h30 a0 4 (some q29) →
    ∃ mc34 ms35 : Nat, mc27 = 1 + mc34 ∧ ms28 = 6 + ms35 ∧
    ∀ (q36 : Nat), q36 ∉ h31.1 → ∀ (h37 : Hp), h37 = nA h31 q36 20 6 →
    hok h37 a0 5 ∧
    ∀ (h38 : Hp), h38 = uR h37 a0 7 (some q36) →
    ∃ mc41 ms42 : Nat, mc34 = 1 + mc41 ∧ ms35 = 4 + ms42 ∧
    ∀ (q43 : Nat), q43 ∉ h38.1 → ∀ (h44 : Hp), h44 = nA h38 q43 20 4 →
    hok h44 a0 5 ∧
    ∀ (h45 : Hp), h45 = uR h44 a0 8 (some q43) →
    Qr h45)
def wp_X6_begin_32 (ev : Nat → Nat) (Qr : Hp → Prop) (K7 : Nat → Int32 → Int32 → Hp → Nat → Nat → Prop) (a0 : Nat) (v2 : Int32) (v3 : Int32) (u0 : Nat) (u1 : Int32) (u2 : Int32) (h : Hp) (mc ms : Nat) : Prop :=
  hok h u0 20 ∧
  vp_in u1 (hN h u0) ∧
  ∀ (h1 : Hp), h1 = uA h u0 u1 u2 →
  ∀ (x4 : Int32), x4 = v3 + 1 →
  K7 a0 v2 x4 h1 mc ms
def wp_X6_begin_7 (ev : Nat → Nat) (Qr : Hp → Prop) : Nat → Nat → Int32 → Int32 → Hp → Nat → Nat → Prop
  | 0, _, _, _, _, _, _ => False
  | n7 + 1, a0, v2, v3, h, mc, ms =>
    (6 ≤ v3 →
      hok h a0 5 ∧
      ∃ b2 : Nat, hR h a0 2 = some b2 ∧
      ∃ c3 d4 mc5 ms6 : Nat, mc = c3 + mc5 ∧ ms = d4 + ms6 ∧
      hok h b2 6 ∧
      wp_X7_clear ev h b2 c3 d4 (fun (h7 : Hp) =>
        hok h7 a0 5 ∧
        ∀ (h9 : Hp), h9 = uI h7 a0 6 0 →
        hok h9 a0 5 ∧
        ∀ (h11 : Hp), h11 = uI h9 a0 10 0 →
        Qr h11)) ∧
    (¬ 6 ≤ v3 →
      hok h a0 5 ∧
      ∃ b14 : Nat, hR h a0 1 = some b14 ∧
      (¬ ((v2 >>> (v3 &&& 31)) &&& 1) = 1 →
        wp_X6_begin_32 ev Qr (wp_X6_begin_7 ev Qr n7) a0 v2 v3 b14 v3 1 h mc ms) ∧
      (((v2 >>> (v3 &&& 31)) &&& 1) = 1 →
        wp_X6_begin_32 ev Qr (wp_X6_begin_7 ev Qr n7) a0 v2 v3 b14 v3 (-1) h mc ms))
/-- LeastSolutions$Grower.begin(LLeastSolutions$Model;I)V -/
def wp_X6_begin (ev : Nat → Nat) (h : Hp) (a0 : Nat) (p1 : Nat) (p2 : Int32) (MC MS : Nat) (Qr : Hp → Prop) : Prop :=
  hok h a0 5 ∧
  ∀ (h1 : Hp), h1 = uR h a0 0 (some p1) →
  ∃ n7, wp_X6_begin_7 ev Qr  n7 a0 p2 0 h1 MC MS
def wp_X6_come_46 (ev : Nat → Nat) (Qr : Hp → Prop) : Nat → Nat → Nat → Int32 → Int32 → Hp → Nat → Nat → Prop
  | 0, _, _, _, _, _, _, _ => False
  | n46 + 1, a0, v1, v2, v3, h, mc, ms =>
    (6 ≤ v3 →
      hok h a0 5 ∧
      ∃ b2 : Nat, hR h a0 4 = some b2 ∧
      hok h a0 5 ∧
      hok h b2 20 ∧
      vp_in ((hI h a0 6) + 6) (hN h b2) ∧
      ∀ (h4 : Hp), h4 = uA h b2 ((hI h a0 6) + 6) v2 →
      hok h4 a0 5 ∧
      hok h4 a0 5 ∧
      ∀ (h8 : Hp), h8 = uI h4 a0 6 ((hI h4 a0 6) + 7) →
      Qr h8) ∧
    (¬ 6 ≤ v3 →
      hok h a0 5 ∧
      ∃ b11 : Nat, hR h a0 4 = some b11 ∧
      hok h a0 5 ∧
      hok h v1 20 ∧
      vp_in v3 (hN h v1) ∧
      hok h b11 20 ∧
      vp_in ((hI h a0 6) + v3) (hN h b11) ∧
      ∀ (h15 : Hp), h15 = uA h b11 ((hI h a0 6) + v3) (hA h v1 v3) →
      ∀ (x18 : Int32), x18 = v3 + 1 →
      wp_X6_come_46 ev Qr n46 a0 v1 v2 x18 h15 mc ms)
def wp_X6_come_44 (ev : Nat → Nat) (Qr : Hp → Prop) (a0 : Nat) (v1 : Nat) (v2 : Int32) (h : Hp) (mc ms : Nat) : Prop :=
  ∃ n46, wp_X6_come_46 ev Qr  n46 a0 v1 v2 0 h mc ms
/-- LeastSolutions$Grower.come([II)V -/
def wp_X6_come (ev : Nat → Nat) (h : Hp) (a0 : Nat) (p1 : Nat) (p2 : Int32) (MC MS : Nat) (Qr : Hp → Prop) : Prop :=
  hok h a0 5 ∧
  hok h a0 5 ∧
  ∃ b3 : Nat, hR h a0 4 = some b3 ∧
  hok h b3 20 ∧
  (((hI h a0 6) + 7) ≤ (nI (hN h b3)) →
    wp_X6_come_44 ev Qr  a0 p1 p2 h MC MS) ∧
  (¬ ((hI h a0 6) + 7) ≤ (nI (hN h b3)) →
    hok h a0 5 ∧
    ∃ b6 : Nat, hR h a0 4 = some b6 ∧
    hok h b6 20 ∧
    ¬ (2 * (nI (hN h b6))) < 0 ∧ ∀ (k8 : Nat), (2 * (nI (hN h b6))).toNatClampNeg = k8 → k8 ≤ 1000000 ∧
    ∃ mc10 ms11 : Nat, MC = 1 + mc10 ∧ MS = k8 + ms11 ∧
    ∀ (q12 : Nat), q12 ∉ h.1 → ∀ (h13 : Hp), h13 = nA h q12 20 k8 →
    hok h13 a0 5 ∧
    ∃ b15 : Nat, hR h13 a0 4 = some b15 ∧
    hok h13 a0 5 ∧
    hok h13 b15 20 ∧
    hok h13 q12 20 ∧
    (¬ (0 : Int32) < 0 ∧ ¬ (0 : Int32) < 0 ∧ ¬ ((hI h13 a0 6) : Int32) < 0 ∧ (0 : Int32).toNatClampNeg + ((hI h13 a0 6) : Int32).toNatClampNeg ≤ hN h13 b15 ∧ (0 : Int32).toNatClampNeg + ((hI h13 a0 6) : Int32).toNatClampNeg ≤ hN h13 q12) ∧
    ∀ (h17 : Hp), h17 = uAf h13 q12 (va_cpy (h13.2.2.2.2.2.1 b15) (h13.2.2.2.2.2.1 q12) (0 : Int32).toNatClampNeg (0 : Int32).toNatClampNeg ((hI h13 a0 6) : Int32).toNatClampNeg) →
    hok h17 a0 5 ∧
    ∀ (h21 : Hp), h21 = uR h17 a0 4 (some q12) →
    wp_X6_come_44 ev Qr  a0 p1 p2 h21 mc10 ms11)
def wp_X6_make_108 (ev : Nat → Nat) (Qr : Int32 → Hp → Prop) (K4 : Nat → Int32 → Int32 → Int32 → Hp → Prop) (a0 : Nat) (v1 : Int32) (v3 : Int32) (u0 : Int32) (u1 : Int32) (h : Hp) : Prop :=
  ∀ (x1 : Int32), x1 = (u0 &&& u1) →
  ∀ (x2 : Int32), x2 = v3 + 1 →
  K4 a0 v1 x1 x2 h
def wp_X6_make_38 (ev : Nat → Nat) (Qr : Int32 → Hp → Prop) (K4 : Nat → Int32 → Int32 → Int32 → Hp → Prop) : Nat → Nat → Int32 → Int32 → Int32 → Int32 → Int32 → Hp → Prop
  | 0, _, _, _, _, _, _, _ => False
  | n38 + 1, a0, v1, v2, v3, v4, v5, h =>
    hok h a0 5 ∧
    ∃ b2 : Nat, hR h a0 0 = some b2 ∧
    hok h b2 3 ∧
    ((hI h b2 1) ≤ v5 →
      hok h a0 5 ∧
      ∃ b5 : Nat, hR h a0 8 = some b5 ∧
      hok h b5 20 ∧
      vp_in v3 (hN h b5) ∧
      ∀ (h6 : Hp), h6 = uA h b5 v3 v4 →
      (¬ v4 = 0 →
        wp_X6_make_108 ev Qr K4 a0 v1 v3 v2 0 h6) ∧
      (v4 = 0 →
        wp_X6_make_108 ev Qr K4 a0 v1 v3 v2 1 h6)) ∧
    (¬ (hI h b2 1) ≤ v5 →
      hok h a0 5 ∧
      ∃ b10 : Nat, hR h a0 0 = some b10 ∧
      hok h b10 3 ∧
      ∃ b12 : Nat, hR h b10 4 = some b12 ∧
      hok h b12 24 ∧
      vp_in v3 (hN h b12) ∧
      ∃ b15 : Nat, hO h b12 v3 = some b15 ∧
      hok h b15 20 ∧
      vp_in v5 (hN h b15) ∧
      hok h a0 5 ∧
      ∃ b19 : Nat, hR h a0 1 = some b19 ∧
      hok h b19 20 ∧
      vp_in v5 (hN h b19) ∧
      hok h a0 5 ∧
      ∃ b23 : Nat, hR h a0 7 = some b23 ∧
      hok h b23 20 ∧
      vp_in v5 (hN h b23) ∧
      ∀ (x26 : Int32), x26 = (v4 + (((hA h b15 v5) * (hA h b19 v5)) * (hA h b23 v5))) →
      ∀ (x27 : Int32), x27 = v5 + 1 →
      wp_X6_make_38 ev Qr K4 n38 a0 v1 v2 v3 x26 x27 h)
def wp_X6_make_33 (ev : Nat → Nat) (Qr : Int32 → Hp → Prop) (K4 : Nat → Int32 → Int32 → Int32 → Hp → Prop) (a0 : Nat) (v1 : Int32) (v2 : Int32) (v3 : Int32) (u0 : Int32) (h : Hp) : Prop :=
  ∃ n38, wp_X6_make_38 ev Qr K4 n38 a0 v1 v2 v3 u0 0 h
def wp_X6_make_4 (ev : Nat → Nat) (Qr : Int32 → Hp → Prop) : Nat → Nat → Int32 → Int32 → Int32 → Hp → Prop
  | 0, _, _, _, _, _ => False
  | n4 + 1, a0, v1, v2, v3, h =>
    hok h a0 5 ∧
    ∃ b2 : Nat, hR h a0 0 = some b2 ∧
    hok h b2 3 ∧
    ((hI h b2 0) ≤ v3 →
      isB v2 ∧ Qr v2 h) ∧
    (¬ (hI h b2 0) ≤ v3 →
      (v1 = 0 →
        wp_X6_make_33 ev Qr (wp_X6_make_4 ev Qr n4) a0 v1 v2 v3 0 h) ∧
      (¬ v1 = 0 →
        hok h a0 5 ∧
        ∃ b5 : Nat, hR h a0 0 = some b5 ∧
        hok h b5 3 ∧
        ∃ b7 : Nat, hR h b5 5 = some b7 ∧
        hok h b7 20 ∧
        vp_in v3 (hN h b7) ∧
        wp_X6_make_33 ev Qr (wp_X6_make_4 ev Qr n4) a0 v1 v2 v3 ((-(hA h b7 v3))) h))
/-- LeastSolutions$Grower.make(Z)Z -/
def wp_X6_make (ev : Nat → Nat) (h : Hp) (a0 : Nat) (p1 : Int32) (Qr : Int32 → Hp → Prop) : Prop :=
  ∃ n4, wp_X6_make_4 ev Qr  n4 a0 p1 1 0 h
def wp_X6_take_2 (ev : Nat → Nat) (Qr : Hp → Prop) : Nat → Nat → Int32 → Int32 → Hp → Prop
  | 0, _, _, _, _ => False
  | n2 + 1, a0, v1, v2, h =>
    (6 ≤ v2 →
      Qr h) ∧
    (¬ 6 ≤ v2 →
      hok h a0 5 ∧
      ∃ b2 : Nat, hR h a0 7 = some b2 ∧
      hok h a0 5 ∧
      ∃ b4 : Nat, hR h a0 3 = some b4 ∧
      hok h b4 20 ∧
      vp_in (v1 + v2) (hN h b4) ∧
      hok h b2 20 ∧
      vp_in v2 (hN h b2) ∧
      ∀ (h7 : Hp), h7 = uA h b2 v2 (hA h b4 (v1 + v2)) →
      ∀ (x10 : Int32), x10 = v2 + 1 →
      wp_X6_take_2 ev Qr n2 a0 v1 x10 h7)
/-- LeastSolutions$Grower.take(I)V -/
def wp_X6_take (ev : Nat → Nat) (h : Hp) (a0 : Nat) (p1 : Int32) (Qr : Hp → Prop) : Prop :=
  ∃ n2, wp_X6_take_2 ev Qr  n2 a0 p1 0 h
def wp_X6_turns_4 (ev : Nat → Nat) (Qr : Int32 → Hp → Prop) : Nat → Nat → Int32 → Int32 → Int32 → Hp → Prop
  | 0, _, _, _, _, _ => False
  | n4 + 1, a0, v1, v2, v3, h =>
    hok h a0 5 ∧
    ∃ b2 : Nat, hR h a0 0 = some b2 ∧
    hok h b2 3 ∧
    ((hI h b2 0) ≤ v3 →
      Qr v2 h) ∧
    (¬ (hI h b2 0) ≤ v3 →
      hok h a0 5 ∧
      ∃ b5 : Nat, hR h a0 8 = some b5 ∧
      hok h b5 20 ∧
      vp_in v3 (hN h b5) ∧
      hok h a0 5 ∧
      ∃ b9 : Nat, hR h a0 0 = some b9 ∧
      hok h b9 3 ∧
      ∃ b11 : Nat, hR h b9 4 = some b11 ∧
      hok h b11 24 ∧
      vp_in v3 (hN h b11) ∧
      ∃ b14 : Nat, hO h b11 v3 = some b14 ∧
      hok h b14 20 ∧
      vp_in v1 (hN h b14) ∧
      hok h a0 5 ∧
      ∃ b18 : Nat, hR h a0 1 = some b18 ∧
      hok h b18 20 ∧
      vp_in v1 (hN h b18) ∧
      ∀ (x21 : Int32), x21 = (v2 + (((hA h b5 v3) * (hA h b14 v1)) * (hA h b18 v1))) →
      ∀ (x22 : Int32), x22 = v3 + 1 →
      wp_X6_turns_4 ev Qr n4 a0 v1 x21 x22 h)
/-- LeastSolutions$Grower.turns(I)I -/
def wp_X6_turns (ev : Nat → Nat) (h : Hp) (a0 : Nat) (p1 : Int32) (Qr : Int32 → Hp → Prop) : Prop :=
  ∃ n4, wp_X6_turns_4 ev Qr  n4 a0 p1 0 0 h
def wp_X6_hasBelow_38 (ev : Nat → Nat) (Qr : Int32 → Hp → Prop) (a0 : Nat) (v2 : Int32) (h : Hp) : Prop :=
  isB v2 ∧ Qr v2 h
def wp_X6_hasBelow_4 (ev : Nat → Nat) (Qr : Int32 → Hp → Prop) : Nat → Nat → Nat → Int32 → Int32 → Hp → Prop
  | 0, _, _, _, _, _ => False
  | n4 + 1, a0, v1, v2, v3, h =>
    hok h v1 6 ∧
    wp_X7_size ev h v1 (fun (x2 : Int32) (h1 : Hp) =>
      (x2 ≤ v3 →
        wp_X6_hasBelow_38 ev Qr  a0 v2 h1) ∧
      (¬ x2 ≤ v3 →
        (¬ v2 = 0 →
          wp_X6_hasBelow_38 ev Qr  a0 v2 h1) ∧
        (v2 = 0 →
          hok h1 v1 6 ∧
          wp_X7_get ev h1 v1 v3 (fun (r5 : Option Nat) (h4 : Hp) =>
            (∀ b : Nat, r5 = some b → hok h4 b 10) ∧
            hok h4 a0 5 ∧
            ∃ b9 : Nat, hR h4 a0 7 = some b9 ∧
            ∃ b10 : Nat, r5 = some b10 ∧
            hok h4 b10 10 ∧
            wp_X11_isIn ev h4 b10 b9 (fun (x12 : Int32) (h11 : Hp) =>
              ∀ (x14 : Int32), x14 = v3 + 1 →
              wp_X6_hasBelow_4 ev Qr n4 a0 v1 x12 x14 h11)))))
/-- LeastSolutions$Grower.hasBelow(LLeastSolutions$Shelf;)Z -/
def wp_X6_hasBelow (ev : Nat → Nat) (h : Hp) (a0 : Nat) (p1 : Nat) (Qr : Int32 → Hp → Prop) : Prop :=
  ∃ n4, wp_X6_hasBelow_4 ev Qr  n4 a0 p1 0 0 h
/-- LeastSolutions$Seeker.<init>()V -/
def wp_X8_init (ev : Nat → Nat) (h : Hp) (a0 : Nat) (MC MS : Nat) (Qr : Hp → Prop) : Prop :=
  ∃ mc2 ms3 : Nat, MC = 1 + mc2 ∧ MS = 6 + ms3 ∧
  ∀ (q4 : Nat), q4 ∉ h.1 → ∀ (h5 : Hp), h5 = nA h q4 20 6 →
  hok h5 a0 7 ∧
  ∀ (h6 : Hp), h6 = uR h5 a0 1 (some q4) →
  ∃ mc9 ms10 : Nat, mc2 = 1 + mc9 ∧ ms3 = 6 + ms10 ∧
  ∀ (q11 : Nat), q11 ∉ h6.1 → ∀ (h12 : Hp), h12 = nA h6 q11 20 6 →
  hok h12 a0 7 ∧
  ∀ (h13 : Hp), h13 = uR h12 a0 2 (some q11) →
  ∃ mc16 ms17 : Nat, mc9 = 1 + mc16 ∧ ms10 = 6 + ms17 ∧
  ∀ (q18 : Nat), q18 ∉ h13.1 → ∀ (h19 : Hp), h19 = nA h13 q18 20 6 →
  hok h19 a0 7 ∧
  ∀ (h20 : Hp), h20 = uR h19 a0 3 (some q18) →
  Qr h20
def wp_X8_left_13 (ev : Nat → Nat) (Qr : Int32 → Hp → Prop) : Nat → Nat → Int32 → Int32 → Int32 → Int32 → Hp → Prop
  | 0, _, _, _, _, _, _ => False
  | n13 + 1, a0, v1, v2, v3, v4, h =>
    (v2 ≤ v4 →
      Qr v3 h) ∧
    (¬ v2 ≤ v4 →
      hok h a0 7 ∧
      ∃ b2 : Nat, hR h a0 0 = some b2 ∧
      hok h b2 3 ∧
      ∃ b4 : Nat, hR h b2 4 = some b4 ∧
      hok h b4 24 ∧
      vp_in v1 (hN h b4) ∧
      ∃ b7 : Nat, hO h b4 v1 = some b7 ∧
      hok h b7 20 ∧
      vp_in v4 (hN h b7) ∧
      hok h a0 7 ∧
      ∃ b11 : Nat, hR h a0 2 = some b11 ∧
      hok h b11 20 ∧
      vp_in v4 (hN h b11) ∧
      ∀ (x14 : Int32), x14 = (v3 - ((hA h b7 v4) * (hA h b11 v4))) →
      ∀ (x15 : Int32), x15 = v4 + 1 →
      wp_X8_left_13 ev Qr n13 a0 v1 v2 x14 x15 h)
/-- LeastSolutions$Seeker.left(II)I -/
def wp_X8_left (ev : Nat → Nat) (h : Hp) (a0 : Nat) (p1 : Int32) (p2 : Int32) (Qr : Int32 → Hp → Prop) : Prop :=
  hok h a0 7 ∧
  ∃ b2 : Nat, hR h a0 0 = some b2 ∧
  hok h b2 3 ∧
  ∃ b4 : Nat, hR h b2 5 = some b4 ∧
  hok h b4 20 ∧
  vp_in p1 (hN h b4) ∧
  ∀ (x7 : Int32), x7 = (hA h b4 p1) →
  ∃ n13, wp_X8_left_13 ev Qr  n13 a0 p1 p2 x7 0 h
def wp_X8_canCome_127 (ev : Nat → Nat) (Qr : Int32 → Hp → Prop) (a0 : Nat) (v3 : Int32) (h : Hp) : Prop :=
  isB v3 ∧ Qr v3 h
def wp_X8_canCome_120 (ev : Nat → Nat) (Qr : Int32 → Hp → Prop) (K5 : Nat → Int32 → Int32 → Int32 → Int32 → Hp → Prop) (a0 : Nat) (v1 : Int32) (v2 : Int32) (v4 : Int32) (u0 : Int32) (h : Hp) : Prop :=
  ∀ (x1 : Int32), x1 = v4 + 1 →
  K5 a0 v1 v2 u0 x1 h
def wp_X8_canCome_119 (ev : Nat → Nat) (Qr : Int32 → Hp → Prop) (K5 : Nat → Int32 → Int32 → Int32 → Int32 → Hp → Prop) (a0 : Nat) (v1 : Int32) (v2 : Int32) (v4 : Int32) (h : Hp) : Prop :=
  wp_X8_canCome_120 ev Qr K5 a0 v1 v2 v4 0 h
def wp_X8_canCome_30 (ev : Nat → Nat) (Qr : Int32 → Hp → Prop) (K5 : Nat → Int32 → Int32 → Int32 → Int32 → Hp → Prop) : Nat → Nat → Int32 → Int32 → Int32 → Int32 → Int32 → Int32 → Hp → Prop
  | 0, _, _, _, _, _, _, _, _ => False
  | n30 + 1, a0, v1, v2, v4, v5, v6, v7, h =>
    hok h a0 7 ∧
    ∃ b2 : Nat, hR h a0 0 = some b2 ∧
    hok h b2 3 ∧
    ((hI h b2 1) ≤ v7 →
      hok h a0 7 ∧
      wp_X8_left ev h a0 v4 v1 (fun (x5 : Int32) (h4 : Hp) =>
        (x5 < (v5 * v2) →
          wp_X8_canCome_119 ev Qr K5 a0 v1 v2 v4 h4) ∧
        (¬ x5 < (v5 * v2) →
          ((v6 * v2) < x5 →
            wp_X8_canCome_119 ev Qr K5 a0 v1 v2 v4 h4) ∧
          (¬ (v6 * v2) < x5 →
            wp_X8_canCome_120 ev Qr K5 a0 v1 v2 v4 1 h4)))) ∧
    (¬ (hI h b2 1) ≤ v7 →
      hok h a0 7 ∧
      ∃ b8 : Nat, hR h a0 0 = some b8 ∧
      hok h b8 3 ∧
      ∃ b10 : Nat, hR h b8 4 = some b10 ∧
      hok h b10 24 ∧
      vp_in v4 (hN h b10) ∧
      ∃ b13 : Nat, hO h b10 v4 = some b13 ∧
      hok h b13 20 ∧
      vp_in v7 (hN h b13) ∧
      wp_J7_min ev h v5 (hA h b13 v7) (fun (x17 : Int32) (h16 : Hp) =>
        hok h16 a0 7 ∧
        ∃ b19 : Nat, hR h16 a0 0 = some b19 ∧
        hok h16 b19 3 ∧
        ∃ b21 : Nat, hR h16 b19 4 = some b21 ∧
        hok h16 b21 24 ∧
        vp_in v4 (hN h16 b21) ∧
        ∃ b24 : Nat, hO h16 b21 v4 = some b24 ∧
        hok h16 b24 20 ∧
        vp_in v7 (hN h16 b24) ∧
        wp_J7_max ev h16 v6 (hA h16 b24 v7) (fun (x28 : Int32) (h27 : Hp) =>
          ∀ (x29 : Int32), x29 = v7 + 1 →
          wp_X8_canCome_30 ev Qr K5 n30 a0 v1 v2 v4 x17 x28 x29 h27)))
def wp_X8_canCome_5 (ev : Nat → Nat) (Qr : Int32 → Hp → Prop) : Nat → Nat → Int32 → Int32 → Int32 → Int32 → Hp → Prop
  | 0, _, _, _, _, _, _ => False
  | n5 + 1, a0, v1, v2, v3, v4, h =>
    hok h a0 7 ∧
    ∃ b2 : Nat, hR h a0 0 = some b2 ∧
    hok h b2 3 ∧
    ((hI h b2 0) ≤ v4 →
      wp_X8_canCome_127 ev Qr  a0 v3 h) ∧
    (¬ (hI h b2 0) ≤ v4 →
      (v3 = 0 →
        wp_X8_canCome_127 ev Qr  a0 v3 h) ∧
      (¬ v3 = 0 →
        ∃ n30, wp_X8_canCome_30 ev Qr (wp_X8_canCome_5 ev Qr n5) n30 a0 v1 v2 v4 0 0 v1 h))
/-- LeastSolutions$Seeker.canCome(II)Z -/
def wp_X8_canCome (ev : Nat → Nat) (h : Hp) (a0 : Nat) (p1 : Int32) (p2 : Int32) (Qr : Int32 → Hp → Prop) : Prop :=
  ∃ n5, wp_X8_canCome_5 ev Qr  n5 a0 p1 p2 1 0 h
def wp_X1_type_99 (ev : Nat → Nat) (Qr : Int32 → Hp → Prop) : Nat → Nat → Int64 → Int32 → Hp → Prop
  | 0, _, _, _, _ => False
  | n99 + 1, a0, v1, v5, h =>
    (v5 < 0 →
      hok h a0 0 ∧
      ∃ b2 : Nat, hR h a0 0 = some b2 ∧
      hok h b2 1 ∧
      Qr (hI h b2 1) h) ∧
    (¬ v5 < 0 →
      hok h a0 0 ∧
      ∃ b5 : Nat, hR h a0 0 = some b5 ∧
      hok h b5 1 ∧
      ∃ b7 : Nat, hR h b5 0 = some b7 ∧
      hok h a0 0 ∧
      ∃ b9 : Nat, hR h a0 0 = some b9 ∧
      hok h b9 1 ∧
      ∀ (x11 : Int32), x11 = (hI h b9 1) →
      hok h b9 1 ∧
      ∀ (h12 : Hp), h12 = uI h b9 1 (x11 + 1) →
      hok h12 b7 21 ∧
      vp_in x11 (hN h12 b7) ∧
      ∀ (h14 : Hp), h14 = uA h12 b7 x11 (vp_nar .byte ((((((v1 >>> ((8 * v5).toInt64 &&& 63)) &&& 255)).toInt32)).toInt8.toInt32)) →
      ∀ (x17 : Int32), x17 = v5 + (-1) →
      wp_X1_type_99 ev Qr n99 a0 v1 x17 h14)
def wp_X1_type_78 (ev : Nat → Nat) (Qr : Int32 → Hp → Prop) (K34 : Nat → Int64 → Int32 → Int32 → Int32 → Hp → Prop) (a0 : Nat) (v1 : Int64) (v3 : Int32) (v5 : Int32) (u0 : Int32) (u1 : Int32) (h : Hp) : Prop :=
  ∀ (x1 : Int32), x1 = (u0 &&& u1) →
  ∀ (x2 : Int32), x2 = v5 + 1 →
  K34 a0 v1 v3 x1 x2 h
def wp_X1_type_77 (ev : Nat → Nat) (Qr : Int32 → Hp → Prop) (K34 : Nat → Int64 → Int32 → Int32 → Int32 → Hp → Prop) (a0 : Nat) (v1 : Int64) (v3 : Int32) (v5 : Int32) (u0 : Int32) (h : Hp) : Prop :=
  wp_X1_type_78 ev Qr K34 a0 v1 v3 v5 u0 0 h
def wp_X1_type_34 (ev : Nat → Nat) (Qr : Int32 → Hp → Prop) : Nat → Nat → Int64 → Int32 → Int32 → Int32 → Hp → Prop
  | 0, _, _, _, _, _, _ => False
  | n34 + 1, a0, v1, v3, v4, v5, h =>
    (v3 ≤ v5 →
      (¬ v4 = 0 →
        ∀ (x1 : Int32), x1 = (v3 - 1) →
        ∃ n99, wp_X1_type_99 ev Qr  n99 a0 v1 x1 h) ∧
      (v4 = 0 →
        Qr (-1) h)) ∧
    (¬ v3 ≤ v5 →
      ∀ (y2 : Int64), y2 = ((v1 >>> ((8 * v5).toInt64 &&& 63)) &&& 255) →
      ((lg_cmp y2 31) ≤ 0 →
        wp_X1_type_77 ev Qr (wp_X1_type_34 ev Qr n34) a0 v1 v3 v5 v4 h) ∧
      (¬ (lg_cmp y2 31) ≤ 0 →
        (0 ≤ (lg_cmp y2 127) →
          wp_X1_type_77 ev Qr (wp_X1_type_34 ev Qr n34) a0 v1 v3 v5 v4 h) ∧
        (¬ 0 ≤ (lg_cmp y2 127) →
          wp_X1_type_78 ev Qr (wp_X1_type_34 ev Qr n34) a0 v1 v3 v5 v4 1 h)))
def wp_X1_type_26 (ev : Nat → Nat) (Qr : Int32 → Hp → Prop) (a0 : Nat) (h : Hp) : Prop :=
  Qr (-1) h
/-- LeastSolutions.type(JI)I -/
def wp_X1_type (ev : Nat → Nat) (h : Hp) (a0 : Nat) (p1 : Int64) (p3 : Int32) (Qr : Int32 → Hp → Prop) : Prop :=
  (p3 < 1 →
    wp_X1_type_26 ev Qr  a0 h) ∧
  (¬ p3 < 1 →
    (8 < p3 →
      wp_X1_type_26 ev Qr  a0 h) ∧
    (¬ 8 < p3 →
      hok h a0 0 ∧
      ∃ b2 : Nat, hR h a0 0 = some b2 ∧
      hok h b2 1 ∧
      (((hI h b2 1) + p3) ≤ 300 →
        ∃ n34, wp_X1_type_34 ev Qr  n34 a0 p1 p3 1 0 h) ∧
      (¬ ((hI h b2 1) + p3) ≤ 300 →
        wp_X1_type_26 ev Qr  a0 h)))
/-- LeastSolutions.place()I -/
def wp_X1_place (ev : Nat → Nat) (h : Hp) (a0 : Nat) (Qr : Int32 → Hp → Prop) : Prop :=
  hok h a0 0 ∧
  Qr (hI h a0 9) h
/-- LeastSolutions.count(I)I -/
def wp_X1_count (ev : Nat → Nat) (h : Hp) (a0 : Nat) (p1 : Int32) (Qr : Int32 → Hp → Prop) : Prop :=
  hok h a0 0 ∧
  (¬ (hI h a0 8) = 0 →
    (p1 = 0 →
      hok h a0 0 ∧
      ∃ b3 : Nat, hR h a0 2 = some b3 ∧
      hok h b3 3 ∧
      Qr (hI h b3 0) h) ∧
    (¬ p1 = 0 →
      (p1 = 1 →
        hok h a0 0 ∧
        ∃ b6 : Nat, hR h a0 2 = some b6 ∧
        hok h b6 3 ∧
        Qr (hI h b6 1) h) ∧
      (¬ p1 = 1 →
        (p1 = 2 →
          hok h a0 0 ∧
          ∃ b9 : Nat, hR h a0 2 = some b9 ∧
          hok h b9 3 ∧
          Qr (hI h b9 2) h) ∧
        (¬ p1 = 2 →
          Qr (-1) h)))) ∧
  ((hI h a0 8) = 0 →
    Qr (-1) h)
def wp_X1_letter_35 (ev : Nat → Nat) (Qr : Int32 → Hp → Prop) (a0 : Nat) (u0 : Int32) (h : Hp) : Prop :=
  Qr u0 h
def wp_X1_letter_34 (ev : Nat → Nat) (Qr : Int32 → Hp → Prop) (a0 : Nat) (h : Hp) : Prop :=
  wp_X1_letter_35 ev Qr  a0 (-1) h
/-- LeastSolutions.letter(I)I -/
def wp_X1_letter (ev : Nat → Nat) (h : Hp) (a0 : Nat) (p1 : Int32) (Qr : Int32 → Hp → Prop) : Prop :=
  hok h a0 0 ∧
  ((hI h a0 8) = 0 →
    wp_X1_letter_34 ev Qr  a0 h) ∧
  (¬ (hI h a0 8) = 0 →
    (p1 < 0 →
      wp_X1_letter_34 ev Qr  a0 h) ∧
    (¬ p1 < 0 →
      hok h a0 0 ∧
      ∃ b3 : Nat, hR h a0 2 = some b3 ∧
      hok h b3 3 ∧
      ((hI h b3 2) ≤ p1 →
        wp_X1_letter_34 ev Qr  a0 h) ∧
      (¬ (hI h b3 2) ≤ p1 →
        hok h a0 0 ∧
        ∃ b6 : Nat, hR h a0 2 = some b6 ∧
        hok h b6 3 ∧
        ∃ b8 : Nat, hR h b6 3 = some b8 ∧
        hok h b8 20 ∧
        vp_in p1 (hN h b8) ∧
        wp_X1_letter_35 ev Qr  a0 ((hA h b8 p1)) h)))
def wp_X1_isColumn_20 (ev : Nat → Nat) (Qr : Int32 → Hp → Prop) (a0 : Nat) (u0 : Int32) (h : Hp) : Prop :=
  isB u0 ∧ Qr u0 h
def wp_X1_isColumn_19 (ev : Nat → Nat) (Qr : Int32 → Hp → Prop) (a0 : Nat) (h : Hp) : Prop :=
  wp_X1_isColumn_20 ev Qr  a0 0 h
/-- LeastSolutions.isColumn(I)Z -/
def wp_X1_isColumn (ev : Nat → Nat) (h : Hp) (a0 : Nat) (p1 : Int32) (Qr : Int32 → Hp → Prop) : Prop :=
  (p1 < 0 →
    wp_X1_isColumn_19 ev Qr  a0 h) ∧
  (¬ p1 < 0 →
    hok h a0 0 ∧
    ∃ b2 : Nat, hR h a0 2 = some b2 ∧
    hok h b2 3 ∧
    ((hI h b2 1) ≤ p1 →
      wp_X1_isColumn_19 ev Qr  a0 h) ∧
    (¬ (hI h b2 1) ≤ p1 →
      wp_X1_isColumn_20 ev Qr  a0 1 h))
def wp_X1_times_37 (ev : Nat → Nat) (Qr : Int32 → Hp → Prop) (a0 : Nat) (u0 : Int32) (h : Hp) : Prop :=
  Qr u0 h
def wp_X1_times_36 (ev : Nat → Nat) (Qr : Int32 → Hp → Prop) (a0 : Nat) (h : Hp) : Prop :=
  wp_X1_times_37 ev Qr  a0 (-1) h
/-- LeastSolutions.times(I)I -/
def wp_X1_times (ev : Nat → Nat) (h : Hp) (a0 : Nat) (p1 : Int32) (Qr : Int32 → Hp → Prop) : Prop :=
  hok h a0 0 ∧
  ((hI h a0 12) = 0 →
    wp_X1_times_36 ev Qr  a0 h) ∧
  (¬ (hI h a0 12) = 0 →
    (p1 < 0 →
      wp_X1_times_36 ev Qr  a0 h) ∧
    (¬ p1 < 0 →
      hok h a0 0 ∧
      ∃ b3 : Nat, hR h a0 7 = some b3 ∧
      hok h b3 27 ∧
      vp_in 0 (hN h b3) ∧
      ∃ b6 : Nat, hO h b3 0 = some b6 ∧
      hok h b6 8 ∧
      ∃ b8 : Nat, hR h b6 0 = some b8 ∧
      hok h b8 6 ∧
      wp_X7_size ev h b8 (fun (x10 : Int32) (h9 : Hp) =>
        (x10 ≤ p1 →
          wp_X1_times_36 ev Qr  a0 h9) ∧
        (¬ x10 ≤ p1 →
          hok h9 a0 0 ∧
          ∃ b13 : Nat, hR h9 a0 11 = some b13 ∧
          hok h9 b13 20 ∧
          vp_in p1 (hN h9 b13) ∧
          wp_X1_times_37 ev Qr  a0 ((hA h9 b13 p1)) h9))))
def wp_X1_bestAt_28 (ev : Nat → Nat) (Qr : Int32 → Hp → Prop) (a0 : Nat) (u0 : Int32) (h : Hp) : Prop :=
  Qr u0 h
def wp_X1_bestAt_27 (ev : Nat → Nat) (Qr : Int32 → Hp → Prop) (a0 : Nat) (h : Hp) : Prop :=
  wp_X1_bestAt_28 ev Qr  a0 (-1) h
/-- LeastSolutions.bestAt(I)I -/
def wp_X1_bestAt (ev : Nat → Nat) (h : Hp) (a0 : Nat) (p1 : Int32) (Qr : Int32 → Hp → Prop) : Prop :=
  hok h a0 0 ∧
  ((hI h a0 13) = 0 →
    wp_X1_bestAt_27 ev Qr  a0 h) ∧
  (¬ (hI h a0 13) = 0 →
    hok h a0 0 ∧
    wp_X1_isColumn ev h a0 p1 (fun (x3 : Int32) (h2 : Hp) =>
      (x3 = 0 →
        wp_X1_bestAt_27 ev Qr  a0 h2) ∧
      (¬ x3 = 0 →
        hok h2 a0 0 ∧
        ∃ b6 : Nat, hR h2 a0 6 = some b6 ∧
        hok h2 b6 7 ∧
        ∃ b8 : Nat, hR h2 b6 3 = some b8 ∧
        hok h2 b8 20 ∧
        vp_in p1 (hN h2 b8) ∧
        wp_X1_bestAt_28 ev Qr  a0 ((hA h2 b8 p1)) h2)))
def wp_X1_belongs_68 (ev : Nat → Nat) (Qr : Int32 → Hp → Prop) (K7 : Nat → Int32 → Int32 → Int32 → Int32 → Hp → Prop) (v0 : Nat) (v1 : Int32) (v2 : Int32) (v4 : Int32) (u0 : Int32) (u1 : Int32) (h : Hp) : Prop :=
  ∀ (x1 : Int32), x1 = (u0 &&& u1) →
  ∀ (x2 : Int32), x2 = v4 + 1 →
  K7 v0 v1 v2 x1 x2 h
def wp_X1_belongs_53 (ev : Nat → Nat) (Qr : Int32 → Hp → Prop) (K7 : Nat → Int32 → Int32 → Int32 → Int32 → Hp → Prop) (v0 : Nat) (v1 : Int32) (v3 : Int32) (v4 : Int32) (u0 : Int32) (u1 : Int32) (h : Hp) : Prop :=
  ∀ (x1 : Int32), x1 = (u0 &&& u1) →
  hok h v0 21 ∧
  vp_in v4 (hN h v0) ∧
  (¬ (hA h v0 v4) = 0 →
    wp_X1_belongs_68 ev Qr K7 v0 v1 x1 v4 v3 0 h) ∧
  ((hA h v0 v4) = 0 →
    wp_X1_belongs_68 ev Qr K7 v0 v1 x1 v4 v3 1 h)
def wp_X1_belongs_52 (ev : Nat → Nat) (Qr : Int32 → Hp → Prop) (K7 : Nat → Int32 → Int32 → Int32 → Int32 → Hp → Prop) (v0 : Nat) (v1 : Int32) (v3 : Int32) (v4 : Int32) (u0 : Int32) (h : Hp) : Prop :=
  wp_X1_belongs_53 ev Qr K7 v0 v1 v3 v4 u0 0 h
def wp_X1_belongs_48 (ev : Nat → Nat) (Qr : Int32 → Hp → Prop) (K7 : Nat → Int32 → Int32 → Int32 → Int32 → Hp → Prop) (v0 : Nat) (v1 : Int32) (v3 : Int32) (v4 : Int32) (u0 : Int32) (h : Hp) : Prop :=
  wp_X1_belongs_53 ev Qr K7 v0 v1 v3 v4 u0 1 h
def wp_X1_belongs_29 (ev : Nat → Nat) (Qr : Int32 → Hp → Prop) (K7 : Nat → Int32 → Int32 → Int32 → Int32 → Hp → Prop) (v0 : Nat) (v1 : Int32) (v2 : Int32) (v3 : Int32) (v4 : Int32) (u0 : Int32) (h : Hp) : Prop :=
  (u0 = 0 →
    wp_X1_belongs_48 ev Qr K7 v0 v1 v3 v4 v2 h) ∧
  (¬ u0 = 0 →
    hok h v0 21 ∧
    vp_in v4 (hN h v0) ∧
    ((hA h v0 v4) = 0 →
      wp_X1_belongs_52 ev Qr K7 v0 v1 v3 v4 v2 h) ∧
    (¬ (hA h v0 v4) = 0 →
      (¬ v3 = 0 →
        wp_X1_belongs_52 ev Qr K7 v0 v1 v3 v4 v2 h) ∧
      (v3 = 0 →
        wp_X1_belongs_48 ev Qr K7 v0 v1 v3 v4 v2 h)))
def wp_X1_belongs_7 (ev : Nat → Nat) (Qr : Int32 → Hp → Prop) : Nat → Nat → Int32 → Int32 → Int32 → Int32 → Hp → Prop
  | 0, _, _, _, _, _, _ => False
  | n7 + 1, v0, v1, v2, v3, v4, h =>
    (6 ≤ v4 →
      isB v2 ∧ Qr v2 h) ∧
    (¬ 6 ≤ v4 →
      (¬ ((v1 >>> (v4 &&& 31)) &&& 1) = 1 →
        wp_X1_belongs_29 ev Qr (wp_X1_belongs_7 ev Qr n7) v0 v1 v2 v3 v4 0 h) ∧
      (((v1 >>> (v4 &&& 31)) &&& 1) = 1 →
        wp_X1_belongs_29 ev Qr (wp_X1_belongs_7 ev Qr n7) v0 v1 v2 v3 v4 1 h))
/-- LeastSolutions.belongs([BI)Z -/
def wp_X1_belongs (ev : Nat → Nat) (h : Hp) (p0 : Nat) (p1 : Int32) (Qr : Int32 → Hp → Prop) : Prop :=
  ∃ n7, wp_X1_belongs_7 ev Qr  n7 p0 p1 1 1 0 h
def wp_X1_take_2 (ev : Nat → Nat) (Qr : Hp → Prop) : Nat → Nat → Nat → Int32 → Hp → Prop
  | 0, _, _, _, _ => False
  | n2 + 1, v0, v1, v2, h =>
    (6 ≤ v2 →
      Qr h) ∧
    (¬ 6 ≤ v2 →
      hok h v1 20 ∧
      vp_in v2 (hN h v1) ∧
      hok h v0 10 ∧
      ∃ b4 : Nat, hR h v0 0 = some b4 ∧
      hok h b4 21 ∧
      vp_in v2 (hN h b4) ∧
      hok h v1 20 ∧
      vp_in v2 (hN h v1) ∧
      ∀ (h7 : Hp), h7 = uA h v1 v2 ((hA h v1 v2) - (hA h b4 v2)) →
      ∀ (x10 : Int32), x10 = v2 + 1 →
      wp_X1_take_2 ev Qr n2 v0 v1 x10 h7)
/-- LeastSolutions.take(LLeastSolutions$Vector;[I)V -/
def wp_X1_take (ev : Nat → Nat) (h : Hp) (p0 : Nat) (p1 : Nat) (Qr : Hp → Prop) : Prop :=
  ∃ n2, wp_X1_take_2 ev Qr  n2 p0 p1 0 h
