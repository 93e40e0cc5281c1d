set_option maxRecDepth 100000
/-- LeastSolutionsModel.<init>()V -/
def wp_X10_init (ev : Nat → Nat) (h : Hp) (a0 : Nat) (MC MS : Nat) (Qr : Hp → Prop) : Prop :=
  ∃ mc2 ms3 : Nat, MC = 1 + mc2 ∧ MS = 300 + ms3 ∧
  ∀ (q4 : Nat), q4 ∉ h.1 → ∀ (h5 : Hp), h5 = nA h q4 20 300 →
  hok h5 a0 9 ∧
  ∀ (h6 : Hp), h6 = uR h5 a0 1 (some q4) →
  hok h6 a0 9 ∧
  ∀ (h8 : Hp), h8 = uI h6 a0 3 (-1) →
  ∃ mc11 ms12 : Nat, mc2 = 1 + mc11 ∧ ms3 = 301 + ms12 ∧
  ∀ (q13 : Nat), q13 ∉ h8.1 → ∀ (h14 : Hp), h14 = nA h8 q13 20 301 →
  hok h14 a0 9 ∧
  ∀ (h15 : Hp), h15 = uR h14 a0 4 (some q13) →
  ∃ mc18 ms19 : Nat, mc11 = 1 + mc18 ∧ ms12 = 301 + ms19 ∧
  ∀ (q20 : Nat), q20 ∉ h15.1 → ∀ (h21 : Hp), h21 = nA h15 q20 20 301 →
  hok h21 a0 9 ∧
  ∀ (h22 : Hp), h22 = uR h21 a0 5 (some q20) →
  ∃ mc25 ms26 : Nat, mc18 = 1 + mc25 ∧ ms19 = 301 + ms26 ∧
  ∀ (q27 : Nat), q27 ∉ h22.1 → ∀ (h28 : Hp), h28 = nA h22 q27 20 301 →
  hok h28 a0 9 ∧
  ∀ (h29 : Hp), h29 = uR h28 a0 6 (some q27) →
  ∃ mc32 ms33 : Nat, mc25 = 1 + mc32 ∧ ms26 = 6 + ms33 ∧
  ∀ (q34 : Nat), q34 ∉ h29.1 → ∀ (h35 : Hp), h35 = nA h29 q34 20 6 →
  hok h35 a0 9 ∧
  ∀ (h36 : Hp), h36 = uR h35 a0 8 (some q34) →
  ∃ mc39 ms40 : Nat, mc32 = 1 + mc39 ∧ ms33 = 28 + ms40 ∧
  ∀ (q41 : Nat), q41 ∉ h36.1 → ∀ (h42 : Hp), h42 = nA h36 q41 20 28 →
  hok h42 a0 9 ∧
  ∀ (h43 : Hp), h43 = uR h42 a0 12 (some q41) →
  ∃ mc46 ms47 : Nat, mc39 = 1 + mc46 ∧ ms40 = 4 + ms47 ∧
  ∀ (q48 : Nat), q48 ∉ h43.1 → ∀ (h49 : Hp), h49 = nA h43 q48 20 4 →
  hok h49 a0 9 ∧
  ∀ (h50 : Hp), h50 = uR h49 a0 13 (some q48) →
  ∃ mc53 ms54 : Nat, mc46 = 1 + mc53 ∧ ms47 = 6 + ms54 ∧
  ∀ (q55 : Nat), q55 ∉ h50.1 → ∀ (h56 : Hp), h56 = nA h50 q55 20 6 →
  hok h56 a0 9 ∧
  ∀ (h57 : Hp), h57 = uR h56 a0 18 (some q55) →
  ∃ mc60 ms61 : Nat, mc53 = 1 + mc60 ∧ ms54 = 28 + ms61 ∧
  ∀ (q62 : Nat), q62 ∉ h57.1 → ∀ (h63 : Hp), h63 = nA h57 q62 20 28 →
  hok h63 a0 9 ∧
  ∀ (h64 : Hp), h64 = uR h63 a0 19 (some q62) →
  ∃ mc67 ms68 : Nat, mc60 = 1 + mc67 ∧ ms61 = 3 + ms68 ∧
  ∀ (q69 : Nat), q69 ∉ h64.1 → ∀ (h70 : Hp), h70 = nA h64 q69 22 3 →
  hok h70 a0 9 ∧
  ∀ (h71 : Hp), h71 = uR h70 a0 20 (some q69) →
  ∃ mc74 ms75 : Nat, mc67 = 1 + mc74 ∧ ms68 = 3 + ms75 ∧
  ∀ (q76 : Nat), q76 ∉ h71.1 → ∀ (h77 : Hp), h77 = nA h71 q76 20 3 →
  hok h77 a0 9 ∧
  ∀ (h78 : Hp), h78 = uR h77 a0 21 (some q76) →
  ∃ mc81 ms82 : Nat, mc74 = 1 + mc81 ∧ ms75 = 3 + ms82 ∧
  ∀ (q83 : Nat), q83 ∉ h78.1 → ∀ (h84 : Hp), h84 = nA h78 q83 20 3 →
  hok h84 a0 9 ∧
  ∀ (h85 : Hp), h85 = uR h84 a0 22 (some q83) →
  ∃ mc88 ms89 : Nat, mc81 = 1 + mc88 ∧ ms82 = 36000 + ms89 ∧
  ∀ (q90 : Nat), q90 ∉ h85.1 → ∀ (h91 : Hp), h91 = nA h85 q90 21 36000 →
  hok h91 a0 9 ∧
  ∀ (h92 : Hp), h92 = uR h91 a0 23 (some q90) →
  ∃ mc95 ms96 : Nat, mc88 = 1 + mc95 ∧ ms89 = 6 + ms96 ∧
  ∀ (q97 : Nat), q97 ∉ h92.1 → ∀ (h98 : Hp), h98 = nA h92 q97 20 6 →
  hok h98 a0 9 ∧
  ∀ (h99 : Hp), h99 = uR h98 a0 24 (some q97) →
  ∃ mc102 ms103 : Nat, mc95 = 1 + mc102 ∧ ms96 = 6 + ms103 ∧
  ∀ (q104 : Nat), q104 ∉ h99.1 → ∀ (h105 : Hp), h105 = nA h99 q104 20 6 →
  hok h105 a0 9 ∧
  ∀ (h106 : Hp), h106 = uR h105 a0 25 (some q104) →
  ∃ mc109 ms110 : Nat, mc102 = 1 + mc109 ∧ ms103 = 2000 + ms110 ∧
  ∀ (q111 : Nat), q111 ∉ h106.1 → ∀ (h112 : Hp), h112 = nA h106 q111 20 2000 →
  hok h112 a0 9 ∧
  ∀ (h113 : Hp), h113 = uR h112 a0 27 (some q111) →
  ∃ mc116 ms117 : Nat, mc109 = 1 + mc116 ∧ ms110 = 6 + ms117 ∧
  ∀ (q118 : Nat), q118 ∉ h113.1 → ∀ (h119 : Hp), h119 = nA h113 q118 20 6 →
  hok h119 a0 9 ∧
  ∀ (h120 : Hp), h120 = uR h119 a0 29 (some q118) →
  ∃ mc123 ms124 : Nat, mc116 = 1 + mc123 ∧ ms117 = 36 + ms124 ∧
  ∀ (q125 : Nat), q125 ∉ h120.1 → ∀ (h126 : Hp), h126 = nA h120 q125 23 36 →
  hok h126 a0 9 ∧
  ∀ (h127 : Hp), h127 = uR h126 a0 30 (some q125) →
  ∃ mc130 ms131 : Nat, mc123 = 1 + mc130 ∧ ms124 = 6 + ms131 ∧
  ∀ (q132 : Nat), q132 ∉ h127.1 → ∀ (h133 : Hp), h133 = nA h127 q132 23 6 →
  hok h133 a0 9 ∧
  ∀ (h134 : Hp), h134 = uR h133 a0 32 (some q132) →
  ∃ mc137 ms138 : Nat, mc130 = 1 + mc137 ∧ ms131 = 6 + ms138 ∧
  ∀ (q139 : Nat), q139 ∉ h134.1 → ∀ (h140 : Hp), h140 = nA h134 q139 23 6 →
  hok h140 a0 9 ∧
  ∀ (h141 : Hp), h141 = uR h140 a0 34 (some q139) →
  ∃ mc144 ms145 : Nat, mc137 = 1 + mc144 ∧ ms138 = 6 + ms145 ∧
  ∀ (q146 : Nat), q146 ∉ h141.1 → ∀ (h147 : Hp), h147 = nA h141 q146 20 6 →
  hok h147 a0 9 ∧
  ∀ (h148 : Hp), h148 = uR h147 a0 35 (some q146) →
  Qr h148
