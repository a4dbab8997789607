/-! Bounds, general mode: its numbers for ranges of 1320, any service (printed by gen/pcg.py) -/
theorem PCg.of {K M kT : Int} {A X : Nat} {U1 C1 Z : Int} {C3 w1 Fm : Nat} (h : 0 < M ∧ 0 ≤ kT ∧ 5 ≤ A ∧ 40 ≤ X ∧ 32 * K < (X : Int) * X - 7 * X + 6 ∧ 3 * (X : Int) + 14 ≤ U1 + 3 * A ∧ 0 ≤ U1 ∧ U1 ≤ C1 ∧ 2 ≤ C1 ∧ C1 + 2 ≤ Z ∧ 3 * (X : Int) + 14 + U1 ≤ Z + 3 * A ∧ 16 * K < ((C3 : Int) + 2) * (w1 + 1 : Nat) ∧ 3 * (C3 : Int) + 2 ≤ C1 + 3 * A ∧ 3 * (C3 : Int) + U1 ≤ Z + 3 * A)
    (h1 : ∀ F : Nat, F < Fm + 1 → 15 < F → 3 * (M * ((F : Int) + 4)) + 2 * M + 786432 * (kT * (((w1 : Int) + 1) * ((w1 : Int) + 1))) ≤ 196608 * (kT * (((F : Int) - 2) * ((F : Int) - 2))) + M * C1 + 3 * (M * (A : Int)))
    (h2 : ∀ F : Nat, F < Fm + 1 → 15 < F → 3 * (M * ((F : Int) + 4)) + M * U1 + 786432 * (kT * (((w1 : Int) + 1) * ((w1 : Int) + 1))) ≤ 196608 * (kT * (((F : Int) - 2) * ((F : Int) - 2))) + M * (gLv X F : Int) + M * Z + 3 * (M * (A : Int))) : PCg K M kT A X U1 C1 Z C3 w1 Fm := by
  obtain ⟨a1, a2, a3, a4, a5, a6, a7, a8, a9, b1, b2, b3, b4, b5⟩ := h
  exact ⟨a1, a2, a3, a4, a5, a6, a7, a8, a9, b1, b2, b3, b4, b5, fun F p q => h1 F (by omega) p, fun F p q => h2 F (by omega) p⟩
set_option maxRecDepth 20000 in
theorem pcg_5 : PCg 1321 922746880 1 5 210 629 1943 2150 491 42 680 := PCg.of (by decide) (by decide) (by decide)
set_option maxRecDepth 20000 in
theorem pcg_20 : PCg 1321 263641966 1 20 210 584 1659 1821 431 48 680 := PCg.of (by decide) (by decide) (by decide)
set_option maxRecDepth 20000 in
theorem pcg_40 : PCg 1321 135036129 1 40 210 524 1290 1392 325 64 680 := PCg.of (by decide) (by decide) (by decide)
set_option maxRecDepth 20000 in
theorem pcg_60 : PCg 1321 90761989 1 60 210 464 941 1035 248 84 680 := PCg.of (by decide) (by decide) (by decide)
