/-! Bounds: further forms of the cost of a negative acknowledgment -/
/-- with fresh losses on the way -/
theorem pb_negF {W V f U Lf : Nat} (hl : 1 ≤ Lf) (hx : (U + 1) + Lf ≤ f + 1) (hv : W ≤ V) (h1 : V ≤ max W (f + 3)) : PB V f U Lf ≤ PB W (f + 1) (U + 1) Lf + 5 := by
  have a1 := PB_1 W (f + 1) (U + 1) Lf
  have a2 := PB_2 W (f + 1) (U + 1) Lf
  have a3 := PB_3 (W := W) (f := f + 1) (U := U + 1) (Lf := Lf) (by omega)
  rw [mB_1 hl] at a1
  have w := phB_c (max W (f + 1))
  have q := phB_c (max V f)
  have u1 := uuB_1 W (f + 1) hl
  refine PB_le ?_ ?_ ?_
  · rw [mB_1 hl]
    omega
  · omega
  · intro u
    have u2 := uuB_1 V f hl
    omega
theorem neg_quad2 {e A : Int} (hA : 2500 ≤ A) (h1 : e * A ≤ 200 * A - 499600) : 50 * e ≤ A + 50 := by
  apply Decidable.byContradiction
  intro z
  have a : (A + 51) * A ≤ (50 * e) * A := Int.mul_le_mul_of_nonneg_right (by omega) (by omega)
  have b : (50 * e) * A = 50 * (e * A) := Int.mul_assoc _ _ _
  have c : 0 ≤ (A - 4975) * (A - 4975) := by
    rcases Int.le_total 4975 A with q | q
    · exact Int.mul_nonneg (by omega) (by omega)
    · have := Int.mul_nonneg (a := 4975 - A) (b := 4975 - A) (by omega) (by omega)
      rw [show (A - 4975) * (A - 4975) = (4975 - A) * (4975 - A) by rw [show A - 4975 = -(4975 - A) by omega, Int.neg_mul_neg]]
      exact this
  have d : (A - 4975) * (A - 4975) = A * A - 9950 * A + 24750625 := by
    rw [Int.sub_mul, Int.mul_sub, Int.mul_sub]
    omega
  have e2 : (A + 51) * A = A * A + 51 * A := Int.add_mul _ _ _
  omega
/-- under J, the other slope -/
theorem pb_neg2 {W V f U Lf g : Nat} (hW : 1 ≤ W) (hx : (U + 1) + Lf ≤ f + 1) (hj : JB W (f + 1) (U + 1) Lf) (hv : W ≤ V) (h1 : V ≤ max W (f + 3)) (h2 : ((V : Int) - W - 1) * W ≤ 8 * (1 + g)) : 5 * PB V f U Lf ≤ 5 * PB W (f + 1) (U + 1) Lf + 25 + (2 * g / 5 + 500) := by
  by_cases hl : Lf = 0
  · have a1 := PB_1 W (f + 1) (U + 1) Lf
    have a2 := PB_2 W (f + 1) (U + 1) Lf
    subst hl
    rw [mB_0] at a1
    have w := phB_c W
    have q := phB_c V
    have key : PB V f U 0 ≤ PB W (f + 1) (U + 1) 0 + 5 + (2 * g / 5 + 500) / 5 := by
      refine PB_le ?_ (by omega) ?_
      · rw [mB_0]
        unfold JB at hj
        rcases hj with j | j | j
        · omega
        · omega
        · by_cases big : 50 * W ≤ 2 * g + 2500
          · omega
          · have hA : (2500 : Int) ≤ 2 * (g : Int) + 2500 := by omega
            have he : ((V : Int) - W - 1) * (2 * (g : Int) + 2500) ≤ 200 * (2 * (g : Int) + 2500) - 499600 := by
              by_cases z : (V : Int) - W - 1 ≤ 0
              · have : ((V : Int) - W - 1) * (2 * (g : Int) + 2500) ≤ 0 := Int.mul_nonpos_of_nonpos_of_nonneg z (by omega)
                omega
              · have m : ((V : Int) - W - 1) * (2 * (g : Int) + 2500) ≤ ((V : Int) - W - 1) * (50 * W) := Int.mul_le_mul_of_nonneg_left (by omega) (by omega)
                have m2 : ((V : Int) - W - 1) * (50 * W) = 50 * (((V : Int) - W - 1) * W) := by
                  rw [← Int.mul_assoc, Int.mul_comm _ (50 : Int), Int.mul_assoc]
                omega
            have r := neg_quad2 hA he
            omega
      · intro u
        have u2 := uuB_0 V f
        omega
    omega
  · have := pb_negF (W := W) (V := V) (f := f) (U := U) (Lf := Lf) (by omega) hx hv h1
    omega
