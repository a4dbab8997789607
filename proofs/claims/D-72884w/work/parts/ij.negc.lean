/-! Bounds: what an acknowledgment with queueing below zero costs -/
/-- the window behind it: K is one more than the queueing below zero -/
theorem neg_quad {e A : Int} (hA : 200 ≤ A) (h1 : e * A ≤ 80 * (A - 199)) : 10 * e ≤ A + 10 := by
  apply Decidable.byContradiction
  intro z
  have a : (A + 11) * A ≤ (10 * e) * A := Int.mul_le_mul_of_nonneg_right (by omega) (by omega)
  have b : (10 * e) * A = 10 * (e * A) := Int.mul_assoc _ _ _
  have c : 0 ≤ (A - 395) * (A - 395) := by
    rcases Int.le_total 395 A with q | q
    · exact Int.mul_nonneg (by omega) (by omega)
    · have := Int.mul_nonneg (a := 395 - A) (b := 395 - A) (by omega) (by omega)
      rw [show (A - 395) * (A - 395) = (395 - A) * (395 - A) by rw [show A - 395 = -(395 - A) by omega, Int.neg_mul_neg]]
      exact this
  have d : (A - 395) * (A - 395) = A * A - 790 * A + 156025 := by
    rw [Int.sub_mul, Int.mul_sub, Int.mul_sub]
    omega
  have e2 : (A + 11) * A = A * A + 11 * A := Int.add_mul _ _ _
  omega
/-- J: what holds of windows, flight and losses from a slow-down's end on -/
def JB (W f U Lf : Nat) : Prop := f ≤ U + 2 ∨ f ≤ W ∨ (Lf = 0 ∧ f ≤ 2 * W + 1)
theorem pb_neg {W V f U Lf g : Nat} (hW : 1 ≤ W) (hx : (U + 1) + Lf ≤ f + 1) (hj : JB W (f + 1) (U + 1) Lf) (hv : W ≤ V) (h1 : V ≤ max W (f + 3)) (h2 : ((V : Int) - W - 1) * W ≤ 8 * (1 + g)) : 5 * PB V f U Lf ≤ 5 * PB W (f + 1) (U + 1) Lf + 25 + (g + 200) := by
  have a1 := PB_1 W (f + 1) (U + 1) Lf
  have a2 := PB_2 W (f + 1) (U + 1) Lf
  have a3 := PB_3 (W := W) (f := f + 1) (U := U + 1) (Lf := Lf) (by omega)
  have key : PB V f U Lf ≤ PB W (f + 1) (U + 1) Lf + 5 + (g + 200) / 5 := by
    by_cases hl : Lf = 0
    · subst hl
      rw [mB_0] at a1
      have w := phB_c W
      have q := phB_c V
      refine PB_le ?_ ?_ ?_
      · rw [mB_0]
        unfold JB at hj
        rcases hj with j | j | j
        · omega
        · omega
        · by_cases big : 10 * W ≤ g + 200
          · omega
          · have hA : (200 : Int) ≤ (g : Int) + 200 := by omega
            have he : ((V : Int) - W - 1) * ((g : Int) + 200) ≤ 80 * ((g : Int) + 200 - 199) := by
              by_cases z : (V : Int) - W - 1 ≤ 0
              · have : ((V : Int) - W - 1) * ((g : Int) + 200) ≤ 0 := Int.mul_nonpos_of_nonpos_of_nonneg z (by omega)
                omega
              · have m : ((V : Int) - W - 1) * ((g : Int) + 200) ≤ ((V : Int) - W - 1) * (10 * W) := Int.mul_le_mul_of_nonneg_left (by omega) (by omega)
                have m2 : ((V : Int) - W - 1) * (10 * W) = 10 * (((V : Int) - W - 1) * W) := by
                  rw [← Int.mul_assoc, Int.mul_comm _ (10 : Int), Int.mul_assoc]
                omega
            have r := neg_quad hA he
            omega
      · omega
      · intro u
        have u2 := uuB_0 V f
        have u1 := uuB_0 W (f + 1)
        omega
    · rw [mB_1 (by omega)] at a1
      have w := phB_c (max W (f + 1))
      have q := phB_c (max V f)
      refine PB_le ?_ ?_ ?_
      · rw [mB_1 (by omega)]
        omega
      · omega
      · intro u
        have u2 := uuB_1 V f (Lf := Lf) (by omega)
        omega
  omega
theorem JB.send {W f U2 Lf2 : Nat} (h : f < W) : JB W (f + 1) U2 Lf2 := Or.inr (Or.inl h)
theorem JB.stale {W f U Lf : Nat} (h : JB W (f + 1) U Lf) : JB W f U Lf := by
  unfold JB at h ⊢
  omega
theorem JB.fresh {W f U Lf : Nat} (hW : 1 ≤ W) (h : JB W (f + 1) U (Lf + 1)) : JB (max 1 (W / 2)) f U 0 := by
  unfold JB at h ⊢
  omega
theorem JB.ack {W V f U Lf : Nat} (h : JB W (f + 1) (U + 1) Lf) (hv : W ≤ V) : JB V f U Lf := by
  unfold JB at h ⊢
  omega
