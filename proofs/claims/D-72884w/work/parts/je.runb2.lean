/-! Bounds: a run of ticks in regime B, put together -/
theorem MB.run {nS nC : Nat} {m : MS} {tq T0 : Int} {y : Nat → Int} (h4 : nS ≤ 4) (h : MB nS m tq T0 y) (hq : tq < mg m 5 + 1) (h0 : 0 ≤ mg m 5 + 1) (hR : mg m 2 + mg m 3 ≤ 60) (hR1 : 1 ≤ mg m 2 + mg m 3) (hs : 1 ≤ mg m 1) : ∀ T : Nat, ∃ y2, MB nS (tkN nS nC T m) tq T0 y2 ∧ mg m 1 * sumN y2 nS + 305 * (mg m 1 * ((mg m 2 + mg m 3) * (sntM nS (tkN nS nC T m) - sntM nS m))) ≤ mg m 1 * sumN y nS + 1525 * ((mg m 2 + mg m 3) * (phM (tkN nS nC T m) - phM m)) + mg m 1 * (nS * (T * (127 * (mg m 2 + mg m 3) + 305) + 24400 * ((mg m 2 + mg m 3) * ((mg m 5 + T) / 200 - mg m 5 / 200)))) := by
  intro T
  induction T with
  | zero =>
    refine ⟨y, h, ?_⟩
    have e : tkN nS nC 0 m = m := rfl
    rw [e, Int.sub_self, Int.sub_self]
    have : (mg m 5 + ((0 : Nat) : Int)) / 200 - mg m 5 / 200 = 0 := by
      rw [show mg m 5 + ((0 : Nat) : Int) = mg m 5 by omega]
      omega
    rw [this]
    simp
  | succ T ih =>
    obtain ⟨y2, hM, hY⟩ := ih
    have g1 := tkN_g (nS := nS) (nC := nC) (m := m) (i := 1) (by decide) (by decide) (by decide) (by decide) (by decide) (by decide) T
    have g2 := tkN_g (nS := nS) (nC := nC) (m := m) (i := 2) (by decide) (by decide) (by decide) (by decide) (by decide) (by decide) T
    have g3 := tkN_g (nS := nS) (nC := nC) (m := m) (i := 3) (by decide) (by decide) (by decide) (by decide) (by decide) (by decide) T
    have g5 := tkN_5 (nS := nS) (nC := nC) (m := m) T
    have et : tkN nS nC (T + 1) m = tickM nS nC (tkN nS nC T m) := rfl
    rw [et]
    generalize tkN nS nC T m = x at *
    have hM2 := hM.tick (nC := nC) h4 (by rw [g5]; omega) (by rw [g5]; omega) (by rw [g2, g3]; exact hR) (by rw [g2, g3]; exact hR1)
    have hS := yTk_sum (nS := nS) (nC := nC) (m := x) (y := y2) (by rw [g2, g3]; exact hR1)
    have hP := (phM_tick (nS := nS) (nC := nC) (m := x) (by rw [g1]; exact hs)).1
    refine ⟨yTk nS nC x y2, hM2, ?_⟩
    rw [g2, g3, g5] at hS
    rw [g1] at hP
    generalize hRR : mg m 2 + mg m 3 = R at *
    generalize mg m 1 = sv at *
    generalize mg m 5 = a at *
    generalize sumN (yTk nS nC x y2) nS = Y3 at *
    generalize sumN y2 nS = Y2 at *
    generalize sumN y nS = Y1 at *
    generalize sntM nS (tickM nS nC x) = S3 at *
    generalize sntM nS x = S2 at *
    generalize sntM nS m = S1 at *
    generalize phM (tickM nS nC x) = P3 at *
    generalize phM x = P2 at *
    generalize phM m = P1 at *
    generalize fiB (beginM (midM nS nC x)) = F at *
    have eT : a + ((T + 1 : Nat) : Int) = a + T + 1 := by omega
    rw [eT]
    generalize hD1 : (a + (T : Int)) / 200 - a / 200 = D1 at *
    have hD2 : (a + (T : Int) + 1) / 200 - a / 200 = D1 + ((a + (T : Int) + 1) / 200 - (a + (T : Int)) / 200) := by omega
    rw [hD2]
    generalize (a + (T : Int) + 1) / 200 - (a + (T : Int)) / 200 = D2 at *
    have b1 : sv * (Y3 + 305 * (R * (S3 - S2))) ≤ sv * (Y2 + 1525 * (R * F) + nS * (61 * (R * (2 + 400 * D2)) + 305 + 5 * R)) := Int.mul_le_mul_of_nonneg_left hS (by omega)
    have b2 : R * (sv * F) ≤ R * (P3 - P2) := Int.mul_le_mul_of_nonneg_left hP (by omega)
    have c1 : sv * (Y3 + 305 * (R * (S3 - S2))) = sv * Y3 + 305 * (sv * (R * (S3 - S2))) := by
      rw [Int.mul_add, Int.mul_left_comm sv 305]
    have c2 : sv * (Y2 + 1525 * (R * F) + nS * (61 * (R * (2 + 400 * D2)) + 305 + 5 * R)) = sv * Y2 + 1525 * (R * (sv * F)) + sv * (nS * (127 * R + 305 + 24400 * (R * D2))) := by
      have : 61 * (R * (2 + 400 * D2)) + 305 + 5 * R = 127 * R + 305 + 24400 * (R * D2) := by
        rw [Int.mul_add, Int.mul_left_comm R 400]
        omega
      rw [this, Int.mul_add, Int.mul_add, Int.mul_left_comm sv 1525, Int.mul_left_comm sv R F]
    have c3 : sv * (R * (S3 - S1)) = sv * (R * (S3 - S2)) + sv * (R * (S2 - S1)) := by
      rw [← Int.mul_add, ← Int.mul_add]
      congr 2
      omega
    have c4 : R * (P3 - P1) = R * (P3 - P2) + R * (P2 - P1) := by
      rw [← Int.mul_add]
      congr 1
      omega
    have c5 : sv * (nS * (((T + 1 : Nat) : Int) * (127 * R + 305) + 24400 * (R * (D1 + D2)))) = sv * (nS * (T * (127 * R + 305) + 24400 * (R * D1))) + sv * (nS * (127 * R + 305 + 24400 * (R * D2))) := by
      rw [← Int.mul_add, ← Int.mul_add]
      congr 2
      push_cast
      rw [Int.add_mul, Int.one_mul, Int.mul_add R]
      omega
    rw [c3, c4, c5]
    omega
