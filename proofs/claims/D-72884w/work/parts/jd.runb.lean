/-! Bounds: a run of ticks in regime B -/
/-- packets sent so far -/
def sntM (nS : Nat) (m : MS) : Int := sumN (fun k => (ms m k).1 6) nS
theorem tkN_g {nS nC i : Nat} {m : MS} (h5 : i ≠ 5) (h14 : i ≠ 14) (h15 : i ≠ 15) (h16 : i ≠ 16) (h17 : i ≠ 17) (h18 : i ≠ 18) : ∀ T : Nat, mg (tkN nS nC T m) i = mg m i := by
  intro T
  induction T with
  | zero => rfl
  | succ T ih => exact (tick_g h5 h14 h15 h16 h17 h18).trans ih
theorem tkN_5 {nS nC : Nat} {m : MS} : ∀ T : Nat, mg (tkN nS nC T m) 5 = mg m 5 + T := by
  intro T
  induction T with
  | zero => show mg m 5 = mg m 5 + ((0 : Nat) : Int); omega
  | succ T ih =>
    have : mg (tkN nS nC (T + 1) m) 5 = mg (tkN nS nC T m) 5 + 1 := tick_g5
    rw [this, ih]
    push_cast
    omega
/-- what a tick costs all senders -/
theorem yTk_sum {nS nC : Nat} {m : MS} {y : Nat → Int} (hR1 : 1 ≤ mg m 2 + mg m 3) : sumN (yTk nS nC m y) nS + 305 * ((mg m 2 + mg m 3) * (sntM nS (tickM nS nC m) - sntM nS m)) ≤ sumN y nS + 1525 * ((mg m 2 + mg m 3) * fiB (beginM (midM nS nC m))) + nS * (61 * ((mg m 2 + mg m 3) * (2 + 400 * ((mg m 5 + 1) / 200 - mg m 5 / 200))) + 305 + 5 * (mg m 2 + mg m 3)) := by
  have hz := fnB_sum (beginM (midM nS nC m)) nS
  generalize hR : mg m 2 + mg m 3 = R at *
  generalize hD : (mg m 5 + 1) / 200 - mg m 5 / 200 = D
  have e : sumN (yTk nS nC m y) nS = sumN (fun k => (y k + 1525 * (R * (if fnB k (beginM (midM nS nC m)) = true then 1 else 0))) + ((61 * (R * (2 + 400 * D)) + 305 + 5 * R) + (-305 * R) * ((ms (tickM nS nC m) k).1 6 - (ms m k).1 6))) nS := by
    refine sumN_congr nS (fun k _ => ?_)
    unfold yTk
    rw [hR, hD]
    generalize (if fnB k (beginM (midM nS nC m)) = true then (1 : Int) else 0) = z
    generalize (ms (tickM nS nC m) k).1 6 - (ms m k).1 6 = w
    have a1 : R * (25 * z + 2 + 400 * D) = 25 * (R * z) + R * (2 + 400 * D) := by
      rw [show 25 * z + 2 + 400 * D = 25 * z + (2 + 400 * D) by omega, Int.mul_add, Int.mul_left_comm]
    have a2 : (-305 * R) * w = -305 * (R * w) := Int.mul_assoc _ _ _
    rw [a1, a2]
    omega
  rw [e, sumN_add, sumN_add, sumN_add, sumN_c]
  have e1 : sumN (fun k => 1525 * (R * (if fnB k (beginM (midM nS nC m)) = true then (1 : Int) else 0))) nS = 1525 * (R * sumN (fun k => if fnB k (beginM (midM nS nC m)) = true then 1 else 0) nS) := by
    rw [sumN_mul, sumN_mul]
  have e2 : sumN (fun k => (-305 * R) * ((ms (tickM nS nC m) k).1 6 - (ms m k).1 6)) nS = (-305 * R) * (sntM nS (tickM nS nC m) - sntM nS m) := by
    rw [sumN_mul]
    congr 1
    have : sumN (fun k => (ms (tickM nS nC m) k).1 6 - (ms m k).1 6) nS + sntM nS m = sntM nS (tickM nS nC m) := by
      unfold sntM
      rw [← sumN_add]
      exact sumN_congr nS (fun k _ => by omega)
    omega
  rw [e1, e2]
  have q : R * sumN (fun k => if fnB k (beginM (midM nS nC m)) = true then (1 : Int) else 0) nS ≤ R * fiB (beginM (midM nS nC m)) := Int.mul_le_mul_of_nonneg_left hz (by omega)
  have a2 : (-305 * R) * (sntM nS (tickM nS nC m) - sntM nS m) = -305 * (R * (sntM nS (tickM nS nC m) - sntM nS m)) := Int.mul_assoc _ _ _
  rw [a2]
  omega
