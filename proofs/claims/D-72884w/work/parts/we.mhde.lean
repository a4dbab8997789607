/-! Bounds, mode H with a price of what is to come: the senders that count (e = 1) alone, over ticks -/
def sntE (e : Nat → Int) (nS : Nat) (m : MS) : Int := sumN (fun k => e k * (ms m k).1 6) nS
def smE (e y : Nat → Int) (nS : Nat) : Int := sumN (fun k => e k * y k) nS
section MHDE
variable {nS nC : Nat} {m : MS} {AW : Nat → Int → Int → Prop} {lo lw hi n0 : Nat → Int} {Ks ws whs wfs : Nat → Nat → Int} {N : Nat} {q1 qn qh r ts tz : Int} {om : Int → Int} {q : Int → Int} {pf pg : Nat → PFt} {y e : Nat → Int}
theorem yHq_sumE (he : ∀ k, k < nS → e k = 0 ∨ e k = 1) (hR1 : 1 ≤ mg m 2 + mg m 3) (ho : 0 ≤ om (mg m 5 + 1)) : smE e (yHq nS nC m om r y) nS + 61 * ((mg m 2 + mg m 3) * (sntE e nS (tickM nS nC m) - sntE e nS m)) ≤ smE e y nS + 61 * ((mg m 2 + mg m 3) * (om (mg m 5 + 1) * fiB (beginM (midM nS nC m)))) + sumN e nS * (61 * ((mg m 2 + mg m 3) * (r * ((mg m 5 + 1) / 200 - mg m 5 / 200))) + 61 + (mg m 2 + mg m 3)) := by
  have hz := fnB_sum (beginM (midM nS nC m)) nS
  generalize hR : mg m 2 + mg m 3 = R at *
  generalize hD : (mg m 5 + 1) / 200 - mg m 5 / 200 = D
  generalize hO : om (mg m 5 + 1) = O at *
  have p0 : 0 ≤ R * O := Int.mul_nonneg (by omega) ho
  have h1 : smE e (yHq nS nC m om r y) nS ≤ sumN (fun k => (e k * y k + (61 * (R * O)) * (if fnB k (beginM (midM nS nC m)) = true then 1 else 0)) + ((61 * (R * (r * D)) + 61 + R) * e k + (-61 * R) * (e k * (ms (tickM nS nC m) k).1 6 - e k * (ms m k).1 6))) nS := by
    refine sumN_le nS (fun k hk => ?_)
    unfold yHq
    rw [hR, hD, hO]
    have b0 : 0 ≤ (61 * (R * O)) * (if fnB k (beginM (midM nS nC m)) = true then 1 else 0) := Int.mul_nonneg (by omega) (by split <;> omega)
    rcases he k hk with q | q
    · rw [q, Int.zero_mul, Int.zero_mul, Int.zero_mul, Int.zero_mul, Int.mul_zero]
      have z : (-61 * R) * ((0 : Int) - 0) = 0 := Int.mul_zero _
      rw [z]
      omega
    · rw [q, Int.one_mul, Int.one_mul, Int.one_mul, Int.one_mul, Int.mul_one]
      generalize (ms (tickM nS nC m) k).1 6 - (ms m k).1 6 = v
      have a2 : (-61 * R) * v = -61 * (R * v) := Int.mul_assoc _ _ _
      rw [a2]
      by_cases c : fnB k (beginM (midM nS nC m)) = true
      · rw [if_pos c, if_pos c]
        have a1 : R * (O + r * D) = R * O + R * (r * D) := Int.mul_add _ _ _
        rw [a1]
        omega
      · rw [if_neg c, if_neg c]
        have a1 : R * (0 + r * D) = R * (r * D) := by rw [Int.zero_add]
        rw [a1]
        omega
  rw [sumN_add, sumN_add, sumN_add] at h1
  have e1 : sumN (fun k => (61 * (R * O)) * (if fnB k (beginM (midM nS nC m)) = true then (1 : Int) else 0)) nS = (61 * (R * O)) * sumN (fun k => if fnB k (beginM (midM nS nC m)) = true then 1 else 0) nS := sumN_mul _ _ _
  have e2 : sumN (fun k => (-61 * R) * (e k * (ms (tickM nS nC m) k).1 6 - e k * (ms m k).1 6)) nS = (-61 * R) * (sntE e nS (tickM nS nC m) - sntE e nS m) := by
    rw [sumN_mul]
    congr 1
    have : sumN (fun k => e k * (ms (tickM nS nC m) k).1 6 - e k * (ms m k).1 6) nS + sntE e nS m = sntE e nS (tickM nS nC m) := by
      unfold sntE
      rw [← sumN_add]
      exact sumN_congr nS (fun k _ => by omega)
    omega
  have e3 : sumN (fun k => (61 * (R * (r * D)) + 61 + R) * e k) nS = (61 * (R * (r * D)) + 61 + R) * sumN e nS := sumN_mul _ _ _
  have q : (61 * (R * O)) * sumN (fun k => if fnB k (beginM (midM nS nC m)) = true then (1 : Int) else 0) nS ≤ (61 * (R * O)) * fiB (beginM (midM nS nC m)) := Int.mul_le_mul_of_nonneg_left hz (by omega)
  have q2 : (61 * (R * O)) * fiB (beginM (midM nS nC m)) = 61 * (R * (O * fiB (beginM (midM nS nC m)))) := by
    rw [Int.mul_assoc, Int.mul_assoc]
  have a2 : (-61 * R) * (sntE e nS (tickM nS nC m) - sntE e nS m) = -61 * (R * (sntE e nS (tickM nS nC m) - sntE e nS m)) := Int.mul_assoc _ _ _
  have a4 : sumN e nS * (61 * (R * (r * D)) + 61 + R) = (61 * (R * (r * D)) + 61 + R) * sumN e nS := Int.mul_comm _ _
  rw [a4]
  have e0 : smE e y nS = sumN (fun k => e k * y k) nS := rfl
  rw [e0]
  rw [e1, e2, e3] at h1
  omega
theorem MHd.runE (he : ∀ k, k < nS → e k = 0 ∨ e k = 1) (hN : ∀ k, k < nS → ∀ i, i < N → NQ (Ks k i) qn qh (ws k i) (whs k i) (wfs k i)) (hN0 : 0 < N) (hqh : qn ≤ 2 * qh) (hpf : ∀ k, k < nS → PFd (pf k) (pg k) (AW k) (Ks k) (ws k) (whs k) (wfs k) N r om ts tz) (hq : ∀ k, k < nS → hi k - lw k ≤ q1) (h4 : nS ≤ 4) (h : MHd nS m AW lo lw hi n0 q pg y) (hts : ts ≤ mg m 5) (h0 : 0 ≤ mg m 5 + 1) (hR : mg m 2 + mg m 3 ≤ 60) (hR1 : 1 ≤ mg m 2 + mg m 3) (ho : ∀ t, 0 ≤ om t) : ∀ T : Nat, mg m 5 + T ≤ tqB → mg m 5 + T ≤ tz → (∀ i : Nat, 1 ≤ i → i ≤ T → QF q (mg m 5 + i) q1 qn) → (∀ i, i < T → frOK nS nC (tkN nS nC i m) lo hi ∧ frAW AW nS nC (tkN nS nC i m)) → ∃ y2, MHd nS (tkN nS nC T m) AW lo lw hi n0 q pg y2 ∧ smE e y2 nS + 61 * ((mg m 2 + mg m 3) * (sntE e nS (tkN nS nC T m) - sntE e nS m)) ≤ smE e y nS + 61 * ((mg m 2 + mg m 3) * omT om nS nC T m) + sumN e nS * (T * (61 + (mg m 2 + mg m 3)) + 61 * ((mg m 2 + mg m 3) * (r * ((mg m 5 + T) / 200 - mg m 5 / 200)))) := by
  intro T
  induction T with
  | zero =>
    intro _ _ _ _
    refine ⟨y, h, ?_⟩
    have e00 : tkN nS nC 0 m = m := rfl
    have eo : omT om nS nC 0 m = 0 := rfl
    rw [e00, eo, Int.sub_self]
    have : (mg m 5 + ((0 : Nat) : Int)) / 200 - mg m 5 / 200 = 0 := by
      rw [show mg m 5 + ((0 : Nat) : Int) = mg m 5 by omega]
      omega
    rw [this]
    simp
  | succ T ih =>
    intro hT hE hQ hf
    obtain ⟨y2, hM, hY⟩ := ih (by omega) (by omega) (fun i h1 hi => hQ i h1 (by omega)) (fun i hi => hf i (by omega))
    obtain ⟨hfT, hAT⟩ := hf T (by omega)
    have g2 := tkN_g (nS := nS) (nC := nC) (m := m) (i := 2) (by decide) (by decide) (by decide) (by decide) (by decide) (by decide) T
    have g3 := tkN_g (nS := nS) (nC := nC) (m := m) (i := 3) (by decide) (by decide) (by decide) (by decide) (by decide) (by decide) T
    have g5 := tkN_5 (nS := nS) (nC := nC) (m := m) T
    have et : tkN nS nC (T + 1) m = tickM nS nC (tkN nS nC T m) := rfl
    have eo : omT om nS nC (T + 1) m = omT om nS nC T m + om (mg m 5 + T + 1) * fiB (beginM (midM nS nC (tkN nS nC T m))) := rfl
    rw [et, eo]
    generalize omT om nS nC T m = W1 at *
    generalize tkN nS nC T m = x at *
    have hQ2 : QF q (mg x 5 + 1) q1 qn := by
      have z := hQ (T + 1) (by omega) (by omega)
      have ex : mg x 5 + 1 = mg m 5 + ((T + 1 : Nat) : Int) := by omega
      rw [ex]
      exact z
    have hM2 := hM.tick (nC := nC) hN hN0 hqh hpf (by rw [g5]; omega) (by rw [g5]; omega) hQ2 hq h4 (by rw [g5]; omega) (by rw [g5]; omega) (by rw [g2, g3]; exact hR) (by rw [g2, g3]; exact hR1) hfT hAT
    have hS := yHq_sumE (e := e) he (nS := nS) (nC := nC) (m := x) (om := om) (r := r) (y := y2) (by rw [g2, g3]; exact hR1) (ho _)
    refine ⟨yHq nS nC x om r y2, hM2, ?_⟩
    rw [g2, g3, g5] at hS
    generalize hRR : mg m 2 + mg m 3 = R at *
    generalize mg m 5 = a at *
    generalize smE e (yHq nS nC x om r y2) nS = Y3 at *
    generalize smE e y2 nS = Y2 at *
    generalize smE e y nS = Y1 at *
    generalize sntE e nS (tickM nS nC x) = S3 at *
    generalize sntE e nS x = S2 at *
    generalize sntE e nS m = S1 at *
    generalize om (a + (T : Int) + 1) * fiB (beginM (midM nS nC x)) = F at *
    have eT : a + ((T + 1 : Nat) : Int) = a + T + 1 := by omega
    rw [eT]
    generalize hD1 : (a + (T : Int)) / 200 - a / 200 = D1 at *
    have hD2 : (a + (T : Int) + 1) / 200 - a / 200 = D1 + ((a + (T : Int) + 1) / 200 - (a + (T : Int)) / 200) := by omega
    rw [hD2]
    generalize (a + (T : Int) + 1) / 200 - (a + (T : Int)) / 200 = D2 at *
    have c3 : R * (S3 - S1) = R * (S3 - S2) + R * (S2 - S1) := by
      rw [← Int.mul_add]
      congr 1
      omega
    have c4 : R * (W1 + F) = R * W1 + R * F := Int.mul_add _ _ _
    have c5 : sumN e nS * (((T + 1 : Nat) : Int) * (61 + R) + 61 * (R * (r * (D1 + D2)))) = sumN e nS * (T * (61 + R) + 61 * (R * (r * D1))) + sumN e nS * (61 * (R * (r * D2)) + 61 + R) := by
      rw [← Int.mul_add]
      congr 1
      push_cast
      rw [Int.add_mul, Int.one_mul, Int.mul_add r, Int.mul_add R]
      omega
    rw [c3, c4, c5]
    omega
end MHDE
