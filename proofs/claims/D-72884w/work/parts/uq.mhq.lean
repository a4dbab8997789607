/-! Bounds, mode H with a price of what is to come: all senders over ticks, a run -/
def MHq (nS : Nat) (m : MS) (AW : Nat → Int → Int → Prop) (lo lw hi n0 : Nat → Int) (q : Int → Int) (pf : Nat → PFt) (y : Nat → Int) : Prop := ∀ k, k < nS → ∃ g j th be, HBcq (AW k) (mg m 5) (mg m 3 - (ms m k).1 2) (mg m 2 + (ms m k).1 2) (mg m 2 + mg m 3) (lo k) (lw k) (hi k) q (n0 k) (vwK k m) g j th be ∧ hYq (pf k) (n0 k) (mg m 5) (mg m 2 + mg m 3) j.1 (vwK k m) g th be ≤ y k
def yHq (nS nC : Nat) (m : MS) (om : Int → Int) (r : Int) (y : Nat → Int) : Nat → Int := fun k => y k + 61 * ((mg m 2 + mg m 3) * ((if fnB k (beginM (midM nS nC m)) = true then om (mg m 5 + 1) else 0) + r * ((mg m 5 + 1) / 200 - mg m 5 / 200))) + 61 + (mg m 2 + mg m 3) - 61 * ((mg m 2 + mg m 3) * ((ms (tickM nS nC m) k).1 6 - (ms m k).1 6))
/-- what is known of the one that is finished next -/
def frAW (AW : Nat → Int → Int → Prop) (nS nC : Nat) (m : MS) : Prop := ∀ k, k < nS → fnB k (beginM (midM nS nC m)) = true → ∀ x t, own k (beginM (midM nS nC m)) = x :: t → AW k (mg m 5 + 1 + mg m 2 + mg m 3) (mg m 5 + 1 + mg m 2 - x + (ms m k).1 2)
/-- what the finished ones bring over a run -/
def omT (om : Int → Int) (nS nC : Nat) : Nat → MS → Int
  | 0, _ => 0
  | T + 1, m => omT om nS nC T m + om (mg m 5 + T + 1) * fiB (beginM (midM nS nC (tkN nS nC T m)))
section MHQS
variable {nS nC : Nat} {m : MS} {AW : Nat → Int → Int → Prop} {lo lw hi n0 K1 K2 w1 wh1 wf1 w2 wh2 wf2 : Nat → Int} {q1 qn qh r tz : Int} {om : Int → Int} {q : Int → Int} {pf : Nat → PFt} {y : Nat → Int}
theorem MHq.tick (hN1 : ∀ k, k < nS → NQ (K1 k) qn qh (w1 k) (wh1 k) (wf1 k)) (hN2 : ∀ k, k < nS → NQ (K2 k) qn qh (w2 k) (wh2 k) (wf2 k)) (hqh : qn ≤ 2 * qh) (hpf : ∀ k, k < nS → PFk (pf k) (AW k) (K2 k) (w1 k) (wh1 k) (wf1 k) (w2 k) (wh2 k) (wf2 k) r om tz) (htE : mg m 5 < tz) (hQ : QF q (mg m 5 + 1) q1 qn) (hK : ∀ k, k < nS → hi k - lo k + 1 ≤ K1 k) (hq : ∀ k, k < nS → hi k - lw k ≤ q1) (h4 : nS ≤ 4) (h : MHq nS m AW lo lw hi n0 q pf y) (h0 : 0 ≤ mg m 5 + 1) (hnow : mg m 5 + 1 ≤ tqB) (hR : mg m 2 + mg m 3 ≤ 60) (hR1 : 1 ≤ mg m 2 + mg m 3) (hf : frOK nS nC m lo hi) (hA : frAW AW nS nC m) : MHq nS (tickM nS nC m) AW lo lw hi n0 q pf (yHq nS nC m om r y) := by
  intro k hk
  obtain ⟨g, j, th, be, hI, hY⟩ := h k hk
  obtain ⟨bs, z, h1, h2, h3, h5, h6, h7⟩ := tick_vo (nC := nC) hk h4 (m := m)
  obtain ⟨g2, j2, th2, be2, hI2, hY2⟩ := HBcq.tick (iv := mg m 4) (hN1 k hk) (hN2 k hk) hqh (hpf k hk) htE (hK k hk) hQ (hq k hk) hI h0 hnow hR hR1 rfl rfl rfl h1 h6 (fun hz x t hx => by
    rw [h7] at hx
    rw [h5] at hz
    exact ⟨hf k hk hz x t hx, hA k hk hz x t hx⟩)
  rw [← h2] at hI2 hY2
  have e2 := tick_s2 (nC := nC) hk h4 (m := m)
  have e6 : (ms (tickM nS nC m) k).1 6 = (ms m k).1 6 + bs.length := by
    have : (vwK k (tickM nS nC m)).1.1 6 = (ms m k).1 6 + bs.length := by
      rw [h2, fin_s, snd_6]
      congr 1
      show (slowM (hndV (mg m 5 + 1) (vwK k m)).1 (mg m 5 + 1) (mg m 4)).1 6 = _
      unfold slowM
      rw [begins_o (by decide) (by decide) (by decide), ends_o (by decide) (by decide) (by decide)]
      exact hnd_6 _ _
    exact this
  refine ⟨g2, j2, th2, be2, ?_, ?_⟩
  · rw [tick_g5, tick_g (by decide) (by decide) (by decide) (by decide) (by decide) (by decide), tick_g (by decide) (by decide) (by decide) (by decide) (by decide) (by decide), e2]
    exact hI2
  · rw [tick_g5, tick_g (by decide) (by decide) (by decide) (by decide) (by decide) (by decide), tick_g (by decide) (by decide) (by decide) (by decide) (by decide) (by decide)]
    unfold yHq
    rw [e6, ← h5]
    have e7 : (ms m k).1 6 + (bs.length : Int) - (ms m k).1 6 = bs.length := by omega
    rw [e7]
    omega
theorem yHq_sum (hR1 : 1 ≤ mg m 2 + mg m 3) (ho : 0 ≤ om (mg m 5 + 1)) : sumN (yHq nS nC m om r y) nS + 61 * ((mg m 2 + mg m 3) * (sntM nS (tickM nS nC m) - sntM nS m)) ≤ sumN y nS + 61 * ((mg m 2 + mg m 3) * (om (mg m 5 + 1) * fiB (beginM (midM nS nC m)))) + nS * (61 * ((mg m 2 + mg m 3) * (r * ((mg m 5 + 1) / 200 - mg m 5 / 200))) + 61 + (mg m 2 + mg m 3)) := by
  have hz := fnB_sum (beginM (midM nS nC m)) nS
  generalize hR : mg m 2 + mg m 3 = R at *
  generalize hD : (mg m 5 + 1) / 200 - mg m 5 / 200 = D
  generalize hO : om (mg m 5 + 1) = O at *
  have e : sumN (yHq nS nC m om r y) nS = sumN (fun k => (y k + (61 * (R * O)) * (if fnB k (beginM (midM nS nC m)) = true then 1 else 0)) + ((61 * (R * (r * D)) + 61 + R) + (-61 * R) * ((ms (tickM nS nC m) k).1 6 - (ms m k).1 6))) nS := by
    refine sumN_congr nS (fun k _ => ?_)
    unfold yHq
    rw [hR, hD, hO]
    generalize (ms (tickM nS nC m) k).1 6 - (ms m k).1 6 = v
    have a2 : (-61 * R) * v = -61 * (R * v) := Int.mul_assoc _ _ _
    rw [a2]
    by_cases c : fnB k (beginM (midM nS nC m)) = true
    · rw [if_pos c, if_pos c]
      have a1 : R * (O + r * D) = R * O + R * (r * D) := Int.mul_add _ _ _
      rw [a1]
      omega
    · rw [if_neg c, if_neg c]
      have a1 : R * (0 + r * D) = R * (r * D) := by rw [Int.zero_add]
      rw [a1]
      omega
  rw [e, sumN_add, sumN_add, sumN_add, sumN_c]
  have e1 : sumN (fun k => (61 * (R * O)) * (if fnB k (beginM (midM nS nC m)) = true then (1 : Int) else 0)) nS = (61 * (R * O)) * sumN (fun k => if fnB k (beginM (midM nS nC m)) = true then 1 else 0) nS := sumN_mul _ _ _
  have e2 : sumN (fun k => (-61 * R) * ((ms (tickM nS nC m) k).1 6 - (ms m k).1 6)) nS = (-61 * R) * (sntM nS (tickM nS nC m) - sntM nS m) := by
    rw [sumN_mul]
    congr 1
    have : sumN (fun k => (ms (tickM nS nC m) k).1 6 - (ms m k).1 6) nS + sntM nS m = sntM nS (tickM nS nC m) := by
      unfold sntM
      rw [← sumN_add]
      exact sumN_congr nS (fun k _ => by omega)
    omega
  rw [e1, e2]
  have p0 : 0 ≤ R * O := Int.mul_nonneg (by omega) ho
  have q : (61 * (R * O)) * sumN (fun k => if fnB k (beginM (midM nS nC m)) = true then (1 : Int) else 0) nS ≤ (61 * (R * O)) * fiB (beginM (midM nS nC m)) := Int.mul_le_mul_of_nonneg_left hz (by omega)
  have q2 : (61 * (R * O)) * fiB (beginM (midM nS nC m)) = 61 * (R * (O * fiB (beginM (midM nS nC m)))) := by
    rw [Int.mul_assoc, Int.mul_assoc]
  have a2 : (-61 * R) * (sntM nS (tickM nS nC m) - sntM nS m) = -61 * (R * (sntM nS (tickM nS nC m) - sntM nS m)) := Int.mul_assoc _ _ _
  rw [a2]
  omega
/-- a run of T ticks -/
theorem MHq.run (hN1 : ∀ k, k < nS → NQ (K1 k) qn qh (w1 k) (wh1 k) (wf1 k)) (hN2 : ∀ k, k < nS → NQ (K2 k) qn qh (w2 k) (wh2 k) (wf2 k)) (hqh : qn ≤ 2 * qh) (hpf : ∀ k, k < nS → PFk (pf k) (AW k) (K2 k) (w1 k) (wh1 k) (wf1 k) (w2 k) (wh2 k) (wf2 k) r om tz) (hK : ∀ k, k < nS → hi k - lo k + 1 ≤ K1 k) (hq : ∀ k, k < nS → hi k - lw k ≤ q1) (h4 : nS ≤ 4) (h : MHq nS m AW lo lw hi n0 q pf y) (h0 : 0 ≤ mg m 5 + 1) (hR : mg m 2 + mg m 3 ≤ 60) (hR1 : 1 ≤ mg m 2 + mg m 3) (ho : ∀ t, 0 ≤ om t) : ∀ T : Nat, mg m 5 + T ≤ tqB → mg m 5 + T ≤ tz → (∀ i : Nat, 1 ≤ i → i ≤ T → QF q (mg m 5 + i) q1 qn) → (∀ i, i < T → frOK nS nC (tkN nS nC i m) lo hi ∧ frAW AW nS nC (tkN nS nC i m)) → ∃ y2, MHq nS (tkN nS nC T m) AW lo lw hi n0 q pf y2 ∧ sumN y2 nS + 61 * ((mg m 2 + mg m 3) * (sntM nS (tkN nS nC T m) - sntM nS m)) ≤ sumN y nS + 61 * ((mg m 2 + mg m 3) * omT om nS nC T m) + nS * (T * (61 + (mg m 2 + mg m 3)) + 61 * ((mg m 2 + mg m 3) * (r * ((mg m 5 + T) / 200 - mg m 5 / 200)))) := by
  intro T
  induction T with
  | zero =>
    intro _ _ _ _
    refine ⟨y, h, ?_⟩
    have e : tkN nS nC 0 m = m := rfl
    have eo : omT om nS nC 0 m = 0 := rfl
    rw [e, eo, Int.sub_self]
    have : (mg m 5 + ((0 : Nat) : Int)) / 200 - mg m 5 / 200 = 0 := by
      rw [show mg m 5 + ((0 : Nat) : Int) = mg m 5 by omega]
      omega
    rw [this]
    simp
  | succ T ih =>
    intro hT hE hQ hf
    obtain ⟨y2, hM, hY⟩ := ih (by omega) (by omega) (fun i h1 hi => hQ i h1 (by omega)) (fun i hi => hf i (by omega))
    obtain ⟨hfT, hAT⟩ := hf T (by omega)
    have g2 := tkN_g (nS := nS) (nC := nC) (m := m) (i := 2) (by decide) (by decide) (by decide) (by decide) (by decide) (by decide) T
    have g3 := tkN_g (nS := nS) (nC := nC) (m := m) (i := 3) (by decide) (by decide) (by decide) (by decide) (by decide) (by decide) T
    have g5 := tkN_5 (nS := nS) (nC := nC) (m := m) T
    have et : tkN nS nC (T + 1) m = tickM nS nC (tkN nS nC T m) := rfl
    have eo : omT om nS nC (T + 1) m = omT om nS nC T m + om (mg m 5 + T + 1) * fiB (beginM (midM nS nC (tkN nS nC T m))) := rfl
    rw [et, eo]
    generalize omT om nS nC T m = W1 at *
    generalize tkN nS nC T m = x at *
    have hQ2 : QF q (mg x 5 + 1) q1 qn := by
      have z := hQ (T + 1) (by omega) (by omega)
      have e : mg x 5 + 1 = mg m 5 + ((T + 1 : Nat) : Int) := by omega
      rw [e]
      exact z
    have hM2 := hM.tick (nC := nC) hN1 hN2 hqh hpf (by rw [g5]; omega) hQ2 hK hq h4 (by rw [g5]; omega) (by rw [g5]; omega) (by rw [g2, g3]; exact hR) (by rw [g2, g3]; exact hR1) hfT hAT
    have hS := yHq_sum (nS := nS) (nC := nC) (m := x) (om := om) (r := r) (y := y2) (by rw [g2, g3]; exact hR1) (ho _)
    refine ⟨yHq nS nC x om r y2, hM2, ?_⟩
    rw [g2, g3, g5] at hS
    generalize hRR : mg m 2 + mg m 3 = R at *
    generalize mg m 5 = a at *
    generalize sumN (yHq nS nC x om r y2) nS = Y3 at *
    generalize sumN y2 nS = Y2 at *
    generalize sumN y nS = Y1 at *
    generalize sntM nS (tickM nS nC x) = S3 at *
    generalize sntM nS x = S2 at *
    generalize sntM nS m = S1 at *
    generalize om (a + (T : Int) + 1) * fiB (beginM (midM nS nC x)) = F at *
    have eT : a + ((T + 1 : Nat) : Int) = a + T + 1 := by omega
    rw [eT]
    generalize hD1 : (a + (T : Int)) / 200 - a / 200 = D1 at *
    have hD2 : (a + (T : Int) + 1) / 200 - a / 200 = D1 + ((a + (T : Int) + 1) / 200 - (a + (T : Int)) / 200) := by omega
    rw [hD2]
    generalize (a + (T : Int) + 1) / 200 - (a + (T : Int)) / 200 = D2 at *
    have c3 : R * (S3 - S1) = R * (S3 - S2) + R * (S2 - S1) := by
      rw [← Int.mul_add]
      congr 1
      omega
    have c4 : R * (W1 + F) = R * W1 + R * F := Int.mul_add _ _ _
    have c5 : (nS : Int) * (((T + 1 : Nat) : Int) * (61 + R) + 61 * (R * (r * (D1 + D2)))) = nS * (T * (61 + R) + 61 * (R * (r * D1))) + nS * (61 * (R * (r * D2)) + 61 + R) := by
      rw [← Int.mul_add]
      congr 1
      push_cast
      rw [Int.add_mul, Int.one_mul, Int.mul_add r, Int.mul_add R]
      omega
    rw [c3, c4, c5]
    omega
end MHQS
