/-! Bounds, mode H with a price of what is to come, depths by pairs: all senders over ticks, a run (turned from uq by gen/mk_vd.py) -/
def MHd (nS : Nat) (m : MS) (AW : Nat → Int → Int → Prop) (lo lw hi n0 : Nat → Int) (q : Int → Int) (pg : Nat → PFt) (y : Nat → Int) : Prop := ∀ k, k < nS → ∃ g j th be, HBcd (AW k) (mg m 5) (mg m 3 - (ms m k).1 2) (mg m 2 + (ms m k).1 2) (mg m 2 + mg m 3) (lo k) (lw k) (hi k) q (n0 k) (vwK k m) g j th be ∧ hYd (pg k) (n0 k) (mg m 5) (mg m 2 + mg m 3) j.1 (vwK k m) g th be ≤ y k
section MHDS
variable {nS nC : Nat} {m : MS} {AW : Nat → Int → Int → Prop} {lo lw hi n0 : Nat → Int} {Ks ws whs wfs : Nat → Nat → Int} {N : Nat} {q1 qn qh r ts tz : Int} {om : Int → Int} {q : Int → Int} {pf pg : Nat → PFt} {y : Nat → Int}
theorem MHd.tick (hN : ∀ k, k < nS → ∀ i, i < N → NQ (Ks k i) qn qh (ws k i) (whs k i) (wfs k i)) (hN0 : 0 < N) (hqh : qn ≤ 2 * qh) (hpf : ∀ k, k < nS → PFd (pf k) (pg k) (AW k) (Ks k) (ws k) (whs k) (wfs k) N r om ts tz) (hts : ts ≤ mg m 5) (htE : mg m 5 < tz) (hQ : QF q (mg m 5 + 1) q1 qn) (hq : ∀ k, k < nS → hi k - lw k ≤ q1) (h4 : nS ≤ 4) (h : MHd nS m AW lo lw hi n0 q pg y) (h0 : 0 ≤ mg m 5 + 1) (hnow : mg m 5 + 1 ≤ tqB) (hR : mg m 2 + mg m 3 ≤ 60) (hR1 : 1 ≤ mg m 2 + mg m 3) (hf : frOK nS nC m lo hi) (hA : frAW AW nS nC m) : MHd nS (tickM nS nC m) AW lo lw hi n0 q pg (yHq nS nC m om r y) := by
  intro k hk
  obtain ⟨g, j, th, be, hI, hY⟩ := h k hk
  obtain ⟨bs, z, h1, h2, h3, h5, h6, h7⟩ := tick_vo (nC := nC) hk h4 (m := m)
  obtain ⟨g2, j2, th2, be2, hI2, hY2⟩ := HBcd.tick (iv := mg m 4) (hN k hk) hN0 hqh (hpf k hk) hts htE hQ (hq k hk) hI h0 hnow hR hR1 rfl rfl rfl h1 h6 (fun hz x t hx => by
    rw [h7] at hx
    rw [h5] at hz
    exact ⟨hf k hk hz x t hx, hA k hk hz x t hx⟩)
  rw [← h2] at hI2 hY2
  have e2 := tick_s2 (nC := nC) hk h4 (m := m)
  have e6 : (ms (tickM nS nC m) k).1 6 = (ms m k).1 6 + bs.length := by
    have : (vwK k (tickM nS nC m)).1.1 6 = (ms m k).1 6 + bs.length := by
      rw [h2, fin_s, snd_6]
      congr 1
      show (slowM (hndV (mg m 5 + 1) (vwK k m)).1 (mg m 5 + 1) (mg m 4)).1 6 = _
      unfold slowM
      rw [begins_o (by decide) (by decide) (by decide), ends_o (by decide) (by decide) (by decide)]
      exact hnd_6 _ _
    exact this
  refine ⟨g2, j2, th2, be2, ?_, ?_⟩
  · rw [tick_g5, tick_g (by decide) (by decide) (by decide) (by decide) (by decide) (by decide), tick_g (by decide) (by decide) (by decide) (by decide) (by decide) (by decide), e2]
    exact hI2
  · rw [tick_g5, tick_g (by decide) (by decide) (by decide) (by decide) (by decide) (by decide), tick_g (by decide) (by decide) (by decide) (by decide) (by decide) (by decide)]
    unfold yHq
    rw [e6, ← h5]
    have e7 : (ms m k).1 6 + (bs.length : Int) - (ms m k).1 6 = bs.length := by omega
    rw [e7]
    omega
/-- a run of T ticks -/
theorem MHd.run (hN : ∀ k, k < nS → ∀ i, i < N → NQ (Ks k i) qn qh (ws k i) (whs k i) (wfs k i)) (hN0 : 0 < N) (hqh : qn ≤ 2 * qh) (hpf : ∀ k, k < nS → PFd (pf k) (pg k) (AW k) (Ks k) (ws k) (whs k) (wfs k) N r om ts tz) (hq : ∀ k, k < nS → hi k - lw k ≤ q1) (h4 : nS ≤ 4) (h : MHd nS m AW lo lw hi n0 q pg y) (hts : ts ≤ mg m 5) (h0 : 0 ≤ mg m 5 + 1) (hR : mg m 2 + mg m 3 ≤ 60) (hR1 : 1 ≤ mg m 2 + mg m 3) (ho : ∀ t, 0 ≤ om t) : ∀ T : Nat, mg m 5 + T ≤ tqB → mg m 5 + T ≤ tz → (∀ i : Nat, 1 ≤ i → i ≤ T → QF q (mg m 5 + i) q1 qn) → (∀ i, i < T → frOK nS nC (tkN nS nC i m) lo hi ∧ frAW AW nS nC (tkN nS nC i m)) → ∃ y2, MHd nS (tkN nS nC T m) AW lo lw hi n0 q pg y2 ∧ sumN y2 nS + 61 * ((mg m 2 + mg m 3) * (sntM nS (tkN nS nC T m) - sntM nS m)) ≤ sumN y nS + 61 * ((mg m 2 + mg m 3) * omT om nS nC T m) + nS * (T * (61 + (mg m 2 + mg m 3)) + 61 * ((mg m 2 + mg m 3) * (r * ((mg m 5 + T) / 200 - mg m 5 / 200)))) := by
  intro T
  induction T with
  | zero =>
    intro _ _ _ _
    refine ⟨y, h, ?_⟩
    have e : tkN nS nC 0 m = m := rfl
    have eo : omT om nS nC 0 m = 0 := rfl
    rw [e, eo, Int.sub_self]
    have : (mg m 5 + ((0 : Nat) : Int)) / 200 - mg m 5 / 200 = 0 := by
      rw [show mg m 5 + ((0 : Nat) : Int) = mg m 5 by omega]
      omega
    rw [this]
    simp
  | succ T ih =>
    intro hT hE hQ hf
    obtain ⟨y2, hM, hY⟩ := ih (by omega) (by omega) (fun i h1 hi => hQ i h1 (by omega)) (fun i hi => hf i (by omega))
    obtain ⟨hfT, hAT⟩ := hf T (by omega)
    have g2 := tkN_g (nS := nS) (nC := nC) (m := m) (i := 2) (by decide) (by decide) (by decide) (by decide) (by decide) (by decide) T
    have g3 := tkN_g (nS := nS) (nC := nC) (m := m) (i := 3) (by decide) (by decide) (by decide) (by decide) (by decide) (by decide) T
    have g5 := tkN_5 (nS := nS) (nC := nC) (m := m) T
    have et : tkN nS nC (T + 1) m = tickM nS nC (tkN nS nC T m) := rfl
    have eo : omT om nS nC (T + 1) m = omT om nS nC T m + om (mg m 5 + T + 1) * fiB (beginM (midM nS nC (tkN nS nC T m))) := rfl
    rw [et, eo]
    generalize omT om nS nC T m = W1 at *
    generalize tkN nS nC T m = x at *
    have hQ2 : QF q (mg x 5 + 1) q1 qn := by
      have z := hQ (T + 1) (by omega) (by omega)
      have e : mg x 5 + 1 = mg m 5 + ((T + 1 : Nat) : Int) := by omega
      rw [e]
      exact z
    have hM2 := hM.tick (nC := nC) hN hN0 hqh hpf (by rw [g5]; omega) (by rw [g5]; omega) hQ2 hq h4 (by rw [g5]; omega) (by rw [g5]; omega) (by rw [g2, g3]; exact hR) (by rw [g2, g3]; exact hR1) hfT hAT
    have hS := yHq_sum (nS := nS) (nC := nC) (m := x) (om := om) (r := r) (y := y2) (by rw [g2, g3]; exact hR1) (ho _)
    refine ⟨yHq nS nC x om r y2, hM2, ?_⟩
    rw [g2, g3, g5] at hS
    generalize hRR : mg m 2 + mg m 3 = R at *
    generalize mg m 5 = a at *
    generalize sumN (yHq nS nC x om r y2) nS = Y3 at *
    generalize sumN y2 nS = Y2 at *
    generalize sumN y nS = Y1 at *
    generalize sntM nS (tickM nS nC x) = S3 at *
    generalize sntM nS x = S2 at *
    generalize sntM nS m = S1 at *
    generalize om (a + (T : Int) + 1) * fiB (beginM (midM nS nC x)) = F at *
    have eT : a + ((T + 1 : Nat) : Int) = a + T + 1 := by omega
    rw [eT]
    generalize hD1 : (a + (T : Int)) / 200 - a / 200 = D1 at *
    have hD2 : (a + (T : Int) + 1) / 200 - a / 200 = D1 + ((a + (T : Int) + 1) / 200 - (a + (T : Int)) / 200) := by omega
    rw [hD2]
    generalize (a + (T : Int) + 1) / 200 - (a + (T : Int)) / 200 = D2 at *
    have c3 : R * (S3 - S1) = R * (S3 - S2) + R * (S2 - S1) := by
      rw [← Int.mul_add]
      congr 1
      omega
    have c4 : R * (W1 + F) = R * W1 + R * F := Int.mul_add _ _ _
    have c5 : (nS : Int) * (((T + 1 : Nat) : Int) * (61 + R) + 61 * (R * (r * (D1 + D2)))) = nS * (T * (61 + R) + 61 * (R * (r * D1))) + nS * (61 * (R * (r * D2)) + 61 + R) := by
      rw [← Int.mul_add]
      congr 1
      push_cast
      rw [Int.add_mul, Int.one_mul, Int.mul_add r, Int.mul_add R]
      omega
    rw [c3, c4, c5]
    omega
end MHDS
