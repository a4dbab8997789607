/-! Bounds, general mode: all senders over ticks; every sender has its own numbers C1, Z, Fm and weights -/
def MGn (nS : Nat) (m : MS) (r : Int) (lo1 lo2 hi : Nat → Int) (M kT U1 : Int) (C1 Z : Nat → Int) (X : Nat) (wt : Nat → Int → Nat) (y : Nat → Int) : Prop := ∀ k, k < nS → ∃ g th be, GBc (mg m 5) (mg m 3 - (ms m k).1 2) (mg m 2 + (ms m k).1 2) (mg m 2 + mg m 3) (lo1 k) (lo2 k) (hi k) r (vwK k m) g th be ∧ gY M kT U1 (C1 k) (Z k) X (wt k) (mg m 5) r (vwK k m) g.2.1 th be ≤ y k
/-- the weight of what sender k has finished -/
def wfM (wt : Nat → Int → Nat) (nS nC : Nat) (m : MS) (k : Nat) : Nat := match fnB k (beginM (midM nS nC m)), own k (beginM (midM nS nC m)) with
  | true, x :: _ => wt k (mg m 5 + 1 + mg m 2 - x + (ms m k).1 2)
  | _, _ => 0
def yG (nS nC : Nat) (m : MS) (r M : Int) (Z : Nat → Int) (wt : Nat → Int → Nat) (y : Nat → Int) : Nat → Int := fun k => y k + 183 * (r * (M * (wfM wt nS nC m k : Int))) + (61 * (r * (M * Z k * ((mg m 5 + 1) / 200 - mg m 5 / 200))) + 183 * M + 3 * (r * M)) - 183 * (r * (M * ((ms (tickM nS nC m) k).1 6 - (ms m k).1 6)))
section MGS
variable {nS nC : Nat} {m : MS} {r : Int} {lo1 lo2 hi : Nat → Int} {K M kT U1 : Int} {C1 Z : Nat → Int} {A X C3 w1 : Nat} {Fm : Nat → Nat} {wt : Nat → Int → Nat} {y : Nat → Int}
theorem MGn.tick (hP : ∀ k, k < nS → PCg K M kT A X U1 (C1 k) (Z k) C3 w1 (Fm k)) (hK : ∀ k, k < nS → hi k - lo1 k + 1 ≤ K) (hW : ∀ k, k < nS → WTo M kT A (lo2 k) (hi k) (wt k)) (h4 : nS ≤ 4) (h : MGn nS m r lo1 lo2 hi M kT U1 C1 Z X wt y) (hF : ∀ k, k < nS → ((ms m k).1 5).toNat ≤ Fm k) (h0 : 0 ≤ mg m 5 + 1) (hnow : mg m 5 + 1 ≤ tqB) (hr0 : 1 ≤ r) (hrR : r ≤ mg m 2 + mg m 3) (hf : frOK nS nC m lo2 hi) : MGn nS (tickM nS nC m) r lo1 lo2 hi M kT U1 C1 Z X wt (yG nS nC m r M Z wt y) := by
  intro k hk
  obtain ⟨g, th, be, hI, hY⟩ := h k hk
  obtain ⟨bs, z, h1, h2, h3, h5, h6, h7⟩ := tick_vo (nC := nC) hk h4 (m := m)
  obtain ⟨g2, th2, be2, hI2, hY2⟩ := GBc.tick (iv := mg m 4) (hP k hk) (hK k hk) (hW k hk) (hF k hk) hI h0 hnow hr0 hrR rfl rfl rfl h1 h6 (fun hz x t hx => by
    rw [h7] at hx
    rw [h5] at hz
    exact hf k hk hz x t hx)
  have ew : wFi (wt k) (mg m 5 + 1 + mg m 2) z (sndV (mg m 5 + 1) (mg m 5 + 1 + mg m 2 + mg m 3) k bs (slowM (hndV (mg m 5 + 1) (vwK k m)).1 (mg m 5 + 1) (mg m 4), (hndV (mg m 5 + 1) (vwK k m)).2)) = wfM wt nS nC m k := by
    have eo : (sndV (mg m 5 + 1) (mg m 5 + 1 + mg m 2 + mg m 3) k bs (slowM (hndV (mg m 5 + 1) (vwK k m)).1 (mg m 5 + 1) (mg m 4), (hndV (mg m 5 + 1) (vwK k m)).2)).1.1 2 = (ms m k).1 2 := by
      rw [snd_2]
      show (slowM (hndV (mg m 5 + 1) (vwK k m)).1 (mg m 5 + 1) (mg m 4)).1 2 = _
      unfold slowM
      rw [begins_o (by decide) (by decide) (by decide), ends_o (by decide) (by decide) (by decide)]
      exact hnd_2 _ _
    unfold wFi wfM
    rw [h7, h5, eo]
    generalize fnB k (beginM (midM nS nC m)) = b
    generalize own k (beginM (midM nS nC m)) = l
    cases b <;> cases l <;> rfl
  rw [ew] at hY2
  rw [← h2] at hI2 hY2
  have e2 := tick_s2 (nC := nC) hk h4 (m := m)
  have e6 : (ms (tickM nS nC m) k).1 6 = (ms m k).1 6 + bs.length := by
    have : (vwK k (tickM nS nC m)).1.1 6 = (ms m k).1 6 + bs.length := by
      rw [h2, fin_s, snd_6]
      congr 1
      show (slowM (hndV (mg m 5 + 1) (vwK k m)).1 (mg m 5 + 1) (mg m 4)).1 6 = _
      unfold slowM
      rw [begins_o (by decide) (by decide) (by decide), ends_o (by decide) (by decide) (by decide)]
      exact hnd_6 _ _
    exact this
  refine ⟨g2, th2, be2, ?_, ?_⟩
  · rw [tick_g5, tick_g (by decide) (by decide) (by decide) (by decide) (by decide) (by decide), tick_g (by decide) (by decide) (by decide) (by decide) (by decide) (by decide), e2]
    exact hI2
  · rw [tick_g5]
    unfold yG
    rw [e6]
    have e7 : (ms m k).1 6 + (bs.length : Int) - (ms m k).1 6 = bs.length := by omega
    rw [e7]
    omega
theorem yG_sum : sumN (yG nS nC m r M Z wt y) nS + 183 * (r * (M * (sntM nS (tickM nS nC m) - sntM nS m))) = sumN y nS + 183 * (r * (M * sumN (fun k => (wfM wt nS nC m k : Int)) nS)) + 61 * (r * (M * (sumN Z nS) * ((mg m 5 + 1) / 200 - mg m 5 / 200))) + nS * (183 * M + 3 * (r * M)) := by
  generalize hD : (mg m 5 + 1) / 200 - mg m 5 / 200 = D
  have e : sumN (yG nS nC m r M Z wt y) nS = sumN (fun k => (y k + (183 * (r * M)) * (wfM wt nS nC m k : Int)) + (((61 * (r * M * D)) * Z k + (183 * M + 3 * (r * M))) + (-183 * (r * M)) * ((ms (tickM nS nC m) k).1 6 - (ms m k).1 6))) nS := by
    refine sumN_congr nS (fun k _ => ?_)
    unfold yG
    rw [hD]
    generalize (ms (tickM nS nC m) k).1 6 - (ms m k).1 6 = w
    generalize (wfM wt nS nC m k : Int) = f
    have a1 : (183 * (r * M)) * f = 183 * (r * (M * f)) := by rw [Int.mul_assoc, Int.mul_assoc r M f]
    have a2 : (-183 * (r * M)) * w = -183 * (r * (M * w)) := by rw [Int.mul_assoc, Int.mul_assoc r M w]
    have a3 : (61 * (r * M * D)) * Z k = 61 * (r * (M * Z k * D)) := by
      rw [Int.mul_assoc, Int.mul_assoc r M D, Int.mul_assoc r, Int.mul_assoc M D, Int.mul_assoc M (Z k), Int.mul_comm D]
    rw [a1, a2, a3]
    omega
  have e2 : sumN (fun k => (ms (tickM nS nC m) k).1 6 - (ms m k).1 6) nS + sntM nS m = sntM nS (tickM nS nC m) := by
    unfold sntM
    rw [← sumN_add]
    exact sumN_congr nS (fun k _ => by omega)
  rw [e, sumN_add, sumN_add, sumN_add, sumN_add, sumN_mul, sumN_mul, sumN_mul, sumN_c]
  generalize sumN (fun k => (wfM wt nS nC m k : Int)) nS = f
  generalize sumN (fun k => (ms (tickM nS nC m) k).1 6 - (ms m k).1 6) nS = w at *
  have e3 : sntM nS (tickM nS nC m) - sntM nS m = w := by omega
  rw [e3]
  generalize sumN Z nS = zz
  have a1 : (183 * (r * M)) * f = 183 * (r * (M * f)) := by rw [Int.mul_assoc, Int.mul_assoc r M f]
  have a2 : (-183 * (r * M)) * w = -183 * (r * (M * w)) := by rw [Int.mul_assoc, Int.mul_assoc r M w]
  have a3 : (61 * (r * M * D)) * zz = 61 * (r * (M * zz * D)) := by
    rw [Int.mul_assoc, Int.mul_assoc r M D, Int.mul_assoc r, Int.mul_assoc M D, Int.mul_assoc M zz, Int.mul_comm D]
  rw [a1, a2, a3]
  omega
/-- the weights of what is finished in T ticks -/
def wfT (wt : Nat → Int → Nat) (nS nC : Nat) : Nat → MS → Int
  | 0, _ => 0
  | n + 1, m => wfT wt nS nC n m + sumN (fun k => (wfM wt nS nC (tkN nS nC n m) k : Int)) nS
theorem MGn.run (hP : ∀ k, k < nS → PCg K M kT A X U1 (C1 k) (Z k) C3 w1 (Fm k)) (hK : ∀ k, k < nS → hi k - lo1 k + 1 ≤ K) (hW : ∀ k, k < nS → WTo M kT A (lo2 k) (hi k) (wt k)) (h4 : nS ≤ 4) (h : MGn nS m r lo1 lo2 hi M kT U1 C1 Z X wt y) (h0 : 0 ≤ mg m 5 + 1) (hr0 : 1 ≤ r) (hrR : r ≤ mg m 2 + mg m 3) : ∀ T : Nat, mg m 5 + T ≤ tqB → (∀ i, i < T → (∀ k, k < nS → ((ms (tkN nS nC i m) k).1 5).toNat ≤ Fm k) ∧ frOK nS nC (tkN nS nC i m) lo2 hi) → ∃ y2 : Nat → Int, MGn nS (tkN nS nC T m) r lo1 lo2 hi M kT U1 C1 Z X wt y2 ∧ sumN y2 nS + 183 * (r * (M * (sntM nS (tkN nS nC T m) - sntM nS m))) = sumN y nS + 183 * (r * (M * wfT wt nS nC T m)) + 61 * (r * (M * (sumN Z nS) * ((mg m 5 + T) / 200 - mg m 5 / 200))) + nS * (T * (183 * M + 3 * (r * M))) := by
  intro T
  induction T with
  | zero =>
    intro _ _
    refine ⟨y, h, ?_⟩
    have e : tkN nS nC 0 m = m := rfl
    have e1 : wfT wt nS nC 0 m = 0 := rfl
    rw [e, e1, Int.sub_self]
    have : (mg m 5 + ((0 : Nat) : Int)) / 200 - mg m 5 / 200 = 0 := by
      rw [show mg m 5 + ((0 : Nat) : Int) = mg m 5 by omega]
      omega
    rw [this]
    simp
  | succ T ih =>
    intro hT hf
    push_cast at hT
    obtain ⟨y2, hM2, hY⟩ := ih (by omega) (fun i hi => hf i (by omega))
    have hfT := hf T (by omega)
    have g2 := tkN_g (nS := nS) (nC := nC) (m := m) (i := 2) (by decide) (by decide) (by decide) (by decide) (by decide) (by decide) T
    have g3 := tkN_g (nS := nS) (nC := nC) (m := m) (i := 3) (by decide) (by decide) (by decide) (by decide) (by decide) (by decide) T
    have g5 := tkN_5 (nS := nS) (nC := nC) (m := m) T
    have et : tkN nS nC (T + 1) m = tickM nS nC (tkN nS nC T m) := rfl
    have ef : wfT wt nS nC (T + 1) m = wfT wt nS nC T m + sumN (fun k => (wfM wt nS nC (tkN nS nC T m) k : Int)) nS := rfl
    rw [et, ef]
    have hM3 := hM2.tick (nC := nC) hP hK hW h4 hfT.1 (by rw [g5]; omega) (by rw [g5]; omega) hr0 (by rw [g2, g3]; exact hrR) hfT.2
    have hS := yG_sum (nS := nS) (nC := nC) (m := tkN nS nC T m) (r := r) (M := M) (Z := Z) (wt := wt) (y := y2)
    refine ⟨yG nS nC (tkN nS nC T m) r M Z wt y2, hM3, ?_⟩
    rw [g5] at hS
    generalize tkN nS nC T m = x at *
    generalize mg m 5 = a at *
    generalize sumN (yG nS nC x r M Z wt y2) nS = Y3 at *
    generalize sumN y2 nS = Y2 at *
    generalize sumN y nS = Y1 at *
    generalize sntM nS (tickM nS nC x) = S3 at *
    generalize sntM nS x = S2 at *
    generalize sntM nS m = S1 at *
    generalize wfT wt nS nC T m = W1 at *
    generalize sumN (fun k => (wfM wt nS nC x k : Int)) nS = W2 at *
    generalize sumN Z nS = zz at *
    have eT : a + ((T + 1 : Nat) : Int) = a + T + 1 := by omega
    rw [eT]
    generalize hD1 : (a + (T : Int)) / 200 - a / 200 = D1 at *
    have hD2 : (a + (T : Int) + 1) / 200 - a / 200 = D1 + ((a + (T : Int) + 1) / 200 - (a + (T : Int)) / 200) := by omega
    rw [hD2]
    generalize (a + (T : Int) + 1) / 200 - (a + (T : Int)) / 200 = D2 at *
    have c1 : r * (M * (S3 - S1)) = r * (M * (S3 - S2)) + r * (M * (S2 - S1)) := by
      rw [← Int.mul_add, ← Int.mul_add]
      congr 2
      omega
    have c2 : r * (M * (W1 + W2)) = r * (M * W1) + r * (M * W2) := by rw [Int.mul_add, Int.mul_add]
    have c3 : r * (M * zz * (D1 + D2)) = r * (M * zz * D1) + r * (M * zz * D2) := by rw [Int.mul_add, Int.mul_add]
    have c4 : (nS : Int) * (((T + 1 : Nat) : Int) * (183 * M + 3 * (r * M))) = nS * (T * (183 * M + 3 * (r * M))) + nS * (183 * M + 3 * (r * M)) := by
      push_cast
      rw [Int.add_mul, Int.mul_add, Int.one_mul]
    rw [c1, c2, c3, c4]
    omega
end MGS
