/-! Bounds, mode H: all senders over ticks, and a run -/
def MHn (nS : Nat) (m : MS) (lo hi : Nat → Int) (q w : Int) (y : Nat → Int) : Prop := ∀ k, k < nS → ∃ g j th be, HBc (mg m 5) (mg m 3 - (ms m k).1 2) (mg m 2 + (ms m k).1 2) (mg m 2 + mg m 3) (lo k) (hi k) q (vwK k m) g j th be ∧ hY w (mg m 5) (mg m 2 + mg m 3) (vwK k m) g th be ≤ y k
def yHt (nS nC : Nat) (m : MS) (w : Int) (y : Nat → Int) : Nat → Int := fun k => y k + 61 * ((mg m 2 + mg m 3) * (5 * (if fnB k (beginM (midM nS nC m)) = true then 1 else 0) + 2 * w * ((mg m 5 + 1) / 200 - mg m 5 / 200))) + 61 + (mg m 2 + mg m 3) - 61 * ((mg m 2 + mg m 3) * ((ms (tickM nS nC m) k).1 6 - (ms m k).1 6))
section MHS
variable {nS nC : Nat} {m : MS} {lo hi : Nat → Int} {K q w : Int} {X X2 C w1 : Nat} {y : Nat → Int}
theorem MHn.tick (hP : PHs K q X X2 C w1 w) (hK : ∀ k, k < nS → hi k - lo k + 1 ≤ K) (hq : ∀ k, k < nS → hi k - lo k ≤ q) (h4 : nS ≤ 4) (h : MHn nS m lo hi q w y) (h0 : 0 ≤ mg m 5 + 1) (hnow : mg m 5 + 1 ≤ tqB) (hR : mg m 2 + mg m 3 ≤ 60) (hR1 : 1 ≤ mg m 2 + mg m 3) (hf : frOK nS nC m lo hi) : MHn nS (tickM nS nC m) lo hi q w (yHt nS nC m w y) := by
  intro k hk
  obtain ⟨g, j, th, be, hI, hY⟩ := h k hk
  obtain ⟨bs, z, h1, h2, h3, h5, h6, h7⟩ := tick_vo (nC := nC) hk h4 (m := m)
  obtain ⟨g2, j2, th2, be2, hI2, hY2⟩ := HBc.tick (iv := mg m 4) hP (hK k hk) (hq k hk) hI h0 hnow hR hR1 rfl rfl rfl h1 h6 (fun hz x t hx => by
    rw [h7] at hx
    rw [h5] at hz
    exact hf k hk hz x t hx)
  rw [← h2] at hI2 hY2
  have e2 := tick_s2 (nC := nC) hk h4 (m := m)
  have e6 : (ms (tickM nS nC m) k).1 6 = (ms m k).1 6 + bs.length := by
    have : (vwK k (tickM nS nC m)).1.1 6 = (ms m k).1 6 + bs.length := by
      rw [h2, fin_s, snd_6]
      congr 1
      show (slowM (hndV (mg m 5 + 1) (vwK k m)).1 (mg m 5 + 1) (mg m 4)).1 6 = _
      unfold slowM
      rw [begins_o (by decide) (by decide) (by decide), ends_o (by decide) (by decide) (by decide)]
      exact hnd_6 _ _
    exact this
  refine ⟨g2, j2, th2, be2, ?_, ?_⟩
  · rw [tick_g5, tick_g (by decide) (by decide) (by decide) (by decide) (by decide) (by decide), tick_g (by decide) (by decide) (by decide) (by decide) (by decide) (by decide), e2]
    exact hI2
  · rw [tick_g5, tick_g (by decide) (by decide) (by decide) (by decide) (by decide) (by decide), tick_g (by decide) (by decide) (by decide) (by decide) (by decide) (by decide)]
    unfold yHt
    rw [e6, ← h5]
    have e7 : (ms m k).1 6 + (bs.length : Int) - (ms m k).1 6 = bs.length := by omega
    rw [e7]
    omega
theorem yHt_sum (hR1 : 1 ≤ mg m 2 + mg m 3) : sumN (yHt nS nC m w y) nS + 61 * ((mg m 2 + mg m 3) * (sntM nS (tickM nS nC m) - sntM nS m)) ≤ sumN y nS + 305 * ((mg m 2 + mg m 3) * fiB (beginM (midM nS nC m))) + nS * (122 * ((mg m 2 + mg m 3) * (w * ((mg m 5 + 1) / 200 - mg m 5 / 200))) + 61 + (mg m 2 + mg m 3)) := by
  have hz := fnB_sum (beginM (midM nS nC m)) nS
  generalize hR : mg m 2 + mg m 3 = R at *
  generalize hD : (mg m 5 + 1) / 200 - mg m 5 / 200 = D
  have e : sumN (yHt nS nC m w y) nS = sumN (fun k => (y k + 305 * (R * (if fnB k (beginM (midM nS nC m)) = true then 1 else 0))) + ((122 * (R * (w * D)) + 61 + R) + (-61 * R) * ((ms (tickM nS nC m) k).1 6 - (ms m k).1 6))) nS := by
    refine sumN_congr nS (fun k _ => ?_)
    unfold yHt
    rw [hR, hD]
    generalize (if fnB k (beginM (midM nS nC m)) = true then (1 : Int) else 0) = z
    generalize (ms (tickM nS nC m) k).1 6 - (ms m k).1 6 = v
    have a1 : R * (5 * z + 2 * w * D) = 5 * (R * z) + 2 * (R * (w * D)) := by
      rw [Int.mul_add, Int.mul_left_comm, Int.mul_assoc 2 w D, Int.mul_left_comm R 2]
    have a2 : (-61 * R) * v = -61 * (R * v) := Int.mul_assoc _ _ _
    rw [a1, a2]
    omega
  rw [e, sumN_add, sumN_add, sumN_add, sumN_c]
  have e1 : sumN (fun k => 305 * (R * (if fnB k (beginM (midM nS nC m)) = true then (1 : Int) else 0))) nS = 305 * (R * sumN (fun k => if fnB k (beginM (midM nS nC m)) = true then 1 else 0) nS) := by
    rw [sumN_mul, sumN_mul]
  have e2 : sumN (fun k => (-61 * R) * ((ms (tickM nS nC m) k).1 6 - (ms m k).1 6)) nS = (-61 * R) * (sntM nS (tickM nS nC m) - sntM nS m) := by
    rw [sumN_mul]
    congr 1
    have : sumN (fun k => (ms (tickM nS nC m) k).1 6 - (ms m k).1 6) nS + sntM nS m = sntM nS (tickM nS nC m) := by
      unfold sntM
      rw [← sumN_add]
      exact sumN_congr nS (fun k _ => by omega)
    omega
  rw [e1, e2]
  have q : R * sumN (fun k => if fnB k (beginM (midM nS nC m)) = true then (1 : Int) else 0) nS ≤ R * fiB (beginM (midM nS nC m)) := Int.mul_le_mul_of_nonneg_left hz (by omega)
  have a2 : (-61 * R) * (sntM nS (tickM nS nC m) - sntM nS m) = -61 * (R * (sntM nS (tickM nS nC m) - sntM nS m)) := Int.mul_assoc _ _ _
  rw [a2]
  omega
/-- a run of T ticks -/
theorem MHn.run (hP : PHs K q X X2 C w1 w) (hK : ∀ k, k < nS → hi k - lo k + 1 ≤ K) (hq : ∀ k, k < nS → hi k - lo k ≤ q) (h4 : nS ≤ 4) (h : MHn nS m lo hi q w y) (h0 : 0 ≤ mg m 5 + 1) (hR : mg m 2 + mg m 3 ≤ 60) (hR1 : 1 ≤ mg m 2 + mg m 3) (hs : 1 ≤ mg m 1) : ∀ T : Nat, mg m 5 + T ≤ tqB → (∀ i, i < T → frOK nS nC (tkN nS nC i m) lo hi) → ∃ y2, MHn nS (tkN nS nC T m) lo hi q w y2 ∧ mg m 1 * sumN y2 nS + 61 * (mg m 1 * ((mg m 2 + mg m 3) * (sntM nS (tkN nS nC T m) - sntM nS m))) ≤ mg m 1 * sumN y nS + 305 * ((mg m 2 + mg m 3) * (phM (tkN nS nC T m) - phM m)) + mg m 1 * (nS * (T * (61 + (mg m 2 + mg m 3)) + 122 * ((mg m 2 + mg m 3) * (w * ((mg m 5 + T) / 200 - mg m 5 / 200))))) := by
  intro T
  induction T with
  | zero =>
    intro _ _
    refine ⟨y, h, ?_⟩
    have e : tkN nS nC 0 m = m := rfl
    rw [e, Int.sub_self, Int.sub_self]
    have : (mg m 5 + ((0 : Nat) : Int)) / 200 - mg m 5 / 200 = 0 := by
      rw [show mg m 5 + ((0 : Nat) : Int) = mg m 5 by omega]
      omega
    rw [this]
    simp
  | succ T ih =>
    intro hT hf
    obtain ⟨y2, hM, hY⟩ := ih (by omega) (fun i hi => hf i (by omega))
    have hfT := hf T (by omega)
    have g1 := tkN_g (nS := nS) (nC := nC) (m := m) (i := 1) (by decide) (by decide) (by decide) (by decide) (by decide) (by decide) T
    have g2 := tkN_g (nS := nS) (nC := nC) (m := m) (i := 2) (by decide) (by decide) (by decide) (by decide) (by decide) (by decide) T
    have g3 := tkN_g (nS := nS) (nC := nC) (m := m) (i := 3) (by decide) (by decide) (by decide) (by decide) (by decide) (by decide) T
    have g5 := tkN_5 (nS := nS) (nC := nC) (m := m) T
    have et : tkN nS nC (T + 1) m = tickM nS nC (tkN nS nC T m) := rfl
    rw [et]
    generalize tkN nS nC T m = x at *
    have hM2 := hM.tick (nC := nC) hP hK hq h4 (by rw [g5]; omega) (by rw [g5]; omega) (by rw [g2, g3]; exact hR) (by rw [g2, g3]; exact hR1) hfT
    have hS := yHt_sum (nS := nS) (nC := nC) (m := x) (w := w) (y := y2) (by rw [g2, g3]; exact hR1)
    have hPh := (phM_tick (nS := nS) (nC := nC) (m := x) (by rw [g1]; exact hs)).1
    refine ⟨yHt nS nC x w y2, hM2, ?_⟩
    rw [g2, g3, g5] at hS
    rw [g1] at hPh
    generalize hRR : mg m 2 + mg m 3 = R at *
    generalize mg m 1 = sv at *
    generalize mg m 5 = a at *
    generalize sumN (yHt nS nC x w y2) nS = Y3 at *
    generalize sumN y2 nS = Y2 at *
    generalize sumN y nS = Y1 at *
    generalize sntM nS (tickM nS nC x) = S3 at *
    generalize sntM nS x = S2 at *
    generalize sntM nS m = S1 at *
    generalize phM (tickM nS nC x) = P3 at *
    generalize phM x = P2 at *
    generalize phM m = P1 at *
    generalize fiB (beginM (midM nS nC x)) = F at *
    have eT : a + ((T + 1 : Nat) : Int) = a + T + 1 := by omega
    rw [eT]
    generalize hD1 : (a + (T : Int)) / 200 - a / 200 = D1 at *
    have hD2 : (a + (T : Int) + 1) / 200 - a / 200 = D1 + ((a + (T : Int) + 1) / 200 - (a + (T : Int)) / 200) := by omega
    rw [hD2]
    generalize (a + (T : Int) + 1) / 200 - (a + (T : Int)) / 200 = D2 at *
    have b1 : sv * (Y3 + 61 * (R * (S3 - S2))) ≤ sv * (Y2 + 305 * (R * F) + nS * (122 * (R * (w * D2)) + 61 + R)) := Int.mul_le_mul_of_nonneg_left hS (by omega)
    have b2 : R * (sv * F) ≤ R * (P3 - P2) := Int.mul_le_mul_of_nonneg_left hPh (by omega)
    have c1 : sv * (Y3 + 61 * (R * (S3 - S2))) = sv * Y3 + 61 * (sv * (R * (S3 - S2))) := by
      rw [Int.mul_add, Int.mul_left_comm sv 61]
    have c2 : sv * (Y2 + 305 * (R * F) + nS * (122 * (R * (w * D2)) + 61 + R)) = sv * Y2 + 305 * (R * (sv * F)) + sv * (nS * (122 * (R * (w * D2)) + 61 + R)) := by
      rw [Int.mul_add, Int.mul_add, Int.mul_left_comm sv 305, Int.mul_left_comm sv R F]
    have c3 : sv * (R * (S3 - S1)) = sv * (R * (S3 - S2)) + sv * (R * (S2 - S1)) := by
      rw [← Int.mul_add, ← Int.mul_add]
      congr 2
      omega
    have c4 : R * (P3 - P1) = R * (P3 - P2) + R * (P2 - P1) := by
      rw [← Int.mul_add]
      congr 1
      omega
    have c5 : sv * (nS * (((T + 1 : Nat) : Int) * (61 + R) + 122 * (R * (w * (D1 + D2))))) = sv * (nS * (T * (61 + R) + 122 * (R * (w * D1)))) + sv * (nS * (122 * (R * (w * D2)) + 61 + R)) := by
      rw [← Int.mul_add, ← Int.mul_add]
      congr 2
      push_cast
      rw [Int.add_mul, Int.one_mul, Int.mul_add w, Int.mul_add R]
      omega
    rw [c3, c4, c5]
    omega
end MHS
