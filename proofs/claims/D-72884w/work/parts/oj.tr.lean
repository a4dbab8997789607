/-! Bounds, trials: what the ticks of a trial cost, from levels -/
def TZ (nS : Nat) (m : MS) (r : Int) (lo1 lo2 hi : Nat → Int) (SB X D : Int) (ef : Nat → Int → Nat → Int) (W : Nat → Int → Nat → Nat → Int → Int) (md : Nat → Int → Nat) (y : Nat → Int) : Prop := ∀ k, k < nS → TQ1 m r lo1 lo2 hi SB y k ∨ TM1 m r lo1 lo2 hi X D ef W md y k
section TZR
variable {nS nC : Nat} {m : MS} {r SB Λ : Int} {lo1 lo2 hi : Nat → Int} {K X D Qd m0 m1 : Int} {ef : Nat → Int → Nat → Int} {W : Nat → Int → Nat → Nat → Int → Int} {md : Nat → Int → Nat} {y : Nat → Int}
theorem TZ.tick (hP : ∀ k, k < nS → TNs K X D Qd m0 m1 (ef k) (W k) (md k)) (hm0 : m0 ≤ mg m 5 / 200) (hm1 : (mg m 5 + 1) / 200 ≤ m1) (hQ : ∀ k, k < nS → hi k - lo2 k ≤ Qd) (hQ0 : 0 ≤ Qd) (hK : ∀ k, k < nS → hi k - lo1 k + 1 ≤ K) (h4 : nS ≤ 4) (hSB : ∀ k mi, k < nS → m0 ≤ mi → mi ≤ m1 → 32 * max Λ 4096 + W k mi 4 0 (dvL X D Λ) ≤ SB) (h : TZ nS m r lo1 lo2 hi SB X D ef W md y) (hF : ∀ k, k < nS → 256 * (ms m k).1 5 ≤ X + D) (hL : ∀ k, k < nS → lvS (ms (tickM nS nC m) k) ≤ Λ) (h0 : 0 ≤ mg m 5 + 1) (hnow : mg m 5 + 1 ≤ tqB) (hr0 : 1 ≤ r) (hrR : r ≤ mg m 2 + mg m 3) (hf : frOK nS nC m lo2 hi) : TZ nS (tickM nS nC m) r lo1 lo2 hi SB X D ef W md (yTn nS nC m r y) := by
  intro k hk
  rcases h k hk with q | q
  · exact TQ1.tick hk (hP k hk) (by omega) hm1 h4 q (hSB k _ hk (by omega) hm1) (hL k hk) h0 hnow hr0 hrR hf
  · exact Or.inr (TM1.tick hk (hP k hk) hm0 hm1 (hQ k hk) hQ0 (hK k hk) h4 q (hF k hk) h0 hnow hr0 hrR hf)
theorem TZ.run (hP : ∀ k, k < nS → TNs K X D Qd m0 m1 (ef k) (W k) (md k)) (hm0 : m0 ≤ mg m 5 / 200) (hQ : ∀ k, k < nS → hi k - lo2 k ≤ Qd) (hQ0 : 0 ≤ Qd) (hK : ∀ k, k < nS → hi k - lo1 k + 1 ≤ K) (h4 : nS ≤ 4) (hSB : ∀ k mi, k < nS → m0 ≤ mi → mi ≤ m1 → 32 * max Λ 4096 + W k mi 4 0 (dvL X D Λ) ≤ SB) (h : TZ nS m r lo1 lo2 hi SB X D ef W md y) (h0 : 0 ≤ mg m 5 + 1) (hr0 : 1 ≤ r) (hrR : r ≤ mg m 2 + mg m 3) : ∀ T : Nat, mg m 5 + T ≤ tqB → (mg m 5 + T) / 200 ≤ m1 → (∀ i, i < T → (∀ k, k < nS → 256 * (ms (tkN nS nC i m) k).1 5 ≤ X + D) ∧ (∀ k, k < nS → lvS (ms (tkN nS nC (i + 1) m) k) ≤ Λ) ∧ frOK nS nC (tkN nS nC i m) lo2 hi) → ∃ y2 : Nat → Int, TZ nS (tkN nS nC T m) r lo1 lo2 hi SB X D ef W md y2 ∧ sumN y2 nS + 4096 * (r * (sntM nS (tkN nS nC T m) - sntM nS m)) ≤ sumN y nS + 8192 * (r * fnT nS nC T m) + nS * (T * 65536) := by
  intro T
  induction T with
  | zero =>
    intro _ _ _
    refine ⟨y, h, ?_⟩
    have e : tkN nS nC 0 m = m := rfl
    have e1 : fnT nS nC 0 m = 0 := rfl
    rw [e, e1, Int.sub_self]
    simp
  | succ T ih =>
    intro hT hm1 hf
    push_cast at hT hm1
    obtain ⟨y2, hM2, hY⟩ := ih (by omega) (by omega) (fun i hi => hf i (by omega))
    have hfT := hf T (by omega)
    have g2 := tkN_g (nS := nS) (nC := nC) (m := m) (i := 2) (by decide) (by decide) (by decide) (by decide) (by decide) (by decide) T
    have g3 := tkN_g (nS := nS) (nC := nC) (m := m) (i := 3) (by decide) (by decide) (by decide) (by decide) (by decide) (by decide) T
    have g5 := tkN_5 (nS := nS) (nC := nC) (m := m) T
    have et : tkN nS nC (T + 1) m = tickM nS nC (tkN nS nC T m) := rfl
    have ef2 : fnT nS nC (T + 1) m = fnT nS nC T m + fiB (beginM (midM nS nC (tkN nS nC T m))) := rfl
    rw [et] at hfT
    rw [et, ef2]
    have hM3 := hM2.tick (nC := nC) hP (by rw [g5]; omega) (by rw [g5]; omega) hQ hQ0 hK h4 hSB hfT.1 hfT.2.1 (by rw [g5]; omega) (by rw [g5]; omega) hr0 (by rw [g2, g3]; exact hrR) hfT.2.2
    have hS := yTn_sum (nS := nS) (nC := nC) (m := tkN nS nC T m) (r := r) (y := y2) (by omega)
    refine ⟨yTn nS nC (tkN nS nC T m) r y2, hM3, ?_⟩
    generalize tkN nS nC T m = x at *
    generalize sumN (yTn nS nC x r y2) nS = Y3 at *
    generalize sumN y2 nS = Y2 at *
    generalize sumN y nS = Y1 at *
    generalize sntM nS (tickM nS nC x) = S3 at *
    generalize sntM nS x = S2 at *
    generalize sntM nS m = S1 at *
    generalize fnT nS nC T m = W1 at *
    generalize fiB (beginM (midM nS nC x)) = W2 at *
    have c1 : r * (S3 - S1) = r * (S3 - S2) + r * (S2 - S1) := by
      rw [← Int.mul_add]
      congr 1
      omega
    have c2 : r * (W1 + W2) = r * W1 + r * W2 := Int.mul_add _ _ _
    have c4 : (nS : Int) * (((T + 1 : Nat) : Int) * 65536) = nS * (T * 65536) + nS * 65536 := by
      push_cast
      rw [Int.add_mul, Int.mul_add, Int.one_mul]
    rw [c1, c2, c4]
    omega
/-- the level lies below it -/
theorem TZ.lv (hP : ∀ k, k < nS → TNs K X D Qd m0 m1 (ef k) (W k) (md k)) (hm0 : m0 ≤ mg m 5 / 200) (hm1 : mg m 5 / 200 ≤ m1) (hS : 16 * Λ ≤ SB) (hL : ∀ k, k < nS → lvS (ms m k) ≤ Λ) (hr0 : 1 ≤ r) (h : TZ nS m r lo1 lo2 hi SB X D ef W md y) : ∀ k, k < nS → 16 * (r * lvS (ms m k)) ≤ y k := by
  intro k hk
  rcases h k hk with ⟨g, hI, hY⟩ | ⟨g, th, hI, hH, hth, hIV, hY⟩
  · have a1 : 16 * lvS (ms m k) ≤ SB + 4096 * (aNl (vwK k m).2.2 : Int) := by
      have := hL k hk
      omega
    have a2 := Int.mul_le_mul_of_nonneg_left a1 (show 0 ≤ r by omega)
    rw [Int.mul_left_comm] at a2
    omega
  · have p := tPot_lv (now := mg m 5) (v := vwK k m) (L := g.2.1) ((hP k hk).1 (mg m 5 / 200) hm0 hm1) hI.1.1.1
    have e : (vwK k m).1 = ms m k := rfl
    rw [e] at p
    have a1 : 16 * lvS (ms m k) ≤ tPH (W k (mg m 5 / 200)) X D (mg m 5) (vwK k m) g.2.1 := by
      unfold tPH
      omega
    have a2 := Int.mul_le_mul_of_nonneg_left a1 (show 0 ≤ r by omega)
    rw [Int.mul_left_comm] at a2
    omega
theorem TZ.start (h : GS nS m lo1 lo2 hi) : TZ nS m r lo1 lo2 hi SB X D ef W md (fun k => r * (SB + 4096 * (aNl (vwK k m).2.2 : Int)) + 65536 * (r - 1)) := by
  intro k hk
  obtain ⟨g, hG, hs⟩ := h k hk
  exact Or.inl ⟨g, hG, Int.le_refl _⟩
/-- packets sent in T ticks, and the levels behind them -/
theorem trial_le (hP : ∀ k, k < nS → TNs K X D Qd m0 m1 (ef k) (W k) (md k)) (hm0 : m0 ≤ mg m 5 / 200) (hQ : ∀ k, k < nS → hi k - lo2 k ≤ Qd) (hQ0 : 0 ≤ Qd) (hK : ∀ k, k < nS → hi k - lo1 k + 1 ≤ K) (h4 : nS ≤ 4) (hSB : ∀ k mi, k < nS → m0 ≤ mi → mi ≤ m1 → 32 * max Λ 4096 + W k mi 4 0 (dvL X D Λ) ≤ SB) (hS : 16 * Λ ≤ SB) (h : GS nS m lo1 lo2 hi) (h0 : 0 ≤ mg m 5 + 1) (hr0 : 1 ≤ r) (hrR : r ≤ mg m 2 + mg m 3) {T : Nat} (hT : mg m 5 + T ≤ tqB) (hm1 : (mg m 5 + T) / 200 ≤ m1) (hL0 : ∀ k, k < nS → lvS (ms (tkN nS nC T m) k) ≤ Λ) (hf : ∀ i, i < T → (∀ k, k < nS → 256 * (ms (tkN nS nC i m) k).1 5 ≤ X + D) ∧ (∀ k, k < nS → lvS (ms (tkN nS nC (i + 1) m) k) ≤ Λ) ∧ frOK nS nC (tkN nS nC i m) lo2 hi) :
    16 * (r * sumN (fun k => lvS (ms (tkN nS nC T m) k)) nS) + 4096 * (r * (sntM nS (tkN nS nC T m) - sntM nS m)) ≤ nS * (r * SB) + 4096 * (r * sumN (fun k => (aNl (vwK k m).2.2 : Int)) nS) + nS * (65536 * (r - 1)) + 8192 * (r * fnT nS nC T m) + nS * (T * 65536) := by
  obtain ⟨y2, hZ, hY⟩ := TZ.run (nC := nC) hP hm0 hQ hQ0 hK h4 hSB (TZ.start (SB := SB) (X := X) (D := D) (ef := ef) (W := W) (md := md) (r := r) h) h0 hr0 hrR T hT hm1 hf
  have g5 := tkN_5 (nS := nS) (nC := nC) (m := m) T
  have hl := hZ.lv hP (by rw [g5]; omega) (by rw [g5]; exact hm1) hS hL0 hr0
  have e1 : 16 * (r * sumN (fun k => lvS (ms (tkN nS nC T m) k)) nS) = sumN (fun k => 16 * (r * lvS (ms (tkN nS nC T m) k))) nS := by
    rw [sumN_mul, sumN_mul]
  have e2 := sumN_le nS (f := fun k => 16 * (r * lvS (ms (tkN nS nC T m) k))) (g := y2) hl
  have e3 : sumN (fun k => r * (SB + 4096 * (aNl (vwK k m).2.2 : Int)) + 65536 * (r - 1)) nS = nS * (r * SB) + 4096 * (r * sumN (fun k => (aNl (vwK k m).2.2 : Int)) nS) + nS * (65536 * (r - 1)) := by
    have c : sumN (fun k => r * (SB + 4096 * (aNl (vwK k m).2.2 : Int)) + 65536 * (r - 1)) nS = sumN (fun k => (r * SB + 4096 * (r * (aNl (vwK k m).2.2 : Int))) + 65536 * (r - 1)) nS := by
      refine sumN_congr nS (fun k _ => ?_)
      rw [Int.mul_add, Int.mul_left_comm]
    rw [c, sumN_add, sumN_add, sumN_c, sumN_c, sumN_mul, sumN_mul]
  rw [e3] at hY
  omega
end TZR
