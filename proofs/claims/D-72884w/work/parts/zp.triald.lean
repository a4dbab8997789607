/-! Bounds, trials with R <= 60: what is sent, prices from the game -/
section TRD
variable {nS nC : Nat} {m : MS} {lo lw hi n0 : Nat → Int} {AW : Nat → Int → Int → Prop} {Ks ws whs wfs : Nat → Nat → Int} {N : Nat} {qf : Int → Int} {pf : Nat → PFt} {y : Nat → Int}
theorem omT_5 : ∀ T : Nat, omT (fun _ => 5) nS nC T m = 5 * fnT nS nC T m := by
  intro T
  induction T with
  | zero => rfl
  | succ T ih =>
    have e1 : omT (fun _ => 5) nS nC (T + 1) m = omT (fun _ => 5) nS nC T m + 5 * fiB (beginM (midM nS nC (tkN nS nC T m))) := rfl
    have e2 : fnT nS nC (T + 1) m = fnT nS nC T m + fiB (beginM (midM nS nC (tkN nS nC T m))) := rfl
    omega
theorem MHd.nn (h : MHd nS m AW lo lw hi n0 qf pf y) (h0 : ∀ k c now L z a, 0 ≤ pf k c now L z a) (hR1 : 1 ≤ mg m 2 + mg m 3) : ∀ k, k < nS → 0 ≤ y k := by
  intro k hk
  obtain ⟨g, j, th, be, hI, hY⟩ := h k hk
  obtain ⟨hB, hH, hth, hBG⟩ := hI
  have hbe := hBG.1
  generalize mg m 2 + mg m 3 = R at *
  have ob : 0 ≤ obN (n0 k) (vwK k m).1 := by
    unfold obN
    split <;> omega
  have pw0 := h0 k j.1 (mg m 5) g.2.1 (lvS (vwK k m).1) (aNl (vwK k m).2.2)
  have a1 : 0 ≤ hPq (pf k) (n0 k) (mg m 5) j.1 (vwK k m) g.2.1 := by
    unfold hPq
    omega
  have a2 := Int.mul_nonneg (show 0 ≤ R by omega) a1
  have a3 := Int.mul_nonneg (show 0 ≤ R by omega) (show 0 ≤ mg m 5 - be by omega)
  unfold hYd at hY
  omega
theorem BAs.trialD {q qh ts tz : Int} {p : Nat → Nat} {pB : Nat → Int} (h : BAs nS m lo hi) (hN : ∀ k, k < nS → ∀ i, i < N → NQ (Ks k i) q qh (ws k i) (whs k i) (wfs k i)) (hN0 : 0 < N) (hq0 : 0 ≤ q) (hqh : q ≤ 2 * qh) (hpf : ∀ k, k < nS → PFd (pf k) (pf k) (AW k) (Ks k) (ws k) (whs k) (wfs k) N 0 (fun _ => 5) ts tz) (h0p : ∀ k c now L z a, 0 ≤ pf k c now L z a) (hq : ∀ k, k < nS → hi k - lo k ≤ q) (hR : mg m 2 + mg m 3 ≤ 60) (hp : ∀ k, k < nS → lvl (ms m k) ≤ p k) (hAL : ∀ k, k < nS → ∀ x ∈ (ms m k).2.2, ∀ t, t ≤ mg m 5 → AW k t x) (hAl : ∀ k, k < nS → ∀ n ∈ (vwK k m).2.2, isA n → AW k n.1 n.2.2.2) (hb : ∀ k, k < nS → ∀ (ka tq T0 : Int) (L : List EnF) (fa : Int → Int), SF (mg m 5) ka tq T0 L fa (ms m k).2.1 (ms m k).2.2 → pf k 0 (mg m 5) L (lvS (ms m k)) (aNl (vwK k m).2.2) ≤ pB k + (vU (vwK k m) : Int)) (T : Nat) (hts : ts ≤ mg m 5) (htz : mg m 5 + T ≤ tz) (hT : mg m 5 + T ≤ tqB) (hA : ∀ i, i < T → frAW AW nS nC (tkN nS nC i m)) :
    61 * (mg m 1 * ((mg m 2 + mg m 3) * (sntM nS (tkN nS nC T m) - sntM nS m))) ≤ mg m 1 * sumN (fun k => 61 * ((mg m 2 + mg m 3) * (2 * (p k : Int) + 31 + pB k)) + 61 * ((mg m 2 + mg m 3) - 1) + 60 * (mg m 2 + mg m 3)) nS + 305 * ((mg m 2 + mg m 3) * (T + 38)) + mg m 1 * (nS * (T * (61 + (mg m 2 + mg m 3)))) := by
  have h1 := h.2.2.2.2.1
  have h2 := h.2.2.2.2.2.1
  have h3 := h.2.2.2.2.2.2.1
  have h0 := h.2.2.2.2.2.2.2.2.2.2.2.2.2
  have hR1 : 1 ≤ mg m 2 + mg m 3 := by omega
  have st := MHd.start (q := fun _ => q) (pg := pf) (pB := pB) h.2.2.2.2.2.2.2.1 hAL hAl hb hR1 hp
  have fr := h.frs (nC := nC) hT
  obtain ⟨y2, b, c⟩ := st.run (nC := nC) hN hN0 hqh hpf hq h.1 hts (by omega) hR hR1 (fun _ => by omega) T hT htz (fun i _ _ => ⟨hq0, Int.le_refl _, fun _ _ => Int.le_refl _, fun _ _ _ => Int.le_refl _⟩) (fun i hi => ⟨fr i hi, hA i hi⟩)
  have g2 := tkN_g (nS := nS) (nC := nC) (m := m) (i := 2) (by decide) (by decide) (by decide) (by decide) (by decide) (by decide) T
  have g3 := tkN_g (nS := nS) (nC := nC) (m := m) (i := 3) (by decide) (by decide) (by decide) (by decide) (by decide) (by decide) T
  have g5 := tkN_5 (nS := nS) (nC := nC) (m := m) T
  have p0 := h.ph
  have pT := (h.run (nC := nC) T hT).ph
  rw [g5] at pT
  have y0 : 0 ≤ sumN y2 nS := sumN_nn nS (b.nn h0p (by rw [g2, g3]; omega))
  rw [omT_5] at c
  have hfs := fnT_s (nS := nS) (nC := nC) (m := m) h1.1 T
  have c2 : (mg m 2 + mg m 3) * (mg m 1 * fnT nS nC T m) ≤ (mg m 2 + mg m 3) * (T + 38) := Int.mul_le_mul_of_nonneg_left (by omega) (by omega)
  rw [Int.zero_mul, Int.mul_zero, Int.mul_zero, Int.add_zero] at c
  generalize sumN (fun k => 61 * ((mg m 2 + mg m 3) * (2 * (p k : Int) + 31 + pB k)) + 61 * ((mg m 2 + mg m 3) - 1) + 60 * (mg m 2 + mg m 3)) nS = Y1 at *
  generalize sumN y2 nS = Y2 at *
  generalize sntM nS (tkN nS nC T m) - sntM nS m = S at *
  generalize fnT nS nC T m = F at *
  have cs := Int.mul_le_mul_of_nonneg_left c (show 0 ≤ mg m 1 by omega)
  rw [Int.mul_add, Int.mul_add, Int.mul_add] at cs
  have k1 : mg m 1 * (61 * ((mg m 2 + mg m 3) * S)) = 61 * (mg m 1 * ((mg m 2 + mg m 3) * S)) := Int.mul_left_comm _ _ _
  have k2 : mg m 1 * (61 * ((mg m 2 + mg m 3) * (5 * F))) = 305 * ((mg m 2 + mg m 3) * (mg m 1 * F)) := by
    rw [Int.mul_left_comm (mg m 1) 61, Int.mul_left_comm (mg m 1) (mg m 2 + mg m 3), Int.mul_left_comm (mg m 1) 5, Int.mul_left_comm (mg m 2 + mg m 3) 5]
    omega
  have k3 : 0 ≤ mg m 1 * Y2 := Int.mul_nonneg (by omega) y0
  rw [k1, k2] at cs
  omega
end TRD
