/-! Bounds, general mode: what a run of ticks costs from a state with given levels -/
section NCB
variable {nS nC : Nat} {m : MS} {r : Int} {lo1 lo2 hi : Nat → Int} {K M kT U1 : Int} {C1 Z : Nat → Int} {A X C3 w1 : Nat} {Fm : Nat → Nat} {wt : Nat → Int → Nat} {y : Nat → Int}
/-- a sender's state at a start -/
def GS (nS : Nat) (m : MS) (lo1 lo2 hi : Nat → Int) : Prop := ∀ k, k < nS → ∃ g, GBb (mg m 5) (mg m 3 - (ms m k).1 2) (mg m 2 + (ms m k).1 2) (mg m 2 + mg m 3) (lo1 k) (lo2 k) (hi k) (vwK k m) g ∧ ((ms m k).1 11 ≠ -1 → mg m 5 < (ms m k).1 11)
/-- the greatest potential of a level -/
def yUp (M kT U1 C1 Z : Int) (X Λ : Nat) : Int := max (3 * (M * (2 * (Λ : Int) + 18)) + M * (Z + max U1 ((gLv X Λ : Int) + 2))) (3 * (M * (Λ : Int)) + 3 * (kT * (65536 * ((Λ : Int) * Λ))) + M * (Z + (C1 + (gLv X Λ : Int))))
theorem MGn.start {Λ wp : Nat → Nat} (hP : ∀ k, k < nS → PCg K M kT A X U1 (C1 k) (Z k) C3 w1 (Fm k)) (h : GS nS m lo1 lo2 hi) (hr : 1 ≤ r) (hl : ∀ k, k < nS → lvl (ms m k) ≤ Λ k) (hw : ∀ k, k < nS → wSl (wt k) (vwK k m).2.2 ≤ wp k) : MGn nS m r lo1 lo2 hi M kT U1 C1 Z X wt (fun k => 61 * (r * (yUp M kT U1 (C1 k) (Z k) X (Λ k) + 3 * (M * (wp k : Int)))) + 183 * (M * (r - 1)) + 180 * (r * M)) := by
  intro k hk
  obtain ⟨g, hG, hs⟩ := h k hk
  obtain ⟨c1, cT, c2, c3, c4, c5, c6, c7, c8, c9, -⟩ := hP k hk
  refine ⟨g, mg m 5 + 1 - r, mg m 5 - 60, GBc.start hG hr hs, ?_⟩
  rw [gY_start]
  have hV := hG.1.1
  have hI := hV.2.2.2.2
  unfold sdB at hI
  have a := gPot_up (M := M) (kT := kT) (U1 := U1) (C1 := C1 k) (Z := Z k) (now := mg m 5) (X := X) (v := vwK k m) (L := g.2.1) hV.2.2.2.1 hI.2.2.2.1 c1 cT c6 c7 c8 c9 (hl k hk)
  have b : M * (wSl (wt k) (vwK k m).2.2 : Int) ≤ M * (wp k : Int) := Int.mul_le_mul_of_nonneg_left (by have := hw k hk; omega) (by omega)
  have c : gPH M kT U1 (C1 k) (Z k) X (wt k) (mg m 5) (vwK k m) g.2.1 ≤ yUp M kT U1 (C1 k) (Z k) X (Λ k) + 3 * (M * (wp k : Int)) := by
    unfold gPH yUp
    omega
  have d := Int.mul_le_mul_of_nonneg_left c (show 0 ≤ r by omega)
  dsimp only
  omega
theorem MGn.nonneg (hP : ∀ k, k < nS → PCg K M kT A X U1 (C1 k) (Z k) C3 w1 (Fm k)) (hr : 1 ≤ r) (h : MGn nS m r lo1 lo2 hi M kT U1 C1 Z X wt y) : ∀ k, k < nS → 0 ≤ y k := by
  intro k hk
  obtain ⟨g, th, be, hI, hY⟩ := h k hk
  obtain ⟨c1, cT, c2, c3, c4, c5, c6, c7, c8, c9, -⟩ := hP k hk
  obtain ⟨h1, h2, h3, h4⟩ := hI
  have a := gPot_0 (M := M) (kT := kT) (U1 := U1) (C1 := C1 k) (Z := Z k) (X := X) (now := mg m 5) (v := vwK k m) (L := g.2.1) c1 c6 c7 c8 c9
  have b : 0 ≤ M * (wSl (wt k) (vwK k m).2.2 : Int) := Int.mul_nonneg (by omega) (by omega)
  have c : 0 ≤ gPH M kT U1 (C1 k) (Z k) X (wt k) (mg m 5) (vwK k m) g.2.1 := by
    unfold gPH
    omega
  have d : 0 ≤ r * gPH M kT U1 (C1 k) (Z k) X (wt k) (mg m 5) (vwK k m) g.2.1 := Int.mul_nonneg (by omega) c
  have e : 0 ≤ M * (mg m 5 - th) := Int.mul_nonneg (by omega) (by omega)
  have f : 0 ≤ r * (M * (mg m 5 - be)) := Int.mul_nonneg (by omega) (Int.mul_nonneg (by omega) (by have := h4.1; omega))
  unfold gY at hY
  omega
/-- the cost of a run -/
theorem grun_le {Λ wp : Nat → Nat} {W : Int} (hP : ∀ k, k < nS → PCg K M kT A X U1 (C1 k) (Z k) C3 w1 (Fm k)) (hK : ∀ k, k < nS → hi k - lo1 k + 1 ≤ K) (hW : ∀ k, k < nS → WTo M kT A (lo2 k) (hi k) (wt k)) (h4 : nS ≤ 4) (h : GS nS m lo1 lo2 hi) (hl : ∀ k, k < nS → lvl (ms m k) ≤ Λ k) (hw : ∀ k, k < nS → wSl (wt k) (vwK k m).2.2 ≤ wp k) (h0 : 0 ≤ mg m 5 + 1) (hM : 0 < M) (hr0 : 1 ≤ r) (hrR : r ≤ mg m 2 + mg m 3) {T : Nat} (hT : mg m 5 + T ≤ tqB) (hf : ∀ i, i < T → (∀ k, k < nS → ((ms (tkN nS nC i m) k).1 5).toNat ≤ Fm k) ∧ frOK nS nC (tkN nS nC i m) lo2 hi) (hWT : wfT wt nS nC T m ≤ W) :
    183 * (r * (M * (sntM nS (tkN nS nC T m) - sntM nS m))) ≤ sumN (fun k => 61 * (r * (yUp M kT U1 (C1 k) (Z k) X (Λ k) + 3 * (M * (wp k : Int)))) + 183 * (M * (r - 1)) + 180 * (r * M)) nS + 183 * (r * (M * W)) + 61 * (r * (M * (sumN Z nS) * ((mg m 5 + T) / 200 - mg m 5 / 200))) + nS * (T * (183 * M + 3 * (r * M))) := by
  have hS := MGn.start (Λ := Λ) (wp := wp) (wt := wt) hP h hr0 hl hw
  obtain ⟨y2, hM2, hY⟩ := MGn.run (nC := nC) hP hK hW h4 hS h0 hr0 hrR T hT hf
  have hn := hM2.nonneg hP hr0
  have hs : 0 ≤ sumN y2 nS := by
    have b := sumN_le nS (f := fun _ => 0) (g := y2) hn
    rw [sumN_c] at b
    omega
  have a1 : r * (M * wfT wt nS nC T m) ≤ r * (M * W) := Int.mul_le_mul_of_nonneg_left (Int.mul_le_mul_of_nonneg_left hWT (by omega)) (by omega)
  omega
end NCB
