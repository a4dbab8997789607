/-! Bounds, the account: a run with R <= 60 where no losses of other ways are left -/
section BAM
variable {nS nC : Nat} {m : MS} {lo hi : Nat → Int} {K q w : Int} {X X2 C w1 : Nat} {Λ : Nat → Nat}
theorem BAs.runX (h : BAs nS m lo hi) (hP : PHs K q X X2 C w1 w) (hK : ∀ k, k < nS → hi k - lo k + 1 ≤ K) (hq : ∀ k, k < nS → hi k - lo k ≤ q) (hR : mg m 2 + mg m 3 ≤ 60) (hls : ∀ k, k < nS → lsB (vwK k m).2.2 (mg m 5 + (mg m 2 + mg m 3))) (T : Nat) (hT : mg m 5 + T ≤ tqB) (hΛ : ∀ i, i < T → ∀ k, k < nS → lvl (ms (tkN nS nC (i + 1) m) k) ≤ Λ k) : ∃ y2, MHX nS (tkN nS nC T m) lo hi q w (mg m 5) Λ y2 ∧ mg m 1 * sumN y2 nS + 61 * (mg m 1 * ((mg m 2 + mg m 3) * (sntM nS (tkN nS nC T m) - sntM nS m))) ≤ mg m 1 * sumN (fun k => hUY w (mg m 2 + mg m 3) (Λ k) (vwK k m).2.2) nS + 305 * ((mg m 2 + mg m 3) * (T + 38)) + mg m 1 * (nS * (T * (61 + (mg m 2 + mg m 3)) + 122 * ((mg m 2 + mg m 3) * (w * ((mg m 5 + T) / 200 - mg m 5 / 200))))) := by
  have h1 := h.2.2.2.2.1
  have h2 := h.2.2.2.2.2.1
  have h3 := h.2.2.2.2.2.2.1
  have h0 := h.2.2.2.2.2.2.2.2.2.2.2.2.2
  have hS := MHX.start (q := q) (w := w) (Λ := Λ) h.2.2.2.2.2.2.2.1 hls
  have hfr := h.frs (nC := nC) hT
  obtain ⟨y2, a, b⟩ := hS.run (nC := nC) hP hK hq h.1 (by omega) hR (by omega) h1.1 T hT (fun i hi => ⟨hfr i hi, hΛ i hi⟩)
  have p0 := h.ph
  have pT := (h.run (nC := nC) T hT).ph
  rw [tkN_5] at pT
  have c : (mg m 2 + mg m 3) * (phM (tkN nS nC T m) - phM m) ≤ (mg m 2 + mg m 3) * (T + 38) := Int.mul_le_mul_of_nonneg_left (by omega) (by omega)
  exact ⟨y2, a, by omega⟩
/-- R ticks and more behind: mode H, the potential carried -/
theorem BAs.xh (h : BAs nS m lo hi) {t0 : Int} {y : Nat → Int} (hM : MHX nS m lo hi q w t0 Λ y) (ht : t0 + (mg m 2 + mg m 3) ≤ mg m 5) (hw : 0 ≤ w) (hΛ : ∀ k, k < nS → lvl (ms m k) ≤ Λ k) : MHn nS m lo hi q w y := by
  have h2 := h.2.2.2.2.2.1
  have h3 := h.2.2.2.2.2.2.1
  refine hM.late ht hw (by omega) (fun k hk => ?_) hΛ
  obtain ⟨g, -, hs⟩ := h.2.2.2.2.2.2.2.1 k hk
  exact hs
end BAM
