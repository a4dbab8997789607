/-! Bounds, the account: mode H from any state on (R <= 60), what is sent in T ticks -/
section MHON
variable {nS nC : Nat} {m : MS} {lo lw hi n0 : Nat → Int} {K q w wf r : Int} {qf : Int → Int} {pw : Int → List EnF → Int} {X X2 C w1 : Nat} {y : Nat → Int}
theorem pwG_0 {w now : Int} {L : List EnF} (hw : 0 ≤ w) : 0 ≤ pwG w now L := Int.mul_nonneg hw wgN_b.1
theorem pwG_5 {w now : Int} {L : List EnF} (hw : 0 ≤ w) : pwG w now L ≤ 5 * w := by
  have := Int.mul_le_mul_of_nonneg_left (wgN_b (m := now / 200) (x := mn0 now L) (y := mn1 now L) (z := mn2 now L)).2.1 hw
  unfold pwG
  omega
theorem MHo.nn (h : MHo nS m lo lw hi n0 qf pw y) (h0 : ∀ (now : Int) (L : List EnF), 0 ≤ pw now L) (hR1 : 1 ≤ mg m 2 + mg m 3) : ∀ k, k < nS → 0 ≤ y k := by
  intro k hk
  obtain ⟨g, j, th, be, hI, hY⟩ := h k hk
  obtain ⟨hB, hH, hth, hBG⟩ := hI
  have hbe := hBG.1
  generalize mg m 2 + mg m 3 = R at *
  have ob : 0 ≤ obN (n0 k) (vwK k m).1 := by
    unfold obN
    split <;> omega
  have pw0 := h0 (mg m 5) g.2.1
  have a1 : 0 ≤ hPHvo pw (n0 k) (mg m 5) (vwK k m) g := by
    show 0 ≤ (PVo (n0 k) (vwK k m) : Int) + obN (n0 k) (vwK k m).1 + pw (mg m 5) g.2.1 + 5 * (aNl (vwK k m).2.2 : Int)
    omega
  have a2 := Int.mul_nonneg (show 0 ≤ R by omega) a1
  have a3 := Int.mul_nonneg (show 0 ≤ R by omega) (show 0 ≤ mg m 5 - be by omega)
  unfold hYo at hY
  omega
/-- T ticks from any state: levels at most p, acknowledgments on their way at most a -/
theorem BAs.hrunO {p a : Nat → Nat} (h : BAs nS m lo hi) (hP : PHo K q X X2 C w1 w (2 * w)) (hK : ∀ k, k < nS → hi k - lo k + 1 ≤ K) (hq : ∀ k, k < nS → hi k - lo k ≤ q) (hR : mg m 2 + mg m 3 ≤ 60) (hp : ∀ k, k < nS → lvl (ms m k) ≤ p k) (ha : ∀ k, k < nS → aNl (vwK k m).2.2 ≤ a k) (T : Nat) (hT : mg m 5 + T ≤ tqB) : ∃ y2, MHo nS (tkN nS nC T m) lo lo hi (fun k => (ms m k).1 6) (fun _ => q) (pwG w) y2 ∧ 0 ≤ sumN y2 nS ∧ mg m 1 * sumN y2 nS + 61 * (mg m 1 * ((mg m 2 + mg m 3) * (sntM nS (tkN nS nC T m) - sntM nS m))) ≤ mg m 1 * sumN (fun k => 61 * ((mg m 2 + mg m 3) * (2 * (p k : Int) + 31 + 5 * w + 5 * (a k : Int))) + 61 * ((mg m 2 + mg m 3) - 1) + 60 * (mg m 2 + mg m 3)) nS + 305 * ((mg m 2 + mg m 3) * (T + 38)) + mg m 1 * (nS * (T * (61 + (mg m 2 + mg m 3)) + 61 * ((mg m 2 + mg m 3) * (2 * w * ((mg m 5 + T) / 200 - mg m 5 / 200))))) := by
  have h1 := h.2.2.2.2.1
  have h2 := h.2.2.2.2.2.1
  have h3 := h.2.2.2.2.2.2.1
  have h0 := h.2.2.2.2.2.2.2.2.2.2.2.2.2
  have hw : 0 ≤ w := by have := hP.2.2.2.2.2.2.1; omega
  have st := MHo.start (q := fun _ => q) (pw := pwG w) (pB := 5 * w) h.2.2.2.2.2.2.2.1 (fun now _ _ _ L _ _ _ _ => pwG_5 hw) (by omega) hp ha
  obtain ⟨y2, b, c⟩ := st.run (nC := nC) hP (PWk_wgN (tz := tqB) hw) hK hq h.1 (by omega) hR (by omega) h1.1 T hT hT (fun i _ _ => ⟨hP.2.2.2.2.2.2.2.2.1, Int.le_refl _, fun _ _ => Int.le_refl _, fun _ _ _ => Int.le_refl _⟩) (h.frs (nC := nC) hT)
  have g2 := tkN_g (nS := nS) (nC := nC) (m := m) (i := 2) (by decide) (by decide) (by decide) (by decide) (by decide) (by decide) T
  have g3 := tkN_g (nS := nS) (nC := nC) (m := m) (i := 3) (by decide) (by decide) (by decide) (by decide) (by decide) (by decide) T
  have g5 := tkN_5 (nS := nS) (nC := nC) (m := m) T
  have p0 := h.ph
  have pT := (h.run (nC := nC) T hT).ph
  rw [g5] at pT
  refine ⟨y2, b, sumN_nn nS (b.nn (fun _ _ => pwG_0 hw) (by rw [g2, g3]; omega)), ?_⟩
  have c2 : (mg m 2 + mg m 3) * (phM (tkN nS nC T m) - phM m) ≤ (mg m 2 + mg m 3) * (T + 38) := Int.mul_le_mul_of_nonneg_left (by omega) (by omega)
  omega
end MHON
