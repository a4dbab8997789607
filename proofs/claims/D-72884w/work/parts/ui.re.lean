/-! Bounds, mode H from any state on: smaller ranges and prices later; the potential as a bound; over a change of what is counted -/
section MHORE
variable {nS nC : Nat} {m : MS} {lo lw hi lo2 lw2 hi2 n0 : Nat → Int} {q : Int → Int} {pw pw2 : Int → List EnF → Int} {y y2 : Nat → Int}
theorem pwG_mono {w w2 : Int} (h : w2 ≤ w) (now : Int) (L : List EnF) : pwG w2 now L ≤ pwG w now L := Int.mul_le_mul_of_nonneg_right h wgN_b.1
/-- smaller ranges: of the latest ones and what is on the way (lo, hi), of the minutes' bests (lw); smaller prices -/
theorem MHo.re (h : MHo nS m lo lw hi n0 q pw y) (hN : ∀ k, k < nS → RG2 (mg m 5) (lw2 k) (lw2 k) (hi2 k) (ms m k) (vwK k m).2.2 ∧ LQ3 (lo2 k) (hi2 k) (ms m k) (vwK k m).2.2 ∧ lw2 k ≤ lo2 k) (hp : ∀ (now : Int) (L : List EnF), pw2 now L ≤ pw now L) (hR1 : 1 ≤ mg m 2 + mg m 3) : MHo nS m lo2 lw2 hi2 n0 q pw2 y := by
  intro k hk
  obtain ⟨g, j, th, be, ⟨⟨⟨⟨hV, hRG⟩, hJ, hSL, hND, hcc, h6, -, -⟩, hp1, hl1, hg1⟩, hc⟩, hY⟩ := h k hk
  obtain ⟨n1, n2, n3⟩ := hN k hk
  refine ⟨g, j, th, be, ⟨⟨⟨⟨hV, n1⟩, hJ, hSL, hND, hcc, h6, n2, n3⟩, hp1, hl1, hg1⟩, hc⟩, ?_⟩
  have a := hp (mg m 5) g.2.1
  have b : hPHvo pw2 (n0 k) (mg m 5) (vwK k m) g ≤ hPHvo pw (n0 k) (mg m 5) (vwK k m) g := by
    show (PVo (n0 k) (vwK k m) : Int) + obN (n0 k) (vwK k m).1 + pw2 (mg m 5) g.2.1 + 5 * (aNl (vwK k m).2.2 : Int) ≤ (PVo (n0 k) (vwK k m) : Int) + obN (n0 k) (vwK k m).1 + pw (mg m 5) g.2.1 + 5 * (aNl (vwK k m).2.2 : Int)
    omega
  have c := Int.mul_le_mul_of_nonneg_left b (show 0 ≤ mg m 2 + mg m 3 by omega)
  unfold hYo at hY ⊢
  omega
/-- back: the potential is below -/
theorem MHo.pv (h : MHo nS m lo lw hi n0 q pw y) (h0 : ∀ (now : Int) (L : List EnF), 0 ≤ pw now L) (hR1 : 1 ≤ mg m 2 + mg m 3) : ∀ k, k < nS → 61 * ((mg m 2 + mg m 3) * ((PVo (n0 k) (vwK k m) : Int) + 5 * (aNl (vwK k m).2.2 : Int))) ≤ y k := by
  intro k hk
  obtain ⟨g, j, th, be, hI, hY⟩ := h k hk
  obtain ⟨hB, hH, hth, hBG⟩ := hI
  have hbe := hBG.1
  generalize mg m 2 + mg m 3 = R at *
  have ob : 0 ≤ obN (n0 k) (vwK k m).1 := by
    unfold obN
    split <;> omega
  have pw0 := h0 (mg m 5) g.2.1
  have a1 : (PVo (n0 k) (vwK k m) : Int) + 5 * (aNl (vwK k m).2.2 : Int) ≤ hPHvo pw (n0 k) (mg m 5) (vwK k m) g := by
    show _ ≤ (PVo (n0 k) (vwK k m) : Int) + obN (n0 k) (vwK k m).1 + pw (mg m 5) g.2.1 + 5 * (aNl (vwK k m).2.2 : Int)
    omega
  have a2 := Int.mul_le_mul_of_nonneg_left a1 (show 0 ≤ R by omega)
  have a3 := Int.mul_nonneg (show 0 ≤ R by omega) (show 0 ≤ mg m 5 - be by omega)
  unfold hYo at hY
  omega
/-- levels by it: the flight at most half, where all losses are old -/
theorem PVo_fl {v : SV} {n1 : Int} (hF : FI v) : (v.1.1 5).toNat + oLo n1 v.2.2 ≤ PVo n1 v := by
  unfold PVo
  omega
end MHORE
