/-! Bounds, mode H: smaller ranges once old delays are gone -/
section NAR
variable {nS nC : Nat} {m : MS} {lo hi lo2 hi2 l1 l2 h1 : Nat → Int} {q q2 w w2 t0 : Int} {y : Nat → Int}
theorem GNS.narrow (h : GNS nS m l1 l2 h1) (hr : ∀ k, k < nS → RG2 (mg m 5) (lo2 k) (lo2 k) (hi2 k) (ms m k) (vwK k m).2.2) : GNS nS m lo2 lo2 hi2 := by
  intro k hk
  obtain ⟨g, ⟨⟨⟨hV, -⟩, hp, hg⟩, hND⟩, hs⟩ := h k hk
  exact ⟨g, ⟨⟨⟨hV, hr k hk⟩, hp, hg⟩, hND⟩, hs⟩
/-- R ticks behind the new start: mode H with the smaller numbers, the potential and the clocks carried -/
theorem MHn.re (hM : MHn nS m lo hi q w y) (h : MW nS m lo2 hi2 q2 t0) (ht : t0 + (mg m 2 + mg m 3) ≤ mg m 5) (hw : 0 ≤ w) (hw2 : 0 ≤ w2) (hR1 : 1 ≤ mg m 2 + mg m 3) : MHn nS m lo2 hi2 q2 w2 (fun k => y k + 61 * ((mg m 2 + mg m 3) * (8 * w2))) := by
  intro k hk
  obtain ⟨g, j, hI⟩ := h.late ht k hk
  obtain ⟨g1, j1, th, be, ⟨hI1, hT, hth, hB⟩, hY1⟩ := hM k hk
  refine ⟨g, j, th, be, ⟨hI, hT, hth, hB⟩, ?_⟩
  have nu := nuB_le hI.1.1.1.2.2.1
  have c : w2 * (nuB (mg m 5) g.2.1 : Int) ≤ w2 * 8 := Int.mul_le_mul_of_nonneg_left (by omega) hw2
  have c1 : 0 ≤ w * (nuB (mg m 5) g1.2.1 : Int) := Int.mul_nonneg hw (by omega)
  have a1 : hPHv w2 (mg m 5) (vwK k m) g = (PV (vwK k m) : Int) + w2 * (nuB (mg m 5) g.2.1 : Int) + 5 * (aNl (vwK k m).2.2 : Int) := rfl
  have a2 : hPHv w (mg m 5) (vwK k m) g1 = (PV (vwK k m) : Int) + w * (nuB (mg m 5) g1.2.1 : Int) + 5 * (aNl (vwK k m).2.2 : Int) := rfl
  have d : hPHv w2 (mg m 5) (vwK k m) g ≤ hPHv w (mg m 5) (vwK k m) g1 + 8 * w2 := by omega
  unfold hY at hY1 ⊢
  generalize mg m 2 + mg m 3 = R at *
  have e := Int.mul_le_mul_of_nonneg_left d (show 0 ≤ R by omega)
  rw [Int.mul_add] at e
  dsimp only
  omega
end NAR
