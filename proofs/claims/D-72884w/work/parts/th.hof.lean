/-! Bounds: from the general mode to mode H and back, the potential carried -/
section MHO
variable {nS nC : Nat} {m : MS} {lo lo1 lo2 hi hi1 : Nat → Int} {K q w t0 r : Int} {K2 M kT U1 : Int} {C1 Z : Nat → Int} {A X C3 w1 : Nat} {Fm : Nat → Nat} {wt : Nat → Int → Nat} {y y2 : Nat → Int} {a : Nat → Nat}
theorem MHn.of (hPc : ∀ k, k < nS → PCg K2 M kT A X U1 (C1 k) (Z k) C3 w1 (Fm k)) (hG : MGn nS m (mg m 2 + mg m 3) lo1 lo2 hi1 M kT U1 C1 Z X wt y) (h : MW nS m lo hi q t0) (ht : t0 + (mg m 2 + mg m 3) ≤ mg m 5) (hw : 0 ≤ w) (hR1 : 1 ≤ mg m 2 + mg m 3) (ha : ∀ k, k < nS → 5 * aNl (vwK k m).2.2 ≤ wSl (wt k) (vwK k m).2.2 + a k) (hy : ∀ k, k < nS → y k + 183 * ((mg m 2 + mg m 3) * (M * (w * 8 + (a k : Int)))) ≤ 3 * (M * y2 k)) : MHn nS m lo hi q w y2 := by
  intro k hk
  obtain ⟨g, j, hI⟩ := h.late ht k hk
  obtain ⟨g1, th, be, ⟨hI1, hT, hth, hB⟩, hGY⟩ := hG k hk
  obtain ⟨c1, cT, c2, c3, c4, c5, c6, c7, c8, c9, -⟩ := hPc k hk
  refine ⟨g, j, th, be, ⟨hI, hT, hth, hB⟩, ?_⟩
  have hyk := hy k hk
  have hak := ha k hk
  have hV := hI.1.1.1
  have nu := nuB_le hV.2.2.1
  have c : w * (nuB (mg m 5) g.2.1 : Int) ≤ w * 8 := Int.mul_le_mul_of_nonneg_left (by omega) hw
  -- the general potential is not below
  have hA := gP_A (M := M) (kT := kT) (U1 := U1) (C1 := C1 k) (Z := Z k) (X := X) (now := mg m 5) (v := vwK k m) (L := g1.2.1)
  have hc := uC_c U1 (C1 k) (Z k) (nuP (mg m 5) g1.2.1) 0 (gLv X (lvl (vwK k m).1))
  have hd := uO_c U1 (C1 k) 0 (gLv X (lvl (vwK k m).1))
  have hu : 0 ≤ uC U1 (C1 k) (Z k) (nuP (mg m 5) g1.2.1) 0 (gLv X (lvl (vwK k m).1)) := by omega
  have huM : 0 ≤ M * uC U1 (C1 k) (Z k) (nuP (mg m 5) g1.2.1) 0 (gLv X (lvl (vwK k m).1)) := Int.mul_nonneg (by omega) hu
  have hPV : (PS (vwK k m).1 (vU (vwK k m)) (vF (vwK k m)) : Int) = (PV (vwK k m) : Int) := rfl
  have d : hPHv w (mg m 5) (vwK k m) g ≤ (PV (vwK k m) : Int) + ((wSl (wt k) (vwK k m).2.2 : Int) + (w * 8 + (a k : Int))) := by
    show ((PV (vwK k m) : Nat) : Int) + w * (nuB (mg m 5) g.2.1 : Int) + 5 * (aNl (vwK k m).2.2 : Int) ≤ _
    omega
  have dM := Int.mul_le_mul_of_nonneg_left d (show 0 ≤ M by omega)
  rw [Int.mul_add, Int.mul_add] at dM
  have e : 3 * (M * hPHv w (mg m 5) (vwK k m) g) ≤ gPH M kT U1 (C1 k) (Z k) X (wt k) (mg m 5) (vwK k m) g1.2.1 + 3 * (M * (w * 8 + (a k : Int))) := by
    unfold gPH
    unfold sA at hA
    rw [hPV] at hA
    omega
  unfold hY
  unfold gY at hGY
  generalize mg m 2 + mg m 3 = R at *
  have eR := Int.mul_le_mul_of_nonneg_left e (show 0 ≤ R by omega)
  rw [Int.mul_add, Int.mul_left_comm R 3, Int.mul_left_comm R 3] at eR
  refine Int.le_of_mul_le_mul_left (a := M) ?_ c1
  have x1 : M * (61 * (R * hPHv w (mg m 5) (vwK k m) g) + 61 * (mg m 5 - th) + R * (mg m 5 - be)) = 61 * (R * (M * hPHv w (mg m 5) (vwK k m) g)) + 61 * (M * (mg m 5 - th)) + R * (M * (mg m 5 - be)) := by
    rw [Int.mul_add, Int.mul_add, Int.mul_left_comm M 61, Int.mul_left_comm M R, Int.mul_left_comm M 61, Int.mul_left_comm M R]
  rw [x1]
  omega
/-- what is left of the potential, for a start of another mode -/
theorem MHn.pv (h : MHn nS m lo hi q w y) (hw : 0 ≤ w) (hR1 : 1 ≤ mg m 2 + mg m 3) : ∀ k, k < nS → 61 * ((mg m 2 + mg m 3) * ((PV (vwK k m) : Int) + 5 * (aNl (vwK k m).2.2 : Int))) ≤ y k := by
  intro k hk
  obtain ⟨g, j, th, be, ⟨hI, hT, hth, hB⟩, hHY⟩ := h k hk
  have c : 0 ≤ w * (nuB (mg m 5) g.2.1 : Int) := Int.mul_nonneg hw (by omega)
  have d : (PV (vwK k m) : Int) + 5 * (aNl (vwK k m).2.2 : Int) ≤ hPHv w (mg m 5) (vwK k m) g := by
    show _ ≤ ((PV (vwK k m) : Nat) : Int) + w * (nuB (mg m 5) g.2.1 : Int) + 5 * (aNl (vwK k m).2.2 : Int)
    omega
  have hb : be ≤ mg m 5 := hB.1
  unfold hY at hHY
  generalize mg m 2 + mg m 3 = R at *
  have dR := Int.mul_le_mul_of_nonneg_left d (show 0 ≤ R by omega)
  have e : 0 ≤ R * (mg m 5 - be) := Int.mul_nonneg (by omega) (by omega)
  omega
end MHO
