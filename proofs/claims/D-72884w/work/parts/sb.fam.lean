/-! Bounds, ledger by ages: from one family of numbers to another -/
theorem div_anti {t a b : Int} (ha : 0 < a) (hab : a ≤ b) (ht : 0 ≤ t) : t / b ≤ t / a := by
  have hb : 0 < b := by omega
  rw [Int.le_ediv_iff_mul_le ha]
  have q1 : t / b * b ≤ t := Int.ediv_mul_le t (by omega)
  have q2 : 0 ≤ t / b := Int.ediv_nonneg ht (by omega)
  have q3 : t / b * a ≤ t / b * b := Int.mul_le_mul_of_nonneg_left hab q2
  omega
theorem ML1.fam {k : Nat} {m : MS} {kk kk2 cS cS2 : Nat → Int} {W W2 kp J1 B w1 w2 Wm F0 z0 H0 e0 gr w3 Q de Fc Rm kp2 B2 w12 w22 Wm2 F02 z02 H02 e02 gr2 w32 de2 Fc2 tq1 lo1 hi1 dC Bk Bn : Int} (hP : LR kk cS W kp J1 B w1 w2 Wm F0 z0 H0 e0 gr w3 Q de Fc Rm) (hP2 : LR kk2 cS2 W2 kp2 J1 B2 w12 w22 Wm2 F02 z02 H02 e02 gr2 w32 Q de2 Fc2 Rm) (h : ML1 kk cS W kp J1 H0 de gr Rm Q m tq1 lo1 hi1 k Bk) (hkk : ∀ i : Nat, i ≤ 5 → kk i ≤ kk2 i) (hcs : ∀ i : Nat, i ≤ 4 → cS2 i ≤ cS i + dC) (hC : 0 ≤ dC) (hWW : W ≤ W2) (hk : kp ≤ kp2) (hg : gr2 ≤ gr) (hd : de ≤ de2) (hN : Bk + 25 * (kp2 - kp) + (de2 - de) * (2 * Rm + 62) + dC + 3 * (W2 - W) ≤ Bn) (hB : bmA cS2 H02 de2 gr2 Rm + 3 * W2 ≤ Bn) : ML1 kk2 cS2 W2 kp2 J1 H02 de2 gr2 Rm Q m tq1 lo1 hi1 k Bn := by
  obtain ⟨g, th, ed, jg, ts, i, h1, h2⟩ := h
  have hR1 : 1 ≤ Rm := hP.2.2.2.2.2.2.2.2.2.2.2.2.2.2.2.2.2.2.1
  have hW := hP.2.2.2.2.2.2.2.2.1
  have hkp := hP.1.2.1
  have a0 : 0 ≤ (de2 - de) * (2 * Rm + 62) := Int.mul_nonneg (by omega) (by omega)
  refine ⟨g, th, ed, jg, ts, i, fun q => ?_, fun q => (h2 q).mono (by omega)⟩
  obtain ⟨k1, k2, k3, k4, k5, k6, k7, k8⟩ := h1 q
  have i5 := k1.2.2.2.1.2.1
  have hj : jg ≤ (mg m 5) / 200 := k1.2.2.1.2.1
  have b : wcP (mg m 5) tq1 jg ≤ 3 := wc_3
  have b0 : 0 ≤ wcP (mg m 5) tq1 jg := wc_0
  have c2 : W2 * wcP (mg m 5) tq1 jg ≤ W2 * 3 := Int.mul_le_mul_of_nonneg_left b (by omega)
  have c3 : (W2 - W) * wcP (mg m 5) tq1 jg ≤ (W2 - W) * 3 := Int.mul_le_mul_of_nonneg_left b (by omega)
  have c4 : (W2 - W) * wcP (mg m 5) tq1 jg = W2 * wcP (mg m 5) tq1 jg - W * wcP (mg m 5) tq1 jg := Int.sub_mul _ _ _
  have c5 := hcs (agP (mg m 5) jg) (ag_4 hj).2
  have r2 := rmR_le (o := (vwK k m).2.1) k3 hR1
  have m1 : (de2 - de) * rmR Rm (mg m 5) th ed (vF (vwK k m)) ≤ (de2 - de) * (2 * Rm + 62) := Int.mul_le_mul_of_nonneg_left r2 (by omega)
  have m2 : (de2 - de) * rmR Rm (mg m 5) th ed (vF (vwK k m)) = de2 * rmR Rm (mg m 5) th ed (vF (vwK k m)) - de * rmR Rm (mg m 5) th ed (vF (vwK k m)) := Int.sub_mul _ _ _
  have m3 : gr2 * (aNl (vwK k m).2.2 : Int) ≤ gr * (aNl (vwK k m).2.2 : Int) := Int.mul_le_mul_of_nonneg_right hg (by omega)
  have p0 : 0 < kk 0 := hP.1.1
  have p1 : kk 0 ≤ kk i := hP.2.2.2.2.1 0 i (by omega) i5
  have dv := div_anti (t := tE (vwK k m).1 (vF (vwK k m))) (show 0 < kk i by omega) (hkk i i5) (tE_0 _ _)
  have hl : lvL (kk2 i) kp2 J1 (vwK k m).1 (vF (vwK k m)) ≤ lvL (kk i) kp J1 (vwK k m).1 (vF (vwK k m)) + (kp2 - kp) := by
    unfold lvL lA nrL
    split <;> omega
  refine ⟨k1, k2, k3, k4, k5, k6, ?_, by omega⟩
  unfold OA PT at k7 ⊢
  omega
