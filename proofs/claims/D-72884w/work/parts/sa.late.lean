/-! Bounds, ledger by ages: one sender, from low levels to the ledger -/
theorem ME1.late {k : Nat} {m : MS} {kk cS : Nat → Int} {W kp J1 B w1 w2 Wm F0 z0 H0 e0 gr gr2 w3 w32 Q Q2 de Fc Rm tq1 lo1 hi1 z2 Be Bk : Int} (hE : LEn gr w3 Q) (hP : LR kk cS W kp J1 B w1 w2 Wm F0 z0 H0 e0 gr2 w32 Q2 de Fc Rm) (h : ME1 gr w3 Rm Q m tq1 lo1 hi1 k Be) (hg : gr2 ≤ gr) (hz : Be * Be ≤ 625 * (kk 0 * z2)) (hB : Be + 25 * (z2 + kp) + (cS 4 - 25600) + de * (2 * Rm + 62) + 3 * W ≤ Bk) (hb : bmA cS H0 de gr2 Rm + 3 * W ≤ Bk) (hm : Be ≤ Bk) : ML1 kk cS W kp J1 H0 de gr2 Rm Q m tq1 lo1 hi1 k Bk := by
  obtain ⟨g, th, ed, jg, ts, i, h1, h2⟩ := h
  have hW : 0 ≤ W := hP.2.2.2.2.2.2.2.2.1
  have b : wcP (mg m 5) tq1 jg ≤ 3 := wc_3
  have c : W * wcP (mg m 5) tq1 jg ≤ W * 3 := Int.mul_le_mul_of_nonneg_left b hW
  exact ⟨g, th, ed, jg, ts, i, fun q => LHe.late hE hP (h1 q) hg hz (by omega) (by omega), fun q => (h2 q).mono hm⟩
