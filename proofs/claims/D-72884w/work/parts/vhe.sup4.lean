/-! Bounds, trials in mode H: a start with three kinds: at most nine negative ones, seven above the lowest price, five of the dearest -/
theorem gT_sup3 : supC 3 gT 900 = true := by decide +kernel
theorem P4_sup {w0 w1 w2 w3 : Int} {ty : Int → Int → Nat} {H now : Int} {L : List EnF} (ht : ∀ t d, ty t d < 3) (h0 : 0 ≤ w0) (h1 : 0 ≤ w1) (h2 : 0 ≤ w2) (h3 : 0 ≤ w3) : P4 w0 w1 w2 w3 gT gC3 gB3 gA3 H ty 0 now L ≤ 9 * w0 + 7 * w1 + 7 * w2 + 5 * w3 := by
  have a := sup_of (H := H) (now := now) (L := L) (by omega) ht gT_sup3
  have b := sup_of (H := H) (now := now) (L := L) (by omega) ht gC3_sup
  have c := sup_of (H := H) (now := now) (L := L) (by omega) ht gB3_sup
  have d := sup_of (H := H) (now := now) (L := L) (by omega) ht gA3_sup
  have a2 : w0 * (gval gT H ty 0 now L : Int) ≤ w0 * 900 := Int.mul_le_mul_of_nonneg_left (by omega) h0
  have b2 : w1 * (gval gC3 H ty 0 now L : Int) ≤ w1 * 700 := Int.mul_le_mul_of_nonneg_left (by omega) h1
  have c2 : w2 * (gval gB3 H ty 0 now L : Int) ≤ w2 * 700 := Int.mul_le_mul_of_nonneg_left (by omega) h2
  have d2 : w3 * (gval gA3 H ty 0 now L : Int) ≤ w3 * 500 := Int.mul_le_mul_of_nonneg_left (by omega) h3
  unfold P4
  omega
