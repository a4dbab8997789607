/-! Bounds, trials in mode H: the greatest values of the tables at a start -/
def supC (M : Nat) (tb : GTb) (B : Nat) : Bool := (List.range 4).all fun h => (List.range 6).all fun k => (List.range (k + 1)).all fun b => (List.range (b + 1)).all fun a => (List.range M).all fun A => (List.range M).all fun B2 => (List.range M).all fun C => decide (tb h 0 a b k A B2 C ≤ B)
def zerC (tb : GTb) : Bool := (List.range 4).all fun h => (List.range 4).all fun c => decide (tb h c 0 0 0 0 0 0 ≤ tb h c 1 1 1 0 0 0)
theorem zer_of {tb : GTb} (h : zerC tb = true) : ∀ a c, a < 4 → c < 4 → tb a c 0 0 0 0 0 0 ≤ tb a c 1 1 1 0 0 0 := by
  intro a c ha hc
  exact of_decide_eq_true (List.all_eq_true.mp (List.all_eq_true.mp h a (List.mem_range.mpr ha)) c (List.mem_range.mpr hc))
theorem sup_of {M B : Nat} {tb : GTb} {ty : Int → Int → Nat} {H now : Int} {L : List EnF} (hM : 0 < M) (ht : ∀ t d, ty t d < M) (h : supC M tb B = true) : gval tb H ty 0 now L ≤ B := by
  obtain ⟨x0, x1, x2⟩ := ag_b (now := now) (L := L)
  have hh : hgL H now < 4 := by
    unfold hgL
    omega
  have r := List.all_eq_true.mp (List.all_eq_true.mp (List.all_eq_true.mp (List.all_eq_true.mp (List.all_eq_true.mp (List.all_eq_true.mp (List.all_eq_true.mp h (hgL H now) (List.mem_range.mpr hh)) (ag2 now L) (List.mem_range.mpr (by omega))) (ag1 now L) (List.mem_range.mpr (by omega))) (agB now (mn0 now L)) (List.mem_range.mpr (by omega))) (tyL ty L 0) (List.mem_range.mpr (tyL_lt hM ht))) (tyL ty L 1) (List.mem_range.mpr (tyL_lt hM ht))) (tyL ty L 2) (List.mem_range.mpr (tyL_lt hM ht))
  exact of_decide_eq_true r
theorem gT_sup : supC 2 gT 900 = true := by decide +kernel
theorem gW_sup : supC 2 gW 700 = true := by decide +kernel
theorem gT_zer : zerC gT = true := by decide +kernel
theorem gW_zer : zerC gW = true := by decide +kernel
/-- a start: at most nine negative ones, seven of them dear -/
theorem P3_sup {w0 w1 : Int} {ty : Int → Int → Nat} {H now : Int} {L : List EnF} (ht : ∀ t d, ty t d < 2) (h0 : 0 ≤ w0) (h1 : 0 ≤ w1) : P3 w0 w1 0 gT gW gW H ty 0 now L ≤ 9 * w0 + 7 * w1 := by
  have a := sup_of (H := H) (now := now) (L := L) (by omega) ht gT_sup
  have b := sup_of (H := H) (now := now) (L := L) (by omega) ht gW_sup
  have a2 : w0 * (gval gT H ty 0 now L : Int) ≤ w0 * 900 := Int.mul_le_mul_of_nonneg_left (by omega) h0
  have b2 : w1 * (gval gW H ty 0 now L : Int) ≤ w1 * 700 := Int.mul_le_mul_of_nonneg_left (by omega) h1
  unfold P3
  rw [Int.zero_mul]
  omega
