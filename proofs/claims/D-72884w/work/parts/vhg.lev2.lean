/-! Bounds, trials in mode H: two depth levels: dear ones (pairs of a relation, far ones) and the rest -/
/-- far ones count too -/
def prF (pr : Nat → Nat → Bool) : GRl := fun x a b k A B C => prR pr x a b k A B C || (decide (5 ≤ k) && decide (a ≤ 1))
section LEV2
variable {pr : Nat → Nat → Bool} {ty : Int → Int → Nat} {AW : Int → Int → Prop} {w0 w1 K0 K1 : Int} {Ks ws whs wfs : Nat → Int}
theorem hlv2 (h0 : 0 ≤ w0) (h1 : 0 ≤ w1) (hw0 : ws 0 ≤ w0 + w1) (hw00 : 0 ≤ ws 0) (hh : 100 * whs 0 ≤ 148 * ws 0) (hf : 100 * wfs 0 ≤ 203 * ws 0) (hw1 : ws 1 ≤ w0) (hK0 : ∀ t1 d1 t2 d2, AW t1 d1 → AW t2 d2 → d1 - d2 + 1 ≤ Ks 0) (hK1 : ∀ t1 d1 t2 d2, AW t1 d1 → AW t2 d2 → pr (ty t1 d1) (ty t2 d2) = false → d1 - d2 + 1 ≤ Ks 1) :
    ∀ (now ka tq T0 d : Int) (L : List EnF) (fa : Int → Int) (f : Int → Option Int) (la : List Int), SF now ka tq T0 L fa f la → (∀ e ∈ L, AW e.1 e.2.2) → AW now d → (mn2 now L < mn0 now L ∨ mn2 now L + 5 ≤ now / 200) → ∃ i, i < 2 ∧ DQ (Ks i) now (ackL tq T0 now d L) ∧ ∀ c : Nat, 100 * prQ c now L (ws i) (whs i) (wfs i) ≤ w3 w0 w1 0 (grel (prF pr) ty now d L) (grel (prF pr) ty now d L) * (farU (min c 3) (agB now (mn0 now L)) (ag2 now L) : Nat) := by
  intro now ka tq T0 d L fa f la hS hA hd _
  by_cases q : grel (prF pr) ty now d L = true
  · refine ⟨0, by omega, DQ.all hA hd hK0, fun c => ?_⟩
    have fp := far_pr (c := c) (w := ws 0) (wh := whs 0) (wf := wfs 0) hS hw00 hh hf
    have e : w3 w0 w1 0 (grel (prF pr) ty now d L) (grel (prF pr) ty now d L) = w0 + w1 + 0 := by
      unfold w3
      rw [if_pos q, if_pos q]
    rw [e]
    have := Int.mul_le_mul_of_nonneg_right (show ws 0 ≤ w0 + w1 + 0 by omega) (show (0 : Int) ≤ (farU (min c 3) (agB now (mn0 now L)) (ag2 now L) : Nat) by omega)
    omega
  · have q : grel (prF pr) ty now d L = false := by
      cases z : grel (prF pr) ty now d L with
      | true => exact absurd z q
      | false => rfl
    have q2 := q
    unfold grel prF at q2
    rw [Bool.or_eq_false_iff] at q2
    obtain ⟨q3, q4⟩ := q2
    refine ⟨1, by omega, DQ.of_rel hS hA hd q3 hK1, fun c => ?_⟩
    have hnf : ¬ (mn2 now L + 5 ≤ now / 200 ∧ now / 200 ≤ mn0 now L + 1 ∧ 1 ≤ c ∧ c ≤ 2) := by
      intro z
      have k5 : 5 ≤ ag2 now L := by
        rw [(ag_s hS).2]
        unfold agB
        omega
      have a1 : agB now (mn0 now L) ≤ 1 := by
        unfold agB
        omega
      rw [Bool.and_eq_false_iff, decide_eq_false_iff_not, decide_eq_false_iff_not] at q4
      omega
    have e : w3 w0 w1 0 (grel (prF pr) ty now d L) (grel (prF pr) ty now d L) = w0 := by
      unfold w3
      rw [q]
      simp
    rw [e]
    unfold prQ
    rw [if_neg hnf]
    have u : (100 : Int) ≤ (farU (min c 3) (agB now (mn0 now L)) (ag2 now L) : Nat) := by
      unfold farU
      split
      · omega
      · split <;> omega
    have := Int.mul_le_mul_of_nonneg_left u h0
    omega
end LEV2
