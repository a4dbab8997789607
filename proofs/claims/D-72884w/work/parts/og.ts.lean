/-! Bounds, trials: the potential at a start, from a level -/
theorem pR_up {w F : Int} {U Lf : Nat} : pR w F U Lf ≤ 2 * max (max w F) 4096 := by
  have := rM_c w F Lf
  unfold pR
  omega
section OG
variable {now c dl R lo1 lo2 hi : Int} {v : SV} {g : Gh} {L : List EnF} {K X D Λ r : Int} {ee : Nat → Int} {W : Nat → Nat → Int → Int}
theorem W_up (hP : TPc K X D ee W) {j : Nat} {l : Int} (hj : j ≤ 4) (hl : l ≤ max Λ 4096) : W j 0 (dvL X D l) ≤ W 4 0 (dvL X D Λ) := by
  have hX := hP.1
  have hD := hP.2.1
  have a := hP.2.2.2.2.2.2.2.2.2.1 j _ hj (dvL_0 (X := X) (D := D) (lv := l)) (dvL_D hD)
  have b := hP.mono (j := 4) (e := 0) (by decide) (by decide) (dvL_0 (X := X) (D := D) (lv := Λ)) (dvL_D hD) (dvL_0 (X := X) (D := D) (lv := l)) (by unfold dvL; omega)
  omega
theorem W_0 (hP : TPc K X D ee W) {j : Nat} {l : Int} (hj : j ≤ 4) : 0 ≤ W j 0 (dvL X D l) := hP.2.2.2.2.2.2.2.2.2.2 j _ hj dvL_0 (dvL_D hP.2.1)
/-- E zero; less what is in queue, server and on its way back -/
theorem tPot_upU (hP : TPc K X D ee W) (hl : lvS v.1 ≤ max Λ 4096) (hE : tE v.1 (vF v) ≤ 0) (hF : FI v) : tPot W X D now v L + 4096 * (aNl v.2.2 : Int) ≤ 32 * max Λ 4096 + W 4 0 (dvL X D Λ) := by
  have w := W_up hP (cdP_4 (now := now) (L := L)) hl
  have hx := hF.x
  have h5 : 0 ≤ v.1.1 5 := by rw [hF.1]; omega
  have hr := rM_c (mW v.1) (256 * v.1.1 5) (vF v)
  have hu : (aNl v.2.2 : Int) ≤ (vU v : Int) := by
    show (aNl v.2.2 : Int) ≤ ((v.2.1.length + aNl v.2.2 : Nat) : Int)
    omega
  have key : tA W X D (cdP now L) v.1 (vU v) (vF v) + 4096 * (aNl v.2.2 : Int) ≤ 32 * max Λ 4096 + W 4 0 (dvL X D Λ) := by
    unfold tA rS pR
    unfold lvS at hl w ⊢
    omega
  have q : tPot W X D now v L ≤ 32 * max Λ 4096 + W 4 0 (dvL X D Λ) - 4096 * (aNl v.2.2 : Int) := by
    refine tP_le (by omega) (fun q => ?_)
    unfold dI at q
    rw [if_neg (by omega)] at q
    exact absurd q (by decide)
  omega
theorem tPot_0 (hP : TPc K X D ee W) (hf : 0 ≤ v.1.1 5) : 0 ≤ tPot W X D now v L := by
  refine Int.le_trans ?_ tP_A
  have rF := rS_F v.1 (vU v) (vF v)
  have b1 := W_0 hP (l := lvS v.1) (cdP_4 (now := now) (L := L))
  unfold tA
  omega
/-- the level lies below it -/
theorem tPot_lv (hP : TPc K X D ee W) (hF : FI v) : 16 * lvS v.1 ≤ tPot W X D now v L := by
  refine Int.le_trans ?_ tP_A
  have hx := hF.x
  have h5 : 0 ≤ v.1.1 5 := by rw [hF.1]; omega
  have rM := pR_M (w := mW v.1) (F := 256 * v.1.1 5) (U := vU v) (Lf := vF v) (by omega)
  have rF := rS_F v.1 (vU v) (vF v)
  have b1 := W_0 hP (l := lvS v.1) (cdP_4 (now := now) (L := L))
  unfold rS at rF
  unfold tA rS
  unfold lvS at *
  omega
end OG
