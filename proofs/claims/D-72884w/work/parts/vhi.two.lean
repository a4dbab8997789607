/-! Bounds, trials in mode H: prices for two kinds, dear and low -/
section TWO
variable {pr : Nat → Nat → Bool} {tb : GTb} {ty : Int → Int → Nat} {AW : Int → Int → Prop} {H w0 w1 : Int} {Ks ws whs wfs : Nat → Int}
theorem PFd.two (hty : ∀ t d, ty t d < 2) (g : gmOK 2 alw2 (prF pr) tb) (z : zerC tb = true) (h0 : 0 ≤ w0) (h1 : 0 ≤ w1) (hw0 : ws 0 ≤ w0 + w1) (hw00 : 0 ≤ ws 0) (hh : 100 * whs 0 ≤ 148 * ws 0) (hf : 100 * wfs 0 ≤ 203 * ws 0) (hw1 : ws 1 ≤ w0) (hK0 : ∀ t1 d1 t2 d2, AW t1 d1 → AW t2 d2 → d1 - d2 + 1 ≤ Ks 0) (hK1 : ∀ t1 d1 t2 d2, AW t1 d1 → AW t2 d2 → pr (ty t1 d1) (ty t2 d2) = false → d1 - d2 + 1 ≤ Ks 1) (hal : ∀ now d, AW now d → alw2 (hgL H now) (ty now d) = true) : PFd (pf3 w0 w1 0 gT tb tb H ty) (pf3 w0 w1 0 gT tb tb H ty) AW Ks ws whs wfs 2 0 (fun _ => 5) (200 * (H - 3)) (200 * H + 199) :=
  PFd.of3 (by omega) hty gT_ok2 g g (zer_of gT_zer) (zer_of z) (zer_of z) h0 h1 (Int.le_refl 0) hal (hlv2 h0 h1 hw0 hw00 hh hf hw1 hK0 hK1)
theorem P3_sup2 {B : Nat} {now : Int} {L : List EnF} (hty : ∀ t d, ty t d < 2) (hB : supC 2 tb (100 * B) = true) (h0 : 0 ≤ w0) (h1 : 0 ≤ w1) : P3 w0 w1 0 gT tb tb H ty 0 now L ≤ 9 * w0 + B * w1 := by
  have a := sup_of (H := H) (now := now) (L := L) (by omega) hty gT_sup
  have b := sup_of (H := H) (now := now) (L := L) (by omega) hty hB
  have a2 : w0 * (gval gT H ty 0 now L : Int) ≤ w0 * 900 := Int.mul_le_mul_of_nonneg_left (by omega) h0
  have b2 : w1 * (gval tb H ty 0 now L : Int) ≤ w1 * (100 * B) := Int.mul_le_mul_of_nonneg_left (by omega) h1
  have b3 : w1 * (100 * (B : Int)) = 100 * (B * w1) := by
    rw [Int.mul_left_comm, Int.mul_comm w1]
  unfold P3
  rw [Int.zero_mul]
  omega
theorem pf3_nn {w2 : Int} {t0 t1 t2 : GTb} (h0 : 0 ≤ w0) (h1 : 0 ≤ w1) (h2 : 0 ≤ w2) : ∀ c now L z a, 0 ≤ pf3 w0 w1 w2 t0 t1 t2 H ty c now L z a := by
  intro c now L z a
  have a0 : 0 ≤ w0 * (gval t0 H ty c now L : Int) := Int.mul_nonneg h0 (by omega)
  have a1 : 0 ≤ w1 * (gval t1 H ty c now L : Int) := Int.mul_nonneg h1 (by omega)
  have a2 : 0 ≤ w2 * (gval t2 H ty c now L : Int) := Int.mul_nonneg h2 (by omega)
  unfold pf3 P3
  omega
end TWO
