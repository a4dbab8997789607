/-! Bounds, trials in mode H: prices from four tables of the game; 5 for each acknowledgment -/
def P4 (w0 w1 w2 w3 : Int) (t0 t1 t2 t3 : GTb) (H : Int) (ty : Int → Int → Nat) (c : Nat) (now : Int) (L : List EnF) : Int := (w0 * (gval t0 H ty c now L : Int) + w1 * (gval t1 H ty c now L : Int) + w2 * (gval t2 H ty c now L : Int) + w3 * (gval t3 H ty c now L : Int)) / 100
def pf4 (w0 w1 w2 w3 : Int) (t0 t1 t2 t3 : GTb) (H : Int) (ty : Int → Int → Nat) : PFt := fun c now L _ a => 5 * (a : Int) + P4 w0 w1 w2 w3 t0 t1 t2 t3 H ty c now L
/-- what a negative one may cost, by the relations it stands in -/
def wS4 (w0 w1 w2 w3 : Int) (b1 b2 b3 : Bool) : Int := w0 + (if b1 = true then w1 else 0) + (if b2 = true then w2 else 0) + (if b3 = true then w3 else 0)
section PFD4
variable {M : Nat} {alw : Nat → Nat → Bool} {r1 r2 r3 : GRl} {t0 t1 t2 t3 : GTb} {ty : Int → Int → Nat} {H w0 w1 w2 w3 : Int} {AW : Int → Int → Prop} {Ks ws whs wfs : Nat → Int} {N : Nat}
theorem P4_le {c c2 : Nat} {n1 n2 : Int} {L1 L2 : List EnF} (h0 : 0 ≤ w0) (h1 : 0 ≤ w1) (h2 : 0 ≤ w2) (h3 : 0 ≤ w3) (e0 : gval t0 H ty c n1 L1 ≤ gval t0 H ty c2 n2 L2) (e1 : gval t1 H ty c n1 L1 ≤ gval t1 H ty c2 n2 L2) (e2 : gval t2 H ty c n1 L1 ≤ gval t2 H ty c2 n2 L2) (e3 : gval t3 H ty c n1 L1 ≤ gval t3 H ty c2 n2 L2) : P4 w0 w1 w2 w3 t0 t1 t2 t3 H ty c n1 L1 ≤ P4 w0 w1 w2 w3 t0 t1 t2 t3 H ty c2 n2 L2 := by
  unfold P4
  have a0 : w0 * (gval t0 H ty c n1 L1 : Int) ≤ w0 * (gval t0 H ty c2 n2 L2 : Int) := Int.mul_le_mul_of_nonneg_left (by omega) h0
  have a1 : w1 * (gval t1 H ty c n1 L1 : Int) ≤ w1 * (gval t1 H ty c2 n2 L2 : Int) := Int.mul_le_mul_of_nonneg_left (by omega) h1
  have a2 : w2 * (gval t2 H ty c n1 L1 : Int) ≤ w2 * (gval t2 H ty c2 n2 L2 : Int) := Int.mul_le_mul_of_nonneg_left (by omega) h2
  have a3 : w3 * (gval t3 H ty c n1 L1 : Int) ≤ w3 * (gval t3 H ty c2 n2 L2 : Int) := Int.mul_le_mul_of_nonneg_left (by omega) h3
  exact Int.ediv_le_ediv (by omega) (by omega)
theorem P4_drop {c : Nat} {now b u : Int} {b1 b2 b3 : Bool} {L1 L2 : List EnF} (h0 : 0 ≤ w0) (h1 : 0 ≤ w1) (h2 : 0 ≤ w2) (h3 : 0 ≤ w3) (hb : 100 * b ≤ wS4 w0 w1 w2 w3 b1 b2 b3 * u) (e0 : (gval t0 H ty c now L1 : Int) + u ≤ (gval t0 H ty c now L2 : Int)) (e1 : (gval t1 H ty c now L1 : Int) + (if b1 = true then u else 0) ≤ (gval t1 H ty c now L2 : Int)) (e2 : (gval t2 H ty c now L1 : Int) + (if b2 = true then u else 0) ≤ (gval t2 H ty c now L2 : Int)) (e3 : (gval t3 H ty c now L1 : Int) + (if b3 = true then u else 0) ≤ (gval t3 H ty c now L2 : Int)) : P4 w0 w1 w2 w3 t0 t1 t2 t3 H ty c now L1 + b ≤ P4 w0 w1 w2 w3 t0 t1 t2 t3 H ty c now L2 := by
  have a0 := Int.mul_le_mul_of_nonneg_left e0 h0
  have a1 := Int.mul_le_mul_of_nonneg_left e1 h1
  have a2 := Int.mul_le_mul_of_nonneg_left e2 h2
  have a3 := Int.mul_le_mul_of_nonneg_left e3 h3
  rw [Int.mul_add] at a0 a1 a2 a3
  have k1 : (if b1 = true then w1 else 0) * u = w1 * (if b1 = true then u else 0) := by
    split
    · rfl
    · rw [Int.zero_mul, Int.mul_zero]
  have k2 : (if b2 = true then w2 else 0) * u = w2 * (if b2 = true then u else 0) := by
    split
    · rfl
    · rw [Int.zero_mul, Int.mul_zero]
  have k3 : (if b3 = true then w3 else 0) * u = w3 * (if b3 = true then u else 0) := by
    split
    · rfl
    · rw [Int.zero_mul, Int.mul_zero]
  have hb2 : 100 * b ≤ w0 * u + w1 * (if b1 = true then u else 0) + w2 * (if b2 = true then u else 0) + w3 * (if b3 = true then u else 0) := by
    have e : wS4 w0 w1 w2 w3 b1 b2 b3 * u = w0 * u + w1 * (if b1 = true then u else 0) + w2 * (if b2 = true then u else 0) + w3 * (if b3 = true then u else 0) := by
      unfold wS4
      rw [Int.add_mul, Int.add_mul, Int.add_mul, k1, k2, k3]
    rw [e] at hb
    exact hb
  unfold P4
  generalize (if b1 = true then u else 0) = u1 at *
  generalize (if b2 = true then u else 0) = u2 at *
  generalize (if b3 = true then u else 0) = u3 at *
  generalize w0 * (gval t0 H ty c now L1 : Int) = x0 at *
  generalize w1 * (gval t1 H ty c now L1 : Int) = x1 at *
  generalize w2 * (gval t2 H ty c now L1 : Int) = x2 at *
  generalize w3 * (gval t3 H ty c now L1 : Int) = x3 at *
  generalize w0 * (gval t0 H ty c now L2 : Int) = y0 at *
  generalize w1 * (gval t1 H ty c now L2 : Int) = y1 at *
  generalize w2 * (gval t2 H ty c now L2 : Int) = y2 at *
  generalize w3 * (gval t3 H ty c now L2 : Int) = y3 at *
  generalize w0 * u = v0 at *
  generalize w1 * u1 = v1 at *
  generalize w2 * u2 = v2 at *
  generalize w3 * u3 = v3 at *
  omega
theorem PFd.of4 (hM : 0 < M) (hty : ∀ t d, ty t d < M) (g0 : gmOK M alw (fun _ _ _ _ _ _ _ => true) t0) (g1 : gmOK M alw r1 t1) (g2 : gmOK M alw r2 t2) (g3 : gmOK M alw r3 t3) (z0 : ∀ h c, h < 4 → c < 4 → t0 h c 0 0 0 0 0 0 ≤ t0 h c 1 1 1 0 0 0) (z1 : ∀ h c, h < 4 → c < 4 → t1 h c 0 0 0 0 0 0 ≤ t1 h c 1 1 1 0 0 0) (z2 : ∀ h c, h < 4 → c < 4 → t2 h c 0 0 0 0 0 0 ≤ t2 h c 1 1 1 0 0 0) (z3 : ∀ h c, h < 4 → c < 4 → t3 h c 0 0 0 0 0 0 ≤ t3 h c 1 1 1 0 0 0) (h0 : 0 ≤ w0) (h1 : 0 ≤ w1) (h2 : 0 ≤ w2) (h3 : 0 ≤ w3) (hal : ∀ now d, AW now d → alw (hgL H now) (ty now d) = true)
    (hlv : ∀ (now ka tq T0 d : Int) (L : List EnF) (fa : Int → Int) (f : Int → Option Int) (la : List Int), SF now ka tq T0 L fa f la → (∀ e ∈ L, AW e.1 e.2.2) → AW now d → (mn2 now L < mn0 now L ∨ mn2 now L + 5 ≤ now / 200) → ∃ i, i < N ∧ DQ (Ks i) now (ackL tq T0 now d L) ∧ ∀ c : Nat, 100 * prQ c now L (ws i) (whs i) (wfs i) ≤ wS4 w0 w1 w2 w3 (grel r1 ty now d L) (grel r2 ty now d L) (grel r3 ty now d L) * (farU (min c 3) (agB now (mn0 now L)) (ag2 now L) : Nat)) :
    PFd (pf4 w0 w1 w2 w3 t0 t1 t2 t3 H ty) (pf4 w0 w1 w2 w3 t0 t1 t2 t3 H ty) AW Ks ws whs wfs N 0 (fun _ => 5) (200 * (H - 3)) (200 * H + 199) := by
  refine ⟨fun c now L z z2 a _ => Int.le_refl _, fun c c2 now L z a hc => ?_, fun c now ka tq T0 d L fa f la z z2 a hS ht hA hd => ?_, fun c now ka tq T0 d L fa f la hS ht hA hd hm => ?_, ⟨fun c now L z a => ?_, fun c now L z a => Int.le_refl _⟩, fun c now ka tq T0 L fa f la z a hS hts ht => ?_⟩
  · have := P4_le (w0 := w0) (w1 := w1) (w2 := w2) (w3 := w3) h0 h1 h2 h3 (gv_c g0 hM hty (H := H) (now := now) (L := L) c c2 hc) (gv_c g1 hM hty (H := H) (now := now) (L := L) c c2 hc) (gv_c g2 hM hty (H := H) (now := now) (L := L) c c2 hc) (gv_c g3 hM hty (H := H) (now := now) (L := L) c c2 hc)
    unfold pf4
    omega
  · have ha := hal now d hd
    have := P4_le (w0 := w0) (w1 := w1) (w2 := w2) (w3 := w3) h0 h1 h2 h3 (gv_ack (c := c) g0 hM hty hS ha).1 (gv_ack (c := c) g1 hM hty hS ha).1 (gv_ack (c := c) g2 hM hty hS ha).1 (gv_ack (c := c) g3 hM hty hS ha).1
    unfold pf4
    refine ⟨fun _ _ => ?_, fun _ _ => ?_⟩ <;>
    · push_cast
      omega
  · have ha := hal now d hd
    obtain ⟨i, i1, i2, i3⟩ := hlv now ka tq T0 d L fa f la hS hA hd hm
    refine ⟨i, i1, i2, fun z z2 b a _ _ hb => ?_⟩
    have k0 := (gv_ack (c := c) g0 hM hty hS ha).2 hm
    have k1 := (gv_ack (c := c) g1 hM hty hS ha).2 hm
    have k2 := (gv_ack (c := c) g2 hM hty hS ha).2 hm
    have k3 := (gv_ack (c := c) g3 hM hty hS ha).2 hm
    have fp := i3 c
    have et : grel (fun _ _ _ _ _ _ _ => true) ty now d L = true := rfl
    rw [if_pos et] at k0
    generalize hu : farU (min c 3) (agB now (mn0 now L)) (ag2 now L) = u at *
    have u0 : (0 : Int) ≤ (u : Int) := by omega
    have hb2 : 100 * b ≤ wS4 w0 w1 w2 w3 (grel r1 ty now d L) (grel r2 ty now d L) (grel r3 ty now d L) * (u : Int) := by
      omega
    have dr := P4_drop (t0 := t0) (t1 := t1) (t2 := t2) (t3 := t3) (H := H) (ty := ty) (c := c) (now := now) (L1 := ackL tq T0 now d L) (L2 := L) h0 h1 h2 h3 hb2 (by omega) (by split at k1 <;> rename_i q <;> simp only [q] <;> (try simp) <;> omega) (by split at k2 <;> rename_i q <;> simp only [q] <;> (try simp) <;> omega) (by split at k3 <;> rename_i q <;> simp only [q] <;> (try simp) <;> omega)
    unfold pf4
    push_cast
    omega
  · unfold pf4
    push_cast
    omega
  · have hH : (now + 1) / 200 ≤ H := by omega
    have hH3 : H - 3 ≤ now / 200 := by omega
    have := P4_le (w0 := w0) (w1 := w1) (w2 := w2) (w3 := w3) h0 h1 h2 h3 (gv_nxt (c := c) g0 hM hty hS hH3 hH z0) (gv_nxt (c := c) g1 hM hty hS hH3 hH z1) (gv_nxt (c := c) g2 hM hty hS hH3 hH z2) (gv_nxt (c := c) g3 hM hty hS hH3 hH z3)
    unfold pf4
    rw [Int.zero_mul]
    omega
end PFD4
