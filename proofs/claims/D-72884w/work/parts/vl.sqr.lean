/-! Bounds, levels by squares: three senders over a run; equal shares are the worst -/
theorem sq_inv {a b : Int} (hb : 0 ≤ b) (h : a * a ≤ b * b) : a ≤ b := by
  apply Decidable.byContradiction
  intro y
  have a1 : (b + 1) * (b + 1) ≤ a * a := sq_le (by omega) (by omega)
  have a2 : (b + 1) * (b + 1) = b * b + 2 * b + 1 := by
    rw [Int.add_mul, Int.mul_add]
    omega
  omega
theorem sq_nn (a : Int) : 0 ≤ a * a := by
  rcases Int.le_total 0 a with h | h
  · exact Int.mul_nonneg h h
  · exact Int.mul_nonneg_of_nonpos_of_nonpos h h
theorem sq_cauchy {e Z : Nat → Int} {n : Nat} (he : ∀ k, k < n → e k = 0 ∨ e k = 1) (hN : sumN e n ≤ 3) : sumN (fun k => e k * Z k) n * sumN (fun k => e k * Z k) n ≤ 3 * sumN (fun k => e k * (Z k * Z k)) n := by
  generalize hS : sumN (fun k => e k * Z k) n = S
  have h0 : 0 ≤ sumN (fun k => e k * ((3 * Z k - S) * (3 * Z k - S))) n := by
    have := sumN_le (f := fun _ => 0) (g := fun k => e k * ((3 * Z k - S) * (3 * Z k - S))) n (fun k hk => by
      rcases he k hk with q | q
      · rw [q]
        omega
      · rw [q]
        have := sq_nn (3 * Z k - S)
        omega)
    have z := sumN_c 0 n
    omega
  have e1 : sumN (fun k => e k * ((3 * Z k - S) * (3 * Z k - S))) n = 9 * sumN (fun k => e k * (Z k * Z k)) n + (-6 * S) * sumN (fun k => e k * Z k) n + (S * S) * sumN e n := by
    rw [← sumN_mul, ← sumN_mul, ← sumN_mul, ← sumN_add, ← sumN_add]
    refine sumN_congr n (fun k _ => ?_)
    have x : (3 * Z k - S) * (3 * Z k - S) = 9 * (Z k * Z k) - 6 * (S * Z k) + S * S := by
      rw [Int.sub_mul, Int.mul_sub, Int.mul_sub, Int.mul_assoc 3 (Z k), Int.mul_left_comm (Z k) 3 (Z k), Int.mul_assoc 3 (Z k) S, Int.mul_left_comm S 3 (Z k), Int.mul_comm (Z k) S]
      omega
    rw [x, Int.mul_add, Int.mul_sub]
    have y1 : e k * (9 * (Z k * Z k)) = 9 * (e k * (Z k * Z k)) := Int.mul_left_comm _ _ _
    have y2 : e k * (6 * (S * Z k)) = 6 * (S * (e k * Z k)) := by
      rw [Int.mul_left_comm, Int.mul_left_comm (e k) S]
    have y3 : e k * (S * S) = S * S * e k := Int.mul_comm _ _
    have y4 : -6 * S * (e k * Z k) = -6 * (S * (e k * Z k)) := Int.mul_assoc _ _ _
    rw [y1, y2, y3, y4]
    omega
  rw [e1, hS] at h0
  have s0 := sq_nn S
  have h1 : (S * S) * sumN e n ≤ (S * S) * 3 := Int.mul_le_mul_of_nonneg_left hN s0
  have h2 : -6 * S * S = -6 * (S * S) := Int.mul_assoc _ _ _
  omega
/-- a step of the sum -/
theorem sq_step {A C y P S N kf : Int} (hA : 0 ≤ A) (hC : 3 * A ≤ C) (hy : 0 ≤ y) (hyA : A ≤ (y + 128) * (y + 128)) (hS : S * S ≤ 3 * P) (hN : N ≤ 3) (hk : 0 ≤ kf) (h : A * P ≤ C * (y * y)) : A * (P + 256 * S + 16384 * N + kf) ≤ (C + kf) * ((y + 128) * (y + 128)) := by
  have C0 : 0 ≤ C := by omega
  have q : S * A ≤ C * y := by
    refine sq_inv (Int.mul_nonneg C0 hy) ?_
    have e1 : S * A * (S * A) = A * A * (S * S) := by
      rw [Int.mul_assoc, Int.mul_left_comm A S A, ← Int.mul_assoc, Int.mul_comm (S * S)]
    have e2 : C * y * (C * y) = C * (C * (y * y)) := by
      rw [Int.mul_assoc, Int.mul_left_comm y C y]
    have a1 : A * A * (S * S) ≤ A * A * (3 * P) := Int.mul_le_mul_of_nonneg_left hS (sq_nn A)
    have a2 : A * A * (3 * P) = 3 * A * (A * P) := by
      rw [Int.mul_assoc, Int.mul_left_comm A 3 P, Int.mul_left_comm A 3, Int.mul_assoc 3 A]
    have a3 : 3 * A * (A * P) ≤ 3 * A * (C * (y * y)) := Int.mul_le_mul_of_nonneg_left h (by omega)
    have a4 : 3 * A * (C * (y * y)) ≤ C * (C * (y * y)) := Int.mul_le_mul_of_nonneg_right hC (Int.mul_nonneg C0 (sq_nn y))
    omega
  have e : (y + 128) * (y + 128) = y * y + 256 * y + 16384 := by
    rw [Int.add_mul, Int.mul_add]
    omega
  have k1 : A * kf ≤ (y + 128) * (y + 128) * kf := Int.mul_le_mul_of_nonneg_right hyA hk
  have k2 : A * N ≤ A * 3 := Int.mul_le_mul_of_nonneg_left hN hA
  have x1 : A * (P + 256 * S + 16384 * N + kf) = A * P + 256 * (S * A) + 16384 * (A * N) + A * kf := by
    rw [Int.mul_add, Int.mul_add, Int.mul_add, Int.mul_left_comm A 256, Int.mul_left_comm A 16384, Int.mul_comm A S]
  have x2 : (C + kf) * ((y + 128) * (y + 128)) = C * (y * y) + 256 * (C * y) + 16384 * C + (y + 128) * (y + 128) * kf := by
    rw [Int.add_mul, Int.mul_comm kf]
    have : C * ((y + 128) * (y + 128)) = C * (y * y) + 256 * (C * y) + 16384 * C := by
      rw [e, Int.mul_add, Int.mul_add, Int.mul_left_comm C 256]
      omega
    omega
  rw [x1, x2]
  omega
def SqS (nS : Nat) (dm : Int) (e Z : Nat → Int) (m : MS) : Int := sumN (fun k => e k * (Z k * Z k + kSq dm * (aNl (vwK k m).2.2 : Int))) nS
section LQR
variable {nS nC : Nat} {m : MS} {tq lo hi : Nat → Int} {F dm Q : Int}
theorem LQ1.run (hP : SQn F dm) (hQ : ∀ k, k < nS → hi k - lo k ≤ Q) (hQ0 : 0 ≤ Q) (h4 : nS ≤ 4) {Z : Nat → Int} (h : ∀ k, k < nS → LQ1 F Q m (tq k) (lo k) (hi k) k (Z k)) (h0 : 0 ≤ mg m 5 + 1) (hR1 : 1 ≤ mg m 2 + mg m 3) (hR2 : mg m 2 + mg m 3 ≤ 200) : ∀ T : Nat, (∀ i, i < T → frOK nS nC (tkN nS nC i m) lo hi) → ∃ Z2 : Nat → Int, (∀ k, k < nS → LQ1 F Q (tkN nS nC T m) (tq k) (lo k) (hi k) k (Z2 k)) ∧ ∀ (e : Nat → Int) (y D0 : Int), (∀ k, k < nS → e k = 0 ∨ e k = 1) → sumN e nS ≤ 3 → 0 ≤ y → 0 ≤ D0 → SqS nS dm e Z m + D0 ≤ 3 * (y * y) → (y * y) * (SqS nS dm e Z2 (tkN nS nC T m) + D0) ≤ (3 * (y * y) + kSq dm * fnT nS nC T m) * ((y + 128 * T) * (y + 128 * T)) := by
  have kk0 : 0 ≤ kSq dm := by
    unfold kSq
    have := Int.mul_nonneg hP.2.1 hP.2.1
    have := hP.2.1
    omega
  intro T
  induction T with
  | zero =>
    intro _
    refine ⟨Z, h, fun e y D0 _ _ hy hD0 hS => ?_⟩
    have e0 : fnT nS nC 0 m = 0 := rfl
    have e1 : tkN nS nC 0 m = m := rfl
    rw [e0, e1, Int.mul_zero, Int.add_zero, show y + 128 * ((0 : Nat) : Int) = y by omega]
    have := Int.mul_le_mul_of_nonneg_left hS (sq_nn y)
    rw [Int.mul_comm (3 * (y * y))]
    exact this
  | succ T ih =>
    intro hf
    obtain ⟨Z1, hL, hB⟩ := ih (fun i hi => hf i (by omega))
    have g2 := tkN_g (nS := nS) (nC := nC) (m := m) (i := 2) (by decide) (by decide) (by decide) (by decide) (by decide) (by decide) T
    have g3 := tkN_g (nS := nS) (nC := nC) (m := m) (i := 3) (by decide) (by decide) (by decide) (by decide) (by decide) (by decide) T
    have g5 := tkN_5 (nS := nS) (nC := nC) (m := m) T
    have et : tkN nS nC (T + 1) m = tickM nS nC (tkN nS nC T m) := rfl
    have ef : fnT nS nC (T + 1) m = fnT nS nC T m + fiB (beginM (midM nS nC (tkN nS nC T m))) := rfl
    have hfT := hf T (by omega)
    have hW := fnT_0 (nS := nS) (nC := nC) (m := m) T
    rw [et, ef]
    generalize fnT nS nC T m = W at *
    generalize tkN nS nC T m = x at *
    have hx : ∀ k, ∃ z : Int, k < nS → (LQ1 F Q (tickM nS nC x) (tq k) (lo k) (hi k) k z ∧ z * z + kSq dm * (aNl (vwK k (tickM nS nC x)).2.2 : Int) ≤ (Z1 k + 128) * (Z1 k + 128) + kSq dm * ((aNl (vwK k x).2.2 : Int) + (if fnB k (beginM (midM nS nC x)) = true then 1 else 0))) := by
      intro k
      by_cases hk : k < nS
      · obtain ⟨z, -, z2, z3⟩ := LQ1.tick (nC := nC) (tq := tq) (lo := lo) (hi := hi) hP hk (hQ k hk) hQ0 h4 (hL k hk) (by rw [g5]; omega) (by rw [g2, g3]; exact hR1) (by rw [g2, g3]; exact hR2) hfT
        exact ⟨z, fun _ => ⟨z2, z3⟩⟩
      · exact ⟨0, fun q => absurd q hk⟩
    obtain ⟨Z2, hZ2⟩ := Classical.axiomOfChoice hx
    refine ⟨Z2, fun k hk => (hZ2 k hk).1, fun e y D0 he hN hy hD0 hS => ?_⟩
    have hb := hB e y D0 he hN hy hD0 hS
    -- the sum behind the tick
    have st : SqS nS dm e Z2 (tickM nS nC x) ≤ SqS nS dm e Z1 x + 256 * sumN (fun k => e k * Z1 k) nS + 16384 * sumN e nS + kSq dm * fiB (beginM (midM nS nC x)) := by
      have a1 : SqS nS dm e Z2 (tickM nS nC x) ≤ sumN (fun k => (e k * (Z1 k * Z1 k + kSq dm * (aNl (vwK k x).2.2 : Int)) + 256 * (e k * Z1 k)) + (16384 * e k + kSq dm * (if fnB k (beginM (midM nS nC x)) = true then 1 else 0))) nS := by
        refine sumN_le nS (fun k hk => ?_)
        have b := (hZ2 k hk).2
        have ex : (Z1 k + 128) * (Z1 k + 128) = Z1 k * Z1 k + 256 * Z1 k + 16384 := by
          rw [Int.add_mul, Int.mul_add]
          omega
        rw [ex, Int.mul_add] at b
        have f0 : 0 ≤ kSq dm * (if fnB k (beginM (midM nS nC x)) = true then 1 else 0) := Int.mul_nonneg kk0 (by split <;> omega)
        rcases he k hk with q | q
        · rw [q, Int.zero_mul, Int.zero_mul, Int.zero_mul]
          omega
        · rw [q, Int.one_mul, Int.one_mul, Int.one_mul]
          omega
      rw [sumN_add, sumN_add, sumN_add, sumN_mul, sumN_mul, sumN_mul] at a1
      have a2 := Int.mul_le_mul_of_nonneg_left (fnB_sum (beginM (midM nS nC x)) nS) kk0
      unfold SqS at a1 ⊢
      omega
    have f1 := fiB_1 (beginM (midM nS nC x))
    have hsq : sumN (fun k => e k * (Z1 k * Z1 k)) nS ≤ SqS nS dm e Z1 x := by
      refine sumN_le nS (fun k hk => ?_)
      have : 0 ≤ kSq dm * (aNl (vwK k x).2.2 : Int) := Int.mul_nonneg kk0 (by omega)
      rcases he k hk with q | q
      · rw [q]; omega
      · rw [q]; omega
    have hc := sq_cauchy (Z := Z1) he hN
    have kf0 : 0 ≤ kSq dm * fiB (beginM (midM nS nC x)) := Int.mul_nonneg kk0 f1.1
    have kW : 0 ≤ kSq dm * W := Int.mul_nonneg kk0 hW.1
    have s := sq_step (A := y * y) (C := 3 * (y * y) + kSq dm * W) (y := y + 128 * T) (P := SqS nS dm e Z1 x + D0) (S := sumN (fun k => e k * Z1 k) nS) (N := sumN e nS) (kf := kSq dm * fiB (beginM (midM nS nC x))) (sq_nn y) (by omega) (by omega) (sq_le hy (by omega)) (by omega) hN kf0 hb
    have s2 := Int.mul_le_mul_of_nonneg_left (show SqS nS dm e Z2 (tickM nS nC x) + D0 ≤ SqS nS dm e Z1 x + D0 + 256 * sumN (fun k => e k * Z1 k) nS + 16384 * sumN e nS + kSq dm * fiB (beginM (midM nS nC x)) by omega) (sq_nn y)
    have e1 : (y + 128 * ((T + 1 : Nat) : Int)) = y + 128 * T + 128 := by
      push_cast
      omega
    have e2 : 3 * (y * y) + kSq dm * (W + fiB (beginM (midM nS nC x))) = 3 * (y * y) + kSq dm * W + kSq dm * fiB (beginM (midM nS nC x)) := by
      rw [Int.mul_add]
      omega
    rw [e1, e2]
    omega
end LQR
