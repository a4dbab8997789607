/-! Bounds: several generations of losses; what the server finishes -/
theorem tkN_add {nS nC a : Nat} {m : MS} : ∀ b : Nat, tkN nS nC (a + b) m = tkN nS nC b (tkN nS nC a m) := by
  intro b
  induction b with
  | zero => rfl
  | succ b ih =>
    show tickM nS nC (tkN nS nC (a + b) m) = tickM nS nC (tkN nS nC b (tkN nS nC a m))
    rw [ih]
theorem fnT_add {nS nC a : Nat} {m : MS} : ∀ b : Nat, fnT nS nC (a + b) m = fnT nS nC a m + fnT nS nC b (tkN nS nC a m) := by
  intro b
  induction b with
  | zero =>
    show fnT nS nC a m = fnT nS nC a m + 0
    omega
  | succ b ih =>
    show fnT nS nC (a + b) m + fiB (beginM (midM nS nC (tkN nS nC (a + b) m))) = fnT nS nC a m + (fnT nS nC b (tkN nS nC a m) + fiB (beginM (midM nS nC (tkN nS nC b (tkN nS nC a m)))))
    rw [ih, tkN_add]
    omega
theorem fnT_0 {nS nC : Nat} {m : MS} : ∀ T : Nat, 0 ≤ fnT nS nC T m ∧ fnT nS nC T m ≤ T := by
  intro T
  induction T with
  | zero => exact ⟨Int.le_refl _, Int.le_refl _⟩
  | succ T ih =>
    have e : fnT nS nC (T + 1) m = fnT nS nC T m + fiB (beginM (midM nS nC (tkN nS nC T m))) := rfl
    have := fiB_1 (beginM (midM nS nC (tkN nS nC T m)))
    rw [e]
    push_cast
    omega
theorem fnT_s {nS nC : Nat} {m : MS} (hs : 1 ≤ mg m 1) : ∀ T : Nat, mg m 1 * fnT nS nC T m ≤ phM (tkN nS nC T m) - phM m := by
  intro T
  induction T with
  | zero =>
    show mg m 1 * 0 ≤ phM m - phM m
    omega
  | succ T ih =>
    have e : fnT nS nC (T + 1) m = fnT nS nC T m + fiB (beginM (midM nS nC (tkN nS nC T m))) := rfl
    have et : tkN nS nC (T + 1) m = tickM nS nC (tkN nS nC T m) := rfl
    have g1 := tkN_g (nS := nS) (nC := nC) (m := m) (i := 1) (by decide) (by decide) (by decide) (by decide) (by decide) (by decide) T
    have p := (phM_tick (nS := nS) (nC := nC) (m := tkN nS nC T m) (by rw [g1]; exact hs)).1
    rw [g1] at p
    rw [e, et, Int.mul_add]
    omega
section GN
variable {nS nC : Nat}
/-- n generations -/
theorem gen_n (h4 : nS ≤ 4) {Fm : Nat → Int} : ∀ (n : Nat) (m : MS) (T : Nat), (T : Int) ≤ n * (mg m 2 + mg m 3) → 1 ≤ mg m 2 + mg m 3 → (∀ i, i ≤ T → (∀ k, k < nS → FI (vwK k (tkN nS nC i m))) ∧ ∀ k, k < nS → (ms (tkN nS nC i m) k).1 5 ≤ Fm k) → sntM nS (tkN nS nC T m) - sntM nS m ≤ n * sumN Fm nS + fnT nS nC T m := by
  intro n
  induction n with
  | zero =>
    intro m T hT hR _
    have : T = 0 := by
      have e : ((0 : Nat) : Int) * (mg m 2 + mg m 3) = 0 := Int.zero_mul _
      omega
    subst this
    show sntM nS m - sntM nS m ≤ ((0 : Nat) : Int) * sumN Fm nS + 0
    have e : ((0 : Nat) : Int) * sumN Fm nS = 0 := Int.zero_mul _
    omega
  | succ n ih =>
    intro m T hT hR hF
    have e1 : (((n + 1 : Nat) : Int)) * (mg m 2 + mg m 3) = n * (mg m 2 + mg m 3) + (mg m 2 + mg m 3) := by
      push_cast
      rw [Int.add_mul, Int.one_mul]
    have e2 : (((n + 1 : Nat) : Int)) * sumN Fm nS = n * sumN Fm nS + sumN Fm nS := by
      push_cast
      rw [Int.add_mul, Int.one_mul]
    rw [e1] at hT
    rw [e2]
    have step : ∀ t : Nat, t ≤ T → (t : Int) ≤ mg m 2 + mg m 3 → sntM nS (tkN nS nC t m) - sntM nS m ≤ sumN Fm nS + fnT nS nC t m := by
      intro t ht htR
      have a := gen_all (nC := nC) (m := m) h4 htR (hF 0 (by omega)).1
      have b := sumN_le nS (f := fun k => (ms (tkN nS nC t m) k).1 5) (g := Fm) (fun k hk => (hF t ht).2 k hk)
      omega
    have hs0 : 0 ≤ sumN Fm nS := by
      have b := sumN_le nS (f := fun _ => 0) (g := Fm) (fun k hk => by
        have x := (hF 0 (by omega)).1 k hk
        have y := (hF 0 (by omega)).2 k hk
        have z : (ms (tkN nS nC 0 m) k).1 5 = _ := x.1
        omega)
      rw [sumN_c] at b
      omega
    by_cases q : (T : Int) ≤ mg m 2 + mg m 3
    · have a := step T (Nat.le_refl _) q
      have : 0 ≤ (n : Int) * sumN Fm nS := Int.mul_nonneg (by omega) hs0
      omega
    · obtain ⟨r, hr⟩ : ∃ r : Nat, (r : Int) = mg m 2 + mg m 3 := ⟨(mg m 2 + mg m 3).toNat, by omega⟩
      have a := step r (by omega) (by omega)
      have g2 := tkN_g (nS := nS) (nC := nC) (m := m) (i := 2) (by decide) (by decide) (by decide) (by decide) (by decide) (by decide) r
      have g3 := tkN_g (nS := nS) (nC := nC) (m := m) (i := 3) (by decide) (by decide) (by decide) (by decide) (by decide) (by decide) r
      have eT : T = r + (T - r) := by omega
      have b := ih (tkN nS nC r m) (T - r) (by rw [g2, g3]; omega) (by rw [g2, g3]; exact hR) (fun i hi => by
        rw [← tkN_add]
        exact hF (r + i) (by omega))
      rw [← tkN_add, ← eT] at b
      have c := fnT_add (nS := nS) (nC := nC) (a := r) (m := m) (T - r)
      rw [← eT] at c
      omega
end GN
