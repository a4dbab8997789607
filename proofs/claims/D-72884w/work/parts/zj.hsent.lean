/-! Bounds, the account: what is sent in mode H, from a state's facts -/
section BAJ
variable {nS nC : Nat} {m : MS} {lo hi : Nat → Int} {K q w : Int} {X X2 C w1 : Nat} {y : Nat → Int}
theorem BAs.ph (h : BAs nS m lo hi) : mg m 5 - 19 ≤ phM m ∧ phM m ≤ mg m 5 + 19 := by
  have hW := h.2.1.1
  have hs := h.2.2.2.2.1
  unfold phM
  cases hv : mv m with
  | none =>
    dsimp only
    omega
  | some p =>
    have := hW p hv
    dsimp only
    omega
theorem sumN_nn {f : Nat → Int} : ∀ n, (∀ k, k < n → 0 ≤ f k) → 0 ≤ sumN f n := by
  intro n h
  have a := sumN_le (f := fun _ => 0) (g := f) n h
  have b := sumN_c 0 n
  rw [Int.mul_zero] at b
  omega
/-- T ticks in mode H -/
theorem BAs.hrun (h : BAs nS m lo hi) (hP : PHs K q X X2 C w1 w) (hK : ∀ k, k < nS → hi k - lo k + 1 ≤ K) (hq : ∀ k, k < nS → hi k - lo k ≤ q) (hR : mg m 2 + mg m 3 ≤ 60) (hM : MHn nS m lo hi q w y) (T : Nat) (hT : mg m 5 + T ≤ tqB) : ∃ y2, MHn nS (tkN nS nC T m) lo hi q w y2 ∧ 0 ≤ sumN y2 nS ∧ mg m 1 * sumN y2 nS + 61 * (mg m 1 * ((mg m 2 + mg m 3) * (sntM nS (tkN nS nC T m) - sntM nS m))) ≤ mg m 1 * sumN y nS + 305 * ((mg m 2 + mg m 3) * (T + 38)) + mg m 1 * (nS * (T * (61 + (mg m 2 + mg m 3)) + 122 * ((mg m 2 + mg m 3) * (w * ((mg m 5 + T) / 200 - mg m 5 / 200))))) := by
  have h1 := h.2.2.2.2.1
  have h2 := h.2.2.2.2.2.1
  have h3 := h.2.2.2.2.2.2.1
  have h0 := h.2.2.2.2.2.2.2.2.2.2.2.2.2
  have hw : 0 ≤ w := by have := hP.2.2.2.2.2.2.1; omega
  obtain ⟨y2, a, b⟩ := hM.run (nC := nC) hP hK hq h.1 (by omega) hR (by omega) h1.1 T hT (h.frs (nC := nC) hT)
  have g2 := tkN_g (nS := nS) (nC := nC) (m := m) (i := 2) (by decide) (by decide) (by decide) (by decide) (by decide) (by decide) T
  have g3 := tkN_g (nS := nS) (nC := nC) (m := m) (i := 3) (by decide) (by decide) (by decide) (by decide) (by decide) (by decide) T
  have g5 := tkN_5 (nS := nS) (nC := nC) (m := m) T
  have p0 := h.ph
  have pT := (h.run (nC := nC) T hT).ph
  rw [g5] at pT
  refine ⟨y2, a, sumN_nn nS (fun k hk => ?_), ?_⟩
  · have c := a.pv hw (by rw [g2, g3]; omega) k hk
    rw [g2, g3] at c
    have d : 0 ≤ (mg m 2 + mg m 3) * ((PV (vwK k (tkN nS nC T m)) : Int) + 5 * (aNl (vwK k (tkN nS nC T m)).2.2 : Int)) := Int.mul_nonneg (by omega) (by omega)
    omega
  · have c : (mg m 2 + mg m 3) * (phM (tkN nS nC T m) - phM m) ≤ (mg m 2 + mg m 3) * (T + 38) := Int.mul_le_mul_of_nonneg_left (by omega) (by omega)
    omega
end BAJ
