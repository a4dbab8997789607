/-! Bounds, the account: mode H from any state, 200 + R ticks behind a change of the ways -/
section BAH
variable {nS nC : Nat} {m : MS} {lo hi : Nat → Int} {K q w : Int} {X X2 C w1 : Nat}
theorem BAs.arr (h : BAs nS m lo hi) (T : Nat) (hT : 200 ≤ T) : ∀ k, k < nS → ∀ n ∈ (vwK k (tkN nS nC T m)).2.2, n.1 ≤ mg m 5 + T + (mg m 2 + mg m 3) := by
  intro k hk n hn
  have h2 := h.2.2.2.2.2.1
  have h3 := h.2.2.2.2.2.2.1
  rcases arr_run (nC := nC) hk h.1 T n hn with z | z
  · have := h.2.2.2.2.2.2.2.2.1 k hk n z
    omega
  · omega
theorem BAs.frs (h : BAs nS m lo hi) {T : Nat} (hT : mg m 5 + T ≤ tqB) : ∀ i, i < T → frOK nS nC (tkN nS nC i m) lo hi := fun i hi => ((h.run (nC := nC) i (by omega)).tick (nC := nC) (by rw [tkN_5]; omega)).2
theorem BAs.mw (h : BAs nS m lo hi) (hP : PHs K q X X2 C w1 w) (hK : ∀ k, k < nS → hi k - lo k + 1 ≤ K) (hq : ∀ k, k < nS → hi k - lo k ≤ q) (hR : mg m 2 + mg m 3 ≤ 60) (a T : Nat) (ha : 200 ≤ a) (hT : mg m 5 + (a + T : Nat) ≤ tqB) : MW nS (tkN nS nC (a + T) m) lo hi q (mg m 5 + a) := by
  have h2 := h.2.2.2.2.2.1
  have h3 := h.2.2.2.2.2.2.1
  have hZ := h.2.2.2.2.2.2.2.2.2.2.2.2.2
  have hx := h.run (nC := nC) a (by omega)
  have arr := h.arr (nC := nC) a ha
  have g2 := tkN_g (nS := nS) (nC := nC) (m := m) (i := 2) (by decide) (by decide) (by decide) (by decide) (by decide) (by decide) a
  have g3 := tkN_g (nS := nS) (nC := nC) (m := m) (i := 3) (by decide) (by decide) (by decide) (by decide) (by decide) (by decide) a
  have g5 := tkN_5 (nS := nS) (nC := nC) (m := m) a
  rw [tkN_add]
  generalize tkN nS nC a m = x at *
  have s := MW.start (q := q) hx.2.2.2.2.2.2.2.1 (fun k hk n hn _ => by
    rw [g2, g3, g5]
    exact arr k hk n hn)
  rw [g5] at s
  exact s.run (nC := nC) hP hK hq h.1 (by rw [g5]; omega) (by rw [g2, g3]; exact hR) (by rw [g2, g3]; omega) T (by rw [g5]; omega) (hx.frs (nC := nC) (by rw [g5]; omega))
end BAH
