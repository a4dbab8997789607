/-! Bounds, the account: few acknowledgments behind a long queue, over all calls -/
theorem QA.sts {u u' : CuM} (h : QA u.2.2) (hs : StS u u') : QA u'.2.2 := by
  rcases hs with ⟨a, b, a1, a2, b1, b2, e⟩ | ⟨a, b, a1, a2, b1, b2, e⟩ | ⟨a, a1, a2, e⟩ | ⟨a, b, d, a1, a2, b1, b2, d1, d2, h4, e⟩ | ⟨i, a, b, hi, a1, a2, b1, b2, e⟩ | ⟨i, a, hi, a1, a2, e⟩ | ⟨i, a, hi, ha, e⟩ | ⟨a, b, d, f, -, -, -, -, -, -, -, -, -, e⟩ | ⟨i, -, e⟩ <;> rw [e] <;> exact h.same rfl rfl rfl rfl
theorem QA.nil {m : MS} (h1 : mq m = []) (h2 : mnt m = []) : QA m := by
  refine ⟨?_, fun n hn => ?_⟩
  · rw [h1]
    trivial
  · rw [h2] at hn
    cases hn
theorem QA.run {nS nC : Nat} {m : MS} (h : QA m) (hc : mg m 0 ≤ 60) (hR : mg m 2 + mg m 3 ≤ 200) : ∀ T : Nat, QA (tkN nS nC T m) := by
  intro T
  induction T with
  | zero => exact h
  | succ T ih =>
    have g0 := tkN_g (nS := nS) (nC := nC) (m := m) (i := 0) (by decide) (by decide) (by decide) (by decide) (by decide) (by decide) T
    have g2 := tkN_g (nS := nS) (nC := nC) (m := m) (i := 2) (by decide) (by decide) (by decide) (by decide) (by decide) (by decide) T
    have g3 := tkN_g (nS := nS) (nC := nC) (m := m) (i := 3) (by decide) (by decide) (by decide) (by decide) (by decide) (by decide) T
    exact ih.tick (by rw [g0]; exact hc) (by rw [g2, g3]; exact hR)
