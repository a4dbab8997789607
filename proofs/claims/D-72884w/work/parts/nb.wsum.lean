/-! Bounds: the weights of what is finished, by place -/
/-- weights of the first n; Wf: weight by wait -/
def wSb (Wf : Int → Nat) (b : Nat → Int) : Nat → Nat
  | 0 => 0
  | n + 1 => wSb Wf b n + Wf (b n)
theorem wfM_le {nS nC j : Nat} {m : MS} {b : Nat → Int} {wt : Nat → Int → Nat} {Wf : Int → Nat} (h : WP b j m) (hc : mg m 0 ≤ 60) (hs : 1 ≤ mg m 1 ∧ mg m 1 ≤ 20) (hb : ∀ i, 60 * mg m 1 + 18 ≤ b i) (hb2 : ∀ i, b (i + 1) ≤ b i) (hw : ∀ k, k < nS → ∀ d c : Int, d ≤ mg m 2 + (ms m k).1 2 + c → wt k d ≤ Wf c) : sumN (fun k => (wfM wt nS nC m k : Int)) nS ≤ (Wf (b j) : Int) * fiB (beginM (midM nS nC m)) := by
  have a : sumN (fun k => (wfM wt nS nC m k : Int)) nS ≤ sumN (fun k => (Wf (b j) : Int) * (if fnB k (beginM (midM nS nC m)) = true then 1 else 0)) nS := by
    refine sumN_le nS (fun k hk => ?_)
    by_cases q : fnB k (beginM (midM nS nC m)) = true
    · rw [if_pos q, Int.mul_one]
      obtain ⟨x, t, e, hx⟩ := fnB_waitP h hc hs hb hb2 q
      have := hw k hk (mg m 5 + 1 + mg m 2 - x + (ms m k).1 2) (b j) (by omega)
      unfold wfM
      rw [q, e]
      dsimp only
      omega
    · have q2 : fnB k (beginM (midM nS nC m)) = false := by
        cases hq : fnB k (beginM (midM nS nC m)) with
        | false => rfl
        | true => exact absurd hq q
      rw [if_neg q, Int.mul_zero]
      unfold wfM
      rw [q2]
      show ((0 : Nat) : Int) ≤ 0
      omega
  rw [sumN_mul] at a
  have c := Int.mul_le_mul_of_nonneg_left (fnB_sum (beginM (midM nS nC m)) nS) (show 0 ≤ (Wf (b j) : Int) by omega)
  omega
theorem wfT_le {nS nC : Nat} {m : MS} {b : Nat → Int} {wt : Nat → Int → Nat} {Wf : Int → Nat} (h4 : nS ≤ 4) (h : WP b 0 m) (hc : mg m 0 ≤ 60) (hs : 1 ≤ mg m 1 ∧ mg m 1 ≤ 20) (hb : ∀ i, 60 * mg m 1 + 18 ≤ b i) (hb2 : ∀ i, b (i + 1) ≤ b i) (hw : ∀ k, k < nS → ∀ d c : Int, d ≤ mg m 2 + (ms m k).1 2 + c → wt k d ≤ Wf c) : ∀ T : Nat, wfT wt nS nC T m ≤ wSb Wf b (fnT nS nC T m).toNat := by
  intro T
  induction T with
  | zero => exact Int.le_refl _
  | succ T ih =>
    have g0 := tkN_g (nS := nS) (nC := nC) (m := m) (i := 0) (by decide) (by decide) (by decide) (by decide) (by decide) (by decide) T
    have g1 := tkN_g (nS := nS) (nC := nC) (m := m) (i := 1) (by decide) (by decide) (by decide) (by decide) (by decide) (by decide) T
    have g2 := tkN_g (nS := nS) (nC := nC) (m := m) (i := 2) (by decide) (by decide) (by decide) (by decide) (by decide) (by decide) T
    have e2 : ∀ k, k < nS → (ms (tkN nS nC T m) k).1 2 = (ms m k).1 2 := by
      intro k hk
      clear ih g0 g1 g2
      induction T with
      | zero => rfl
      | succ T ih2 => exact (tick_s2 (nC := nC) hk h4).trans ih2
    have hT := h.run (nS := nS) (nC := nC) hc hs hb hb2 T
    rw [Nat.zero_add] at hT
    have a := wfM_le (nS := nS) (nC := nC) (wt := wt) (Wf := Wf) hT (by rw [g0]; exact hc) (by rw [g1]; exact hs) (by rw [g1]; exact hb) hb2 (fun k hk d c hd => hw k hk d c (by rw [g2, e2 k hk] at hd; exact hd))
    have f0 := fnT_0 (nS := nS) (nC := nC) (m := m) T
    have f1 := fiB_1 (beginM (midM nS nC (tkN nS nC T m)))
    have e : fnT nS nC (T + 1) m = fnT nS nC T m + fiB (beginM (midM nS nC (tkN nS nC T m))) := rfl
    have ew : wfT wt nS nC (T + 1) m = wfT wt nS nC T m + sumN (fun k => (wfM wt nS nC (tkN nS nC T m) k : Int)) nS := rfl
    rw [e, ew]
    rcases (show fiB (beginM (midM nS nC (tkN nS nC T m))) = 0 ∨ fiB (beginM (midM nS nC (tkN nS nC T m))) = 1 by omega) with q | q
    · rw [q, Int.mul_zero] at a
      rw [q, Int.add_zero]
      omega
    · rw [q, Int.mul_one] at a
      rw [q, show (fnT nS nC T m + 1).toNat = (fnT nS nC T m).toNat + 1 by omega]
      have : wSb Wf b ((fnT nS nC T m).toNat + 1) = wSb Wf b (fnT nS nC T m).toNat + Wf (b (fnT nS nC T m).toNat) := rfl
      rw [this]
      push_cast
      omega
theorem wSb_mono {Wf : Int → Nat} {b : Nat → Int} {n1 n2 : Nat} (h : n1 ≤ n2) : wSb Wf b n1 ≤ wSb Wf b n2 := by
  induction n2 with
  | zero =>
    have : n1 = 0 := by omega
    rw [this]
    exact Nat.le_refl _
  | succ n ih =>
    by_cases q : n1 = n + 1
    · rw [q]
      exact Nat.le_refl _
    · have := ih (by omega)
      show wSb Wf b n1 ≤ wSb Wf b n + Wf (b n)
      omega
