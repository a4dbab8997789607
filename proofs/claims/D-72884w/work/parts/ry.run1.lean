/-! Bounds, ledger by ages: one sender alone over a run; pieces of a run -/
section ML1R
variable {nS nC k : Nat} {m : MS} {tq lo hi : Nat → Int} {Bk : Int} {kk cS : Nat → Int} {W kp J1 B w1 w2 Wm F0 z0 H0 e0 gr w3 Q de Fc Rm : Int}
theorem fnK_le : ∀ T : Nat, fnK nS nC k T m ≤ T := by
  intro T
  induction T with
  | zero => exact Int.le_refl _
  | succ n ih =>
    show fnK nS nC k n m + _ ≤ _
    push_cast
    split <;> omega
theorem ML1.run (hP : LR kk cS W kp J1 B w1 w2 Wm F0 z0 H0 e0 gr w3 Q de Fc Rm) (hk : k < nS) (hQ : hi k - lo k ≤ Q) (h4 : nS ≤ 4) (h : ML1 kk cS W kp J1 H0 de gr Rm Q m (tq k) (lo k) (hi k) k Bk) (h0 : 0 ≤ mg m 5 + 1) (hR1 : 1 ≤ mg m 2 + mg m 3) (hR2 : mg m 2 + mg m 3 ≤ Rm) : ∀ T : Nat, Bk + T * max 0 (128 - de) + 25 * (gr * fnK nS nC k T m) + 128 ≤ 25 * Fc → (∀ i, i < T → (mq (tkN nS nC i m)).length ≤ 60 ∧ frOK nS nC (tkN nS nC i m) lo hi) → ML1 kk cS W kp J1 H0 de gr Rm Q (tkN nS nC T m) (tq k) (lo k) (hi k) k (Bk + T * max 0 (128 - de) + 25 * (gr * fnK nS nC k T m)) := by
  have hg : 0 ≤ gr := hP.2.2.2.2.2.2.2.2.2.2.2.2.1
  intro T
  induction T with
  | zero =>
    intro _ _
    have e : fnK nS nC k 0 m = 0 := rfl
    rw [e]
    refine ML1.mono h ?_
    simp
  | succ T ih =>
    intro hT hf
    have et : tkN nS nC (T + 1) m = tickM nS nC (tkN nS nC T m) := rfl
    have ef : fnK nS nC k (T + 1) m = fnK nS nC k T m + (if fnB k (beginM (midM nS nC (tkN nS nC T m))) = true then 1 else 0) := rfl
    have e2 : (((T + 1 : Nat) : Nat) : Int) * max 0 (128 - de) = (T : Int) * max 0 (128 - de) + max 0 (128 - de) := by
      push_cast
      rw [Int.add_mul, Int.one_mul]
    have e1 : gr * fnK nS nC k (T + 1) m = gr * fnK nS nC k T m + (if fnB k (beginM (midM nS nC (tkN nS nC T m))) = true then gr else 0) := by
      rw [ef, Int.mul_add]
      split <;> omega
    have hm : 0 ≤ max 0 (128 - de) := by omega
    rw [e1, e2] at hT ⊢
    have hle : Bk + (T : Int) * max 0 (128 - de) + 25 * (gr * fnK nS nC k T m) + 128 ≤ 25 * Fc := by
      split at hT <;> omega
    have hM := ih hle (fun i hi => hf i (by omega))
    have hfT := hf T (by omega)
    have g2 := tkN_g (nS := nS) (nC := nC) (m := m) (i := 2) (by decide) (by decide) (by decide) (by decide) (by decide) (by decide) T
    have g3 := tkN_g (nS := nS) (nC := nC) (m := m) (i := 3) (by decide) (by decide) (by decide) (by decide) (by decide) (by decide) T
    have g5 := tkN_5 (nS := nS) (nC := nC) (m := m) T
    rw [et]
    have hM3 := ML1.tick (nC := nC) hP hk hQ h4 hM hle (by rw [g5]; omega) hfT.1 (by rw [g2, g3]; exact hR1) (by rw [g2, g3]; exact hR2) hfT.2
    refine hM3.mono ?_
    unfold bT1
    split <;> omega
theorem fnK_add : ∀ b a : Nat, fnK nS nC k (a + b) m = fnK nS nC k a m + fnK nS nC k b (tkN nS nC a m) := by
  intro b
  induction b with
  | zero =>
    intro a
    show fnK nS nC k a m = fnK nS nC k a m + 0
    omega
  | succ b ih =>
    intro a
    have e : ∀ c d : Nat, tkN nS nC d (tkN nS nC c m) = tkN nS nC (c + d) m := by
      intro c d
      induction d with
      | zero => rfl
      | succ d jh =>
        show tickM nS nC (tkN nS nC d (tkN nS nC c m)) = tickM nS nC (tkN nS nC (c + d) m)
        rw [jh]
    have q1 : fnK nS nC k (a + (b + 1)) m = fnK nS nC k (a + b) m + (if fnB k (beginM (midM nS nC (tkN nS nC (a + b) m))) = true then 1 else 0) := rfl
    have q2 : fnK nS nC k (b + 1) (tkN nS nC a m) = fnK nS nC k b (tkN nS nC a m) + (if fnB k (beginM (midM nS nC (tkN nS nC b (tkN nS nC a m)))) = true then 1 else 0) := rfl
    rw [q1, q2, ih a, e a b, Int.add_assoc]
end ML1R
