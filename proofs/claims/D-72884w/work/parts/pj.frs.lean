/-! Bounds, ledger by ages: the range of the delays over a run; levels and caps -/
section MLHF
variable {nS nC : Nat} {m : MS} {tq lo hi Bf : Nat → Int} {kk cS : Nat → Int} {W kp J1 B w1 w2 Wm F0 z0 H0 e0 gr w3 Q de Fc Rm : Int}
theorem MLh.own (h : MLh kk cS W kp J1 H0 de gr Rm Q nS m tq lo hi Bf) : ∀ k, k < nS → ∀ x ∈ own k m, x ≤ mg m 5 := by
  intro k hk x hx
  obtain ⟨g, th, ed, jg, ts, i, hon, hoff⟩ := h k hk
  by_cases q : (ms m k).1 3 = 0
  · exact ((hoff q).1.1.2.1.2.1 x hx).1
  · exact ((hon q).1.1.2.1.2.1 x hx).1
/-- over a run, the delays lie in the range -/
theorem MLh.frs (hP : LR kk cS W kp J1 B w1 w2 Wm F0 z0 H0 e0 gr w3 Q de Fc Rm) (hQ : 1320 ≤ Q) (h4 : nS ≤ 4) (h : MLh kk cS W kp J1 H0 de gr Rm Q nS m tq (fun k => (ms m k).1 2) (fun k => (ms m k).1 2 + 1320) Bf) (h0 : 0 ≤ mg m 5 + 1) (hR1 : 1 ≤ mg m 2 + mg m 3) (hR2 : mg m 2 + mg m 3 ≤ Rm) (hw : WQ m) (hq : QL m) (hc : mg m 0 ≤ 60) (hs : 1 ≤ mg m 1 ∧ mg m 1 ≤ 20) (hf : 0 ≤ mg m 2 ∧ mg m 2 ≤ 100) : ∀ T : Nat, (∀ k, k < nS → Bf k + T * (max 0 (128 - de) + 25 * gr) + 128 ≤ 25 * Fc) → ∀ i, i < T → (mq (tkN nS nC i m)).length ≤ 60 ∧ frOK nS nC (tkN nS nC i m) (fun k => (ms m k).1 2) (fun k => (ms m k).1 2 + 1320) := by
  have hg : 0 ≤ gr := hP.2.2.2.2.2.2.2.2.2.2.2.2.1
  have e2 : ∀ (T k : Nat), k < nS → (ms (tkN nS nC T m) k).1 2 = (ms m k).1 2 := by
    intro T
    induction T with
    | zero => intro k _; rfl
    | succ T ih => intro k hk; exact (tick_s2 (nC := nC) hk h4).trans (ih k hk)
  intro T
  induction T with
  | zero => intro _ i hi; exact absurd hi (Nat.not_lt_zero _)
  | succ T ih =>
    intro hT i hi
    have ex : (((T + 1 : Nat) : Nat) : Int) * (max 0 (128 - de) + 25 * gr) = (T : Int) * (max 0 (128 - de) + 25 * gr) + (max 0 (128 - de) + 25 * gr) := by
      push_cast
      rw [Int.add_mul, Int.one_mul]
    have hT2 : ∀ k, k < nS → Bf k + T * (max 0 (128 - de) + 25 * gr) + 128 ≤ 25 * Fc := fun k hk => by
      have := hT k hk
      rw [ex] at this
      omega
    have ih := ih hT2
    by_cases q : i < T
    · exact ih i q
    · have : i = T := by omega
      subst this
      obtain ⟨B2, hM, -, -⟩ := MLh.run (nC := nC) hP (fun k _ => by omega) h4 h h0 hR1 hR2 i hT2 ih
      have g0 := tkN_g (nS := nS) (nC := nC) (m := m) (i := 0) (by decide) (by decide) (by decide) (by decide) (by decide) (by decide) i
      have g1 := tkN_g (nS := nS) (nC := nC) (m := m) (i := 1) (by decide) (by decide) (by decide) (by decide) (by decide) (by decide) i
      have g2 := tkN_g (nS := nS) (nC := nC) (m := m) (i := 2) (by decide) (by decide) (by decide) (by decide) (by decide) (by decide) i
      refine ⟨hq.run (nS := nS) (nC := nC) hc i, ?_⟩
      have f := frOK_w (nC := nC) h4 (hw.run (nS := nS) (nC := nC) hc hs i) (by rw [g0]; exact hc) (by rw [g1]; exact hs) hM.own (by rw [g2]; exact hf)
      intro k hk hz x t hx
      have := f k hk hz x t hx
      dsimp only at this ⊢
      rw [e2 i k hk] at this ⊢
      exact this
theorem MLh.lev (hP : LR kk cS W kp J1 B w1 w2 Wm F0 z0 H0 e0 gr w3 Q de Fc Rm) (h : MLh kk cS W kp J1 H0 de gr Rm Q nS m tq lo hi Bf) : ∀ k, k < nS → (lvl (ms m k) : Int) * 6400 ≤ max 0 (Bf k) := by
  intro k hk
  have key := h.fl hP k hk
  have b : (wP (mW (ms m k)) : Int) * 256 ≤ max 0 (mW (ms m k)) := by
    unfold wP
    omega
  unfold lvl
  omega
/-- caps of the flights during a run -/
theorem MLh.caps (hP : LR kk cS W kp J1 B w1 w2 Wm F0 z0 H0 e0 gr w3 Q de Fc Rm) (hQ : ∀ k, k < nS → hi k - lo k ≤ Q) (h4 : nS ≤ 4) (h : MLh kk cS W kp J1 H0 de gr Rm Q nS m tq lo hi Bf) (h0 : 0 ≤ mg m 5 + 1) (hR1 : 1 ≤ mg m 2 + mg m 3) (hR2 : mg m 2 + mg m 3 ≤ Rm) {T : Nat} (hT : ∀ k, k < nS → Bf k + T * (max 0 (128 - de) + 25 * gr) + 128 ≤ 25 * Fc) (hf : ∀ i, i < T → (mq (tkN nS nC i m)).length ≤ 60 ∧ frOK nS nC (tkN nS nC i m) lo hi) : ∀ i, i ≤ T → ∀ k, k < nS → 6400 * (ms (tkN nS nC i m) k).1 5 ≤ Bf k + T * (max 0 (128 - de) + 25 * gr) := by
  intro i hi k hk
  have hg : 0 ≤ gr := hP.2.2.2.2.2.2.2.2.2.2.2.2.1
  have mono : (i : Int) * (max 0 (128 - de) + 25 * gr) ≤ T * (max 0 (128 - de) + 25 * gr) := Int.mul_le_mul_of_nonneg_right (by omega) (by omega)
  obtain ⟨B2, hM, hB2, -⟩ := MLh.run (nC := nC) hP hQ h4 h h0 hR1 hR2 i (fun k hk => by have := hT k hk; omega) (fun j hj => hf j (by omega))
  have a := (hM.fl hP k hk).1
  have b := (hB2 k hk).2
  omega
end MLHF
