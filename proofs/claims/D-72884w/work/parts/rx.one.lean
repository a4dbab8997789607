/-! Bounds, ledger by ages: one sender alone, with its own numbers -/
def ML1 (kk cS : Nat → Int) (W kp J1 H0 de gr Rm Q : Int) (m : MS) (tq lo hi : Int) (k : Nat) (Bk : Int) : Prop := ∃ g th ed jg ts i, ((ms m k).1 3 ≠ 0 → LHv kk cS W kp J1 H0 de gr Rm (mg m 5) (mg m 3 - (ms m k).1 2) (mg m 2 + (ms m k).1 2) tq (mg m 2 + mg m 3) lo hi th ed jg ts (4194304 * Q) i (vwK k m) g Bk) ∧ ((ms m k).1 3 = 0 → LHo Rm (mg m 5) (mg m 3 - (ms m k).1 2) (mg m 2 + (ms m k).1 2) tq (mg m 2 + mg m 3) lo hi ed jg ts (4194304 * Q) i (vwK k m) g Bk)
theorem MLh.one {nS : Nat} {m : MS} {tq lo hi Bf : Nat → Int} {kk cS : Nat → Int} {W kp J1 H0 de gr Rm Q : Int} (h : MLh kk cS W kp J1 H0 de gr Rm Q nS m tq lo hi Bf) {k : Nat} (hk : k < nS) : ML1 kk cS W kp J1 H0 de gr Rm Q m (tq k) (lo k) (hi k) k (Bf k) := h k hk
theorem MLh.all {nS : Nat} {m : MS} {tq lo hi Bf : Nat → Int} {kk cS : Nat → Int} {W kp J1 H0 de gr Rm Q : Int} (h : ∀ k, k < nS → ML1 kk cS W kp J1 H0 de gr Rm Q m (tq k) (lo k) (hi k) k (Bf k)) : MLh kk cS W kp J1 H0 de gr Rm Q nS m tq lo hi Bf := h
def bT1 (nS nC : Nat) (m : MS) (de gr : Int) (k : Nat) (Bk : Int) : Int := Bk + max 0 (128 - de) + (if fnB k (beginM (midM nS nC m)) = true then 25 * gr else 0)
section ML1S
variable {nS nC k : Nat} {m : MS} {tq lo hi : Nat → Int} {Bk : Int} {kk cS : Nat → Int} {W kp J1 B w1 w2 Wm F0 z0 H0 e0 gr w3 Q de Fc Rm : Int}
theorem ML1.mono {B2 tq1 lo1 hi1 : Int} (h : ML1 kk cS W kp J1 H0 de gr Rm Q m tq1 lo1 hi1 k Bk) (hB : Bk ≤ B2) : ML1 kk cS W kp J1 H0 de gr Rm Q m tq1 lo1 hi1 k B2 := by
  obtain ⟨g, th, ed, jg, ts, i, h1, h2⟩ := h
  exact ⟨g, th, ed, jg, ts, i, fun q => (h1 q).mono hB, fun q => (h2 q).mono hB⟩
theorem ML1.fl {tq1 lo1 hi1 : Int} (hP : LR kk cS W kp J1 B w1 w2 Wm F0 z0 H0 e0 gr w3 Q de Fc Rm) (h : ML1 kk cS W kp J1 H0 de gr Rm Q m tq1 lo1 hi1 k Bk) : 6400 * (ms m k).1 5 ≤ Bk ∧ 25 * mW (ms m k) ≤ Bk := by
  obtain ⟨g, th, ed, jg, ts, i, h1, h2⟩ := h
  by_cases q : (ms m k).1 3 = 0
  · exact (h2 q).fl
  · exact (h1 q).fl hP
theorem ML1.tick (hP : LR kk cS W kp J1 B w1 w2 Wm F0 z0 H0 e0 gr w3 Q de Fc Rm) (hk : k < nS) (hQ : hi k - lo k ≤ Q) (h4 : nS ≤ 4) (h : ML1 kk cS W kp J1 H0 de gr Rm Q m (tq k) (lo k) (hi k) k Bk) (hF : Bk + 128 ≤ 25 * Fc) (h0 : 0 ≤ mg m 5 + 1) (hq : (mq m).length ≤ 60) (hR1 : 1 ≤ mg m 2 + mg m 3) (hR2 : mg m 2 + mg m 3 ≤ Rm) (hf : frOK nS nC m lo hi) : ML1 kk cS W kp J1 H0 de gr Rm Q (tickM nS nC m) (tq k) (lo k) (hi k) k (bT1 nS nC m de gr k Bk) := by
  obtain ⟨g, th, ed, jg, ts, i, hon, hoff⟩ := h
  obtain ⟨bs, z, h1, h2, h3, h5, h6, h7⟩ := tick_vo (nC := nC) hk h4 (m := m)
  have e2 := tick_s2 (nC := nC) hk h4 (m := m)
  have e3 := tick_s3 (nC := nC) hk h4 (m := m)
  have g2 := tick_g (nS := nS) (nC := nC) (m := m) (i := 2) (by decide) (by decide) (by decide) (by decide) (by decide) (by decide)
  have g3 := tick_g (nS := nS) (nC := nC) (m := m) (i := 3) (by decide) (by decide) (by decide) (by decide) (by decide) (by decide)
  have g5 := tick_g5 (nS := nS) (nC := nC) (m := m)
  have hr : z = true → ∀ x t, (sndV (mg m 5 + 1) (mg m 5 + 1 + mg m 2 + mg m 3) k bs (slowM (hndV (mg m 5 + 1) (vwK k m)).1 (mg m 5 + 1) (mg m 4), (hndV (mg m 5 + 1) (vwK k m)).2)).2.1 = x :: t → lo k ≤ mg m 5 + 1 + mg m 2 - x + (vwK k m).1.1 2 ∧ mg m 5 + 1 + mg m 2 - x + (vwK k m).1.1 2 ≤ hi k := by
    intro hz x t hx
    rw [h7] at hx
    rw [h5] at hz
    exact hf k hk hz x t hx
  have ho : (vwK k m).2.1.length ≤ 61 := by
    have := own_len (k := k) (m := m)
    show (own k m).length ≤ 61
    omega
  have ef : (fnB k (beginM (midM nS nC m)) = true) = (z = true) := by rw [h5]
  have hg : 0 ≤ gr := hP.2.2.2.2.2.2.2.2.2.2.2.2.1
  by_cases q : (ms m k).1 3 = 0
  · obtain ⟨g9, ed9, jg9, i9, h9⟩ := LHo.tick (iv := mg m 4) (hoff q) q h0 hR2 rfl rfl rfl hR1 hP hQ rfl h1 h6 hr
    rw [← h2] at h9
    refine ⟨g9, 0, ed9, jg9, ts, i9, fun y => absurd q (by rw [← e3]; exact y), fun _ => ?_⟩
    rw [g2, g3, g5, e2]
    refine h9.mono ?_
    unfold bT1
    split <;> omega
  · obtain ⟨g9, th9, ed9, jg9, ts9, i9, h9⟩ := LHv.tick (iv := mg m 4) hP hQ rfl (hon q) q ho h0 hF hR2 rfl rfl rfl hR1 h1 h3 h6 hr
    rw [← h2] at h9
    refine ⟨g9, th9, ed9, jg9, ts9, i9, fun _ => ?_, fun y => absurd (by rw [← e3]; exact y) q⟩
    rw [g2, g3, g5, e2]
    refine h9.mono ?_
    unfold bT1
    simp only [ef]
    omega
/-- other numbers -/
theorem ML1.step {kp2 B2 w12 w22 Wm2 F02 z02 H02 e02 gr2 w32 de2 Fc2 tq1 lo1 hi1 : Int} (hP : LR kk cS W kp J1 B w1 w2 Wm F0 z0 H0 e0 gr w3 Q de Fc Rm) (hP2 : LR kk cS W kp2 J1 B2 w12 w22 Wm2 F02 z02 H02 e02 gr2 w32 Q de2 Fc2 Rm) (h : ML1 kk cS W kp J1 H0 de gr Rm Q m tq1 lo1 hi1 k Bk) (hk : kp ≤ kp2) (hg : gr2 ≤ gr) (hd : de ≤ de2) (hB : bmA cS H02 de2 gr2 Rm ≤ Bk + 25 * (kp2 - kp) + (de2 - de) * (2 * Rm + 62)) (hn : 0 ≤ Rm) : ML1 kk cS W kp2 J1 H02 de2 gr2 Rm Q m tq1 lo1 hi1 k (Bk + 25 * (kp2 - kp) + (de2 - de) * (2 * Rm + 62) + 3 * W) := by
  obtain ⟨g, th, ed, jg, ts, i, h1, h2⟩ := h
  have hW : 0 ≤ W := hP.2.2.2.2.2.2.2.2.1
  have a0 : 0 ≤ (de2 - de) * (2 * Rm + 62) := Int.mul_nonneg (by omega) (by omega)
  refine ⟨g, th, ed, jg, ts, i, fun q => ?_, fun q => (h2 q).mono (by omega)⟩
  have a := LHv.step hP hP2 (h1 q) hk hg hd hB
  refine a.mono ?_
  have b : wcP (mg m 5) tq1 jg ≤ 3 := wc_3
  have c : W * wcP (mg m 5) tq1 jg ≤ W * 3 := Int.mul_le_mul_of_nonneg_left b hW
  omega
/-- packets of the k-th sender finished in T ticks -/
def fnK (nS nC k : Nat) : Nat → MS → Int
  | 0, _ => 0
  | n + 1, m => fnK nS nC k n m + (if fnB k (beginM (midM nS nC (tkN nS nC n m))) = true then 1 else 0)
theorem fnK_0 : ∀ T : Nat, 0 ≤ fnK nS nC k T m := by
  intro T
  induction T with
  | zero => exact Int.le_refl _
  | succ n ih =>
    show 0 ≤ fnK nS nC k n m + _
    split <;> omega
theorem fnK_sum : ∀ T : Nat, sumN (fun k => fnK nS nC k T m) nS ≤ fnT nS nC T m := by
  intro T
  induction T with
  | zero =>
    show sumN (fun _ => (0 : Int)) nS ≤ 0
    have := sumN_c (c := (0 : Int)) nS
    omega
  | succ n ih =>
    show sumN (fun k => fnK nS nC k n m + (if fnB k (beginM (midM nS nC (tkN nS nC n m))) = true then 1 else 0)) nS ≤ fnT nS nC n m + fiB _
    have e := sumN_add (f := fun k => fnK nS nC k n m) (g := fun k => if fnB k (beginM (midM nS nC (tkN nS nC n m))) = true then (1 : Int) else 0) nS
    have := fnB_sum (beginM (midM nS nC (tkN nS nC n m))) nS
    omega
end ML1S
