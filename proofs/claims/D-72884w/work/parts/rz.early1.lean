/-! Bounds, ledger by ages: one sender alone, low levels -/
def ME1 (gr w3 Rm Q : Int) (m : MS) (tq lo hi : Int) (k : Nat) (Bk : Int) : Prop := ∃ g th ed jg ts i, ((ms m k).1 3 ≠ 0 → LHe gr w3 Rm (mg m 5) (mg m 3 - (ms m k).1 2) (mg m 2 + (ms m k).1 2) tq (mg m 2 + mg m 3) lo hi th ed jg ts (4194304 * Q) i (vwK k m) g Bk) ∧ ((ms m k).1 3 = 0 → LHo Rm (mg m 5) (mg m 3 - (ms m k).1 2) (mg m 2 + (ms m k).1 2) tq (mg m 2 + mg m 3) lo hi ed jg ts (4194304 * Q) i (vwK k m) g Bk)
theorem MLe.one {nS : Nat} {m : MS} {tq lo hi Bf : Nat → Int} {gr w3 Rm Q : Int} (h : MLe gr w3 Rm Q nS m tq lo hi Bf) {k : Nat} (hk : k < nS) : ME1 gr w3 Rm Q m (tq k) (lo k) (hi k) k (Bf k) := h k hk
theorem MLe.all {nS : Nat} {m : MS} {tq lo hi Bf : Nat → Int} {gr w3 Rm Q : Int} (h : ∀ k, k < nS → ME1 gr w3 Rm Q m (tq k) (lo k) (hi k) k (Bf k)) : MLe gr w3 Rm Q nS m tq lo hi Bf := h
section ME1S
variable {nS nC k : Nat} {m : MS} {tq lo hi : Nat → Int} {Bk : Int} {gr w3 Q Rm : Int}
theorem ME1.mono {B2 tq1 lo1 hi1 : Int} (h : ME1 gr w3 Rm Q m tq1 lo1 hi1 k Bk) (hB : Bk ≤ B2) : ME1 gr w3 Rm Q m tq1 lo1 hi1 k B2 := by
  obtain ⟨g, th, ed, jg, ts, i, h1, h2⟩ := h
  exact ⟨g, th, ed, jg, ts, i, fun q => (h1 q).mono hB, fun q => (h2 q).mono hB⟩
theorem ME1.fl {tq1 lo1 hi1 : Int} (hP : LEn gr w3 Q) (h : ME1 gr w3 Rm Q m tq1 lo1 hi1 k Bk) : 6400 * (ms m k).1 5 ≤ Bk ∧ 25 * mW (ms m k) ≤ Bk := by
  obtain ⟨g, th, ed, jg, ts, i, h1, h2⟩ := h
  by_cases q : (ms m k).1 3 = 0
  · exact (h2 q).fl
  · exact ((h1 q).fl hP).2
theorem ME1.tick (hP : LEn gr w3 Q) (hk : k < nS) (hRm2 : Rm ≤ 200) (hQ : hi k - lo k ≤ Q) (h4 : nS ≤ 4) (h : ME1 gr w3 Rm Q m (tq k) (lo k) (hi k) k Bk) (h0 : 0 ≤ mg m 5 + 1) (hq : (mq m).length ≤ 60) (hR1 : 1 ≤ mg m 2 + mg m 3) (hR2 : mg m 2 + mg m 3 ≤ Rm) (hf : frOK nS nC m lo hi) : ME1 gr w3 Rm Q (tickM nS nC m) (tq k) (lo k) (hi k) k (bT1 nS nC m 0 gr k Bk) := by
  obtain ⟨g, th, ed, jg, ts, i, hon, hoff⟩ := h
  obtain ⟨bs, z, h1, h2, h3, h5, h6, h7⟩ := tick_vo (nC := nC) hk h4 (m := m)
  have e2 := tick_s2 (nC := nC) hk h4 (m := m)
  have e3 := tick_s3 (nC := nC) hk h4 (m := m)
  have g2 := tick_g (nS := nS) (nC := nC) (m := m) (i := 2) (by decide) (by decide) (by decide) (by decide) (by decide) (by decide)
  have g3 := tick_g (nS := nS) (nC := nC) (m := m) (i := 3) (by decide) (by decide) (by decide) (by decide) (by decide) (by decide)
  have g5 := tick_g5 (nS := nS) (nC := nC) (m := m)
  have hr : z = true → ∀ x t, (sndV (mg m 5 + 1) (mg m 5 + 1 + mg m 2 + mg m 3) k bs (slowM (hndV (mg m 5 + 1) (vwK k m)).1 (mg m 5 + 1) (mg m 4), (hndV (mg m 5 + 1) (vwK k m)).2)).2.1 = x :: t → lo k ≤ mg m 5 + 1 + mg m 2 - x + (vwK k m).1.1 2 ∧ mg m 5 + 1 + mg m 2 - x + (vwK k m).1.1 2 ≤ hi k := by
    intro hz x t hx
    rw [h7] at hx
    rw [h5] at hz
    exact hf k hk hz x t hx
  have ho : (vwK k m).2.1.length ≤ 61 := by
    have := own_len (k := k) (m := m)
    show (own k m).length ≤ 61
    omega
  have ef : (fnB k (beginM (midM nS nC m)) = true) = (z = true) := by rw [h5]
  have hg : 0 ≤ gr := hP.2.1
  by_cases q : (ms m k).1 3 = 0
  · obtain ⟨g9, ed9, jg9, i9, h9⟩ := LHo.tick2 (iv := mg m 4) (hoff q) q h0 hR2 rfl rfl rfl hR1 (by omega) hRm2 hQ hP.1 rfl h1 h6 hr
    rw [← h2] at h9
    refine ⟨g9, 0, ed9, jg9, ts, i9, fun y => absurd q (by rw [← e3]; exact y), fun _ => ?_⟩
    rw [g2, g3, g5, e2]
    refine h9.mono ?_
    unfold bT1
    split <;> omega
  · obtain ⟨g9, th9, ed9, jg9, ts9, i9, h9⟩ := LHe.tick (iv := mg m 4) hP (by omega) hRm2 hQ rfl (hon q) q ho h0 hR2 rfl rfl rfl hR1 h1 h3 h6 hr
    rw [← h2] at h9
    refine ⟨g9, th9, ed9, jg9, ts9, i9, fun _ => ?_, fun y => absurd (by rw [← e3]; exact y) q⟩
    rw [g2, g3, g5, e2]
    refine h9.mono ?_
    unfold bT1
    simp only [ef]
    omega
/-- other numbers: a slower growth from a higher window on -/
theorem ME1.step {gr2 w32 tq1 lo1 hi1 : Int} (h : ME1 gr w3 Rm Q m tq1 lo1 hi1 k Bk) (hg : gr2 ≤ gr) (hB : bmE gr2 w32 ≤ Bk) : ME1 gr2 w32 Rm Q m tq1 lo1 hi1 k Bk := by
  obtain ⟨g, th, ed, jg, ts, i, h1, h2⟩ := h
  refine ⟨g, th, ed, jg, ts, i, fun q => ?_, h2⟩
  obtain ⟨a1, a2, a3, a4, a5, a6, a7, a8⟩ := h1 q
  refine ⟨a1, a2, a3, a4, a5, a6, ?_, hB⟩
  have b : gr2 * (aNl (vwK k m).2.2 : Int) ≤ gr * (aNl (vwK k m).2.2 : Int) := Int.mul_le_mul_of_nonneg_right hg (by omega)
  unfold OE at a7 ⊢
  omega
theorem ME1.run (hP : LEn gr w3 Q) (hk : k < nS) (hRm2 : Rm ≤ 200) (hQ : hi k - lo k ≤ Q) (h4 : nS ≤ 4) (h : ME1 gr w3 Rm Q m (tq k) (lo k) (hi k) k Bk) (h0 : 0 ≤ mg m 5 + 1) (hR1 : 1 ≤ mg m 2 + mg m 3) (hR2 : mg m 2 + mg m 3 ≤ Rm) : ∀ T : Nat, (∀ i, i < T → (mq (tkN nS nC i m)).length ≤ 60 ∧ frOK nS nC (tkN nS nC i m) lo hi) → ME1 gr w3 Rm Q (tkN nS nC T m) (tq k) (lo k) (hi k) k (Bk + T * 128 + 25 * (gr * fnK nS nC k T m)) := by
  intro T
  induction T with
  | zero =>
    intro _
    have e : fnK nS nC k 0 m = 0 := rfl
    rw [e]
    refine ME1.mono h ?_
    simp
  | succ T ih =>
    intro hf
    have et : tkN nS nC (T + 1) m = tickM nS nC (tkN nS nC T m) := rfl
    have ef : fnK nS nC k (T + 1) m = fnK nS nC k T m + (if fnB k (beginM (midM nS nC (tkN nS nC T m))) = true then 1 else 0) := rfl
    have e1 : gr * fnK nS nC k (T + 1) m = gr * fnK nS nC k T m + (if fnB k (beginM (midM nS nC (tkN nS nC T m))) = true then gr else 0) := by
      rw [ef, Int.mul_add]
      split <;> omega
    rw [e1]
    have hM := ih (fun i hi => hf i (by omega))
    have hfT := hf T (by omega)
    have g2 := tkN_g (nS := nS) (nC := nC) (m := m) (i := 2) (by decide) (by decide) (by decide) (by decide) (by decide) (by decide) T
    have g3 := tkN_g (nS := nS) (nC := nC) (m := m) (i := 3) (by decide) (by decide) (by decide) (by decide) (by decide) (by decide) T
    have g5 := tkN_5 (nS := nS) (nC := nC) (m := m) T
    rw [et]
    have hM3 := ME1.tick (nC := nC) hP hk hRm2 hQ h4 hM (by rw [g5]; omega) hfT.1 (by rw [g2, g3]; exact hR1) (by rw [g2, g3]; exact hR2) hfT.2
    refine hM3.mono ?_
    unfold bT1
    push_cast
    split <;> omega
end ME1S
