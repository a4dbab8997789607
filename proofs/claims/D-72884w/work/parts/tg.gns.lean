/-! Bounds: all senders' ghosts with ND; mode H's entry for all senders; from the general mode to mode H -/
def GNS (nS : Nat) (m : MS) (lo1 lo2 hi : Nat → Int) : Prop := ∀ k, k < nS → ∃ g, GNb (mg m 5) (mg m 3 - (ms m k).1 2) (mg m 2 + (ms m k).1 2) (mg m 2 + mg m 3) (lo1 k) (lo2 k) (hi k) (vwK k m) g ∧ ((ms m k).1 11 ≠ -1 → mg m 5 < (ms m k).1 11)
section GNSS
variable {nS nC : Nat} {m : MS} {lo1 lo2 hi : Nat → Int}
theorem GNS.gs (h : GNS nS m lo1 lo2 hi) : GS nS m lo1 lo2 hi := by
  intro k hk
  obtain ⟨g, hI, hs⟩ := h k hk
  exact ⟨g, hI.1, hs⟩
theorem GNS.tick (h4 : nS ≤ 4) (h : GNS nS m lo1 lo2 hi) (h0 : 0 ≤ mg m 5 + 1) (hnow : mg m 5 + 1 ≤ tqB) (hR1 : 1 ≤ mg m 2 + mg m 3) (hf : frOK nS nC m lo2 hi) : GNS nS (tickM nS nC m) lo1 lo2 hi := by
  intro k hk
  obtain ⟨g, hI, hs⟩ := h k hk
  obtain ⟨bs, z, h1, h2, h3, h5, h6, h7⟩ := tick_vo (nC := nC) hk h4 (m := m)
  obtain ⟨g2, G2⟩ := GNb.tick (iv := mg m 4) hI h0 hnow hR1 rfl rfl rfl h1 h6 (fun hz x t hx => by
    rw [h7] at hx
    rw [h5] at hz
    exact hf k hk hz x t hx)
  have e2' := tick_s2 (nC := nC) hk h4 (m := m)
  have e11 : (ms (tickM nS nC m) k).1 11 = (slowM (hndV (mg m 5 + 1) (vwK k m)).1 (mg m 5 + 1) (mg m 4)).1 11 := by
    have : (vwK k (tickM nS nC m)).1.1 11 = (slowM (hndV (mg m 5 + 1) (vwK k m)).1 (mg m 5 + 1) (mg m 4)).1 11 := by
      rw [h2, fin_s, snd_o (by decide) (by decide)]
    exact this
  rw [← h2] at G2
  refine ⟨g2, ?_, ?_⟩
  · rw [tick_g5, tick_g (by decide) (by decide) (by decide) (by decide) (by decide) (by decide), tick_g (by decide) (by decide) (by decide) (by decide) (by decide) (by decide), e2']
    exact G2
  · rw [e11, tick_g5]
    exact slow_now
/-- every sender in mode H, or unsent since t0 -/
def MW (nS : Nat) (m : MS) (lo hi : Nat → Int) (q t0 : Int) : Prop := ∀ k, k < nS → ∃ g, HWb (mg m 5) (mg m 3 - (ms m k).1 2) (mg m 2 + (ms m k).1 2) (mg m 2 + mg m 3) (lo k) (hi k) q t0 (vwK k m) g
theorem MW.start {lo : Nat → Int} {q : Int} (h : GNS nS m lo lo hi) (hl : ∀ k, k < nS → lsB (vwK k m).2.2 (mg m 5 + (mg m 2 + mg m 3))) : MW nS m lo hi q (mg m 5) := by
  intro k hk
  obtain ⟨g, ⟨⟨hG, hp, hg⟩, hND⟩, -⟩ := h k hk
  exact ⟨g, Or.inr ⟨⟨hG, hND⟩, hl k hk⟩, hp, hl k hk, hg⟩
variable {lo : Nat → Int} {K q w t0 : Int} {X X2 C w1 : Nat} {y : Nat → Int}
theorem MW.tick (hP : PHs K q X X2 C w1 w) (hK : ∀ k, k < nS → hi k - lo k + 1 ≤ K) (hq : ∀ k, k < nS → hi k - lo k ≤ q) (h4 : nS ≤ 4) (h : MW nS m lo hi q t0) (h0 : 0 ≤ mg m 5 + 1) (hnow : mg m 5 + 1 ≤ tqB) (hR : mg m 2 + mg m 3 ≤ 60) (hR1 : 1 ≤ mg m 2 + mg m 3) (hf : frOK nS nC m lo hi) : MW nS (tickM nS nC m) lo hi q t0 := by
  intro k hk
  obtain ⟨g, hI⟩ := h k hk
  obtain ⟨bs, z, h1, h2, h3, h5, h6, h7⟩ := tick_vo (nC := nC) hk h4 (m := m)
  obtain ⟨g2, hI2⟩ := HWb.tick (iv := mg m 4) hP (hK k hk) (hq k hk) hI h0 hnow hR rfl rfl rfl h1 h6 (fun hz x t hx => by
    rw [h7] at hx
    rw [h5] at hz
    exact hf k hk hz x t hx) hR1
  rw [← h2] at hI2
  have e2 := tick_s2 (nC := nC) hk h4 (m := m)
  refine ⟨g2, ?_⟩
  rw [tick_g5, tick_g (by decide) (by decide) (by decide) (by decide) (by decide) (by decide), tick_g (by decide) (by decide) (by decide) (by decide) (by decide) (by decide), e2]
  exact hI2
theorem MW.run (hP : PHs K q X X2 C w1 w) (hK : ∀ k, k < nS → hi k - lo k + 1 ≤ K) (hq : ∀ k, k < nS → hi k - lo k ≤ q) (h4 : nS ≤ 4) (h : MW nS m lo hi q t0) (h0 : 0 ≤ mg m 5 + 1) (hR : mg m 2 + mg m 3 ≤ 60) (hR1 : 1 ≤ mg m 2 + mg m 3) : ∀ T : Nat, mg m 5 + T ≤ tqB → (∀ i, i < T → frOK nS nC (tkN nS nC i m) lo hi) → MW nS (tkN nS nC T m) lo hi q t0 := by
  intro T
  induction T with
  | zero =>
    intro _ _
    exact h
  | succ T ih =>
    intro hT hf
    have hM := ih (by omega) (fun i hi => hf i (by omega))
    have g2 := tkN_g (nS := nS) (nC := nC) (m := m) (i := 2) (by decide) (by decide) (by decide) (by decide) (by decide) (by decide) T
    have g3 := tkN_g (nS := nS) (nC := nC) (m := m) (i := 3) (by decide) (by decide) (by decide) (by decide) (by decide) (by decide) T
    have g5 := tkN_5 (nS := nS) (nC := nC) (m := m) T
    exact hM.tick (nC := nC) hP hK hq h4 (by rw [g5]; omega) (by rw [g5]; omega) (by rw [g2, g3]; exact hR) (by rw [g2, g3]; exact hR1) (hf T (by omega))
/-- R ticks behind t0 -/
theorem MW.late (h : MW nS m lo hi q t0) (ht : t0 + (mg m 2 + mg m 3) ≤ mg m 5) : ∀ k, k < nS → ∃ g j, HBb (mg m 5) (mg m 3 - (ms m k).1 2) (mg m 2 + (ms m k).1 2) (mg m 2 + mg m 3) (lo k) (hi k) q (vwK k m) g j := by
  intro k hk
  obtain ⟨g, hI, hp, hl, hg⟩ := h k hk
  rcases hI with ⟨j, hI⟩ | hI
  · exact ⟨g, j, hI, hp, hl, hg⟩
  · exact ⟨g, _, hI.late hp ht, hp, hl, hg⟩
/-- mode H from the potential alone; the clocks anew -/
theorem MHn.start {p a : Nat → Nat} (h : MW nS m lo hi q t0) (ht : t0 + (mg m 2 + mg m 3) ≤ mg m 5) (hw : 0 ≤ w) (hR1 : 1 ≤ mg m 2 + mg m 3) (hs : ∀ k, k < nS → (ms m k).1 11 ≠ -1 → mg m 5 < (ms m k).1 11) (hp : ∀ k, k < nS → PV (vwK k m) ≤ p k) (ha : ∀ k, k < nS → aNl (vwK k m).2.2 ≤ a k) : MHn nS m lo hi q w (fun k => 61 * ((mg m 2 + mg m 3) * ((p k : Int) + w * 8 + 5 * (a k : Int))) + 61 * ((mg m 2 + mg m 3) - 1) + 60 * (mg m 2 + mg m 3)) := by
  intro k hk
  obtain ⟨g, j, hI⟩ := h.late ht k hk
  have hsk := hs k hk
  have hpk := hp k hk
  have hak := ha k hk
  have hV := hI.1.1.1
  have hp1 := hI.2.1
  generalize mg m 2 + mg m 3 = R at *
  refine ⟨g, j, mg m 5 + 1 - R, mg m 5 - 60, ⟨hI, fun n hn _ _ => by have := hp1 n hn; omega, by omega, by omega, fun z => ?_, fun _ => Or.inr (by omega)⟩, ?_⟩
  · have z : (ms m k).1 11 ≠ -1 := z
    have b := hsk z
    show mg m 5 - 60 + 60 ≤ (ms m k).1 11
    omega
  · have nu := nuB_le hV.2.2.1
    have c : w * (nuB (mg m 5) g.2.1 : Int) ≤ w * 8 := Int.mul_le_mul_of_nonneg_left (by omega) hw
    have d : hPHv w (mg m 5) (vwK k m) g ≤ (p k : Int) + w * 8 + 5 * (a k : Int) := by
      show ((PV (vwK k m) : Nat) : Int) + w * (nuB (mg m 5) g.2.1 : Int) + 5 * (aNl (vwK k m).2.2 : Int) ≤ _
      omega
    have e := Int.mul_le_mul_of_nonneg_left d (show 0 ≤ R by omega)
    unfold hY
    have e1 : mg m 5 - (mg m 5 + 1 - R) = R - 1 := by omega
    have e2 : mg m 5 - (mg m 5 - 60) = 60 := by omega
    rw [e1, e2]
    dsimp only
    omega
end GNSS
