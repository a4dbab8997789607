/-! Bounds, mode H with unsent ones: all senders, a run, the start, what it becomes -/
def MHX (nS : Nat) (m : MS) (lo hi : Nat → Int) (q w t0 : Int) (Λ : Nat → Nat) (y : Nat → Int) : Prop := ∀ k, k < nS → HX (mg m 5) (mg m 3 - (ms m k).1 2) (mg m 2 + (ms m k).1 2) (mg m 2 + mg m 3) (lo k) (hi k) q t0 w (Λ k) (vwK k m) (y k)
section MHXS
variable {nS nC : Nat} {m : MS} {lo hi : Nat → Int} {K q w t0 : Int} {X X2 C w1 : Nat} {y : Nat → Int} {Λ : Nat → Nat}
theorem MHX.tick (hP : PHs K q X X2 C w1 w) (hK : ∀ k, k < nS → hi k - lo k + 1 ≤ K) (hq : ∀ k, k < nS → hi k - lo k ≤ q) (h4 : nS ≤ 4) (h : MHX nS m lo hi q w t0 Λ y) (h0 : 0 ≤ mg m 5 + 1) (hnow : mg m 5 + 1 ≤ tqB) (hR : mg m 2 + mg m 3 ≤ 60) (hR1 : 1 ≤ mg m 2 + mg m 3) (hf : frOK nS nC m lo hi) (hΛ : ∀ k, k < nS → lvl (ms (tickM nS nC m) k) ≤ Λ k) : MHX nS (tickM nS nC m) lo hi q w t0 Λ (yHt nS nC m w y) := by
  intro k hk
  obtain ⟨bs, z, h1, h2, h3, h5, h6, h7⟩ := tick_vo (nC := nC) hk h4 (m := m)
  have hL : lvl (vwK k (tickM nS nC m)).1 ≤ Λ k := hΛ k hk
  rw [h2, fin_s] at hL
  have a := HX.tick (iv := mg m 4) hP (hK k hk) (hq k hk) (h k hk) h0 hnow hR hR1 rfl rfl rfl h1 h6 (fun hz x t hx => by
    rw [h7] at hx
    rw [h5] at hz
    exact hf k hk hz x t hx) hL
  rw [← h2] at a
  have e2 := tick_s2 (nC := nC) hk h4 (m := m)
  have e6 : (ms (tickM nS nC m) k).1 6 = (ms m k).1 6 + bs.length := by
    have : (vwK k (tickM nS nC m)).1.1 6 = (ms m k).1 6 + bs.length := by
      rw [h2, fin_s, snd_6]
      congr 1
      show (slowM (hndV (mg m 5 + 1) (vwK k m)).1 (mg m 5 + 1) (mg m 4)).1 6 = _
      unfold slowM
      rw [begins_o (by decide) (by decide) (by decide), ends_o (by decide) (by decide) (by decide)]
      exact hnd_6 _ _
    exact this
  have ey : yHt nS nC m w y k = y k + 61 * ((mg m 2 + mg m 3) * (5 * (if z = true then 1 else 0) + 2 * w * ((mg m 5 + 1) / 200 - mg m 5 / 200))) + 61 + (mg m 2 + mg m 3) - 61 * ((mg m 2 + mg m 3) * (bs.length : Int)) := by
    unfold yHt
    have e7 : (ms m k).1 6 + (bs.length : Int) - (ms m k).1 6 = bs.length := by omega
    rw [e6, e7, ← h5]
  rw [ey, tick_g5, tick_g (by decide) (by decide) (by decide) (by decide) (by decide) (by decide), tick_g (by decide) (by decide) (by decide) (by decide) (by decide) (by decide), e2]
  exact a
theorem MHX.run (hP : PHs K q X X2 C w1 w) (hK : ∀ k, k < nS → hi k - lo k + 1 ≤ K) (hq : ∀ k, k < nS → hi k - lo k ≤ q) (h4 : nS ≤ 4) (h : MHX nS m lo hi q w t0 Λ y) (h0 : 0 ≤ mg m 5 + 1) (hR : mg m 2 + mg m 3 ≤ 60) (hR1 : 1 ≤ mg m 2 + mg m 3) (hs : 1 ≤ mg m 1) : ∀ T : Nat, mg m 5 + T ≤ tqB → (∀ i, i < T → frOK nS nC (tkN nS nC i m) lo hi ∧ ∀ k, k < nS → lvl (ms (tkN nS nC (i + 1) m) k) ≤ Λ k) → ∃ y2, MHX nS (tkN nS nC T m) lo hi q w t0 Λ y2 ∧ mg m 1 * sumN y2 nS + 61 * (mg m 1 * ((mg m 2 + mg m 3) * (sntM nS (tkN nS nC T m) - sntM nS m))) ≤ mg m 1 * sumN y nS + 305 * ((mg m 2 + mg m 3) * (phM (tkN nS nC T m) - phM m)) + mg m 1 * (nS * (T * (61 + (mg m 2 + mg m 3)) + 122 * ((mg m 2 + mg m 3) * (w * ((mg m 5 + T) / 200 - mg m 5 / 200))))) := by
  intro T
  induction T with
  | zero =>
    intro _ _
    refine ⟨y, h, ?_⟩
    have e : tkN nS nC 0 m = m := rfl
    rw [e, Int.sub_self, Int.sub_self]
    have : (mg m 5 + ((0 : Nat) : Int)) / 200 - mg m 5 / 200 = 0 := by
      rw [show mg m 5 + ((0 : Nat) : Int) = mg m 5 by omega]
      omega
    rw [this]
    simp
  | succ T ih =>
    intro hT hf
    obtain ⟨y2, hM, hY⟩ := ih (by omega) (fun i hi => hf i (by omega))
    have hfT := hf T (by omega)
    have g1 := tkN_g (nS := nS) (nC := nC) (m := m) (i := 1) (by decide) (by decide) (by decide) (by decide) (by decide) (by decide) T
    have g2 := tkN_g (nS := nS) (nC := nC) (m := m) (i := 2) (by decide) (by decide) (by decide) (by decide) (by decide) (by decide) T
    have g3 := tkN_g (nS := nS) (nC := nC) (m := m) (i := 3) (by decide) (by decide) (by decide) (by decide) (by decide) (by decide) T
    have g5 := tkN_5 (nS := nS) (nC := nC) (m := m) T
    have et : tkN nS nC (T + 1) m = tickM nS nC (tkN nS nC T m) := rfl
    rw [et] at hfT ⊢
    generalize tkN nS nC T m = x at *
    have hM2 := hM.tick (nC := nC) hP hK hq h4 (by rw [g5]; omega) (by rw [g5]; omega) (by rw [g2, g3]; exact hR) (by rw [g2, g3]; exact hR1) hfT.1 hfT.2
    have hS := yHt_sum (nS := nS) (nC := nC) (m := x) (w := w) (y := y2) (by rw [g2, g3]; exact hR1)
    have hPh := (phM_tick (nS := nS) (nC := nC) (m := x) (by rw [g1]; exact hs)).1
    refine ⟨yHt nS nC x w y2, hM2, ?_⟩
    rw [g2, g3, g5] at hS
    rw [g1] at hPh
    generalize hRR : mg m 2 + mg m 3 = R at *
    generalize mg m 1 = sv at *
    generalize mg m 5 = a at *
    generalize sumN (yHt nS nC x w y2) nS = Y3 at *
    generalize sumN y2 nS = Y2 at *
    generalize sumN y nS = Y1 at *
    generalize sntM nS (tickM nS nC x) = S3 at *
    generalize sntM nS x = S2 at *
    generalize sntM nS m = S1 at *
    generalize phM (tickM nS nC x) = P3 at *
    generalize phM x = P2 at *
    generalize phM m = P1 at *
    generalize fiB (beginM (midM nS nC x)) = F at *
    have eT : a + ((T + 1 : Nat) : Int) = a + T + 1 := by omega
    rw [eT]
    generalize hD1 : (a + (T : Int)) / 200 - a / 200 = D1 at *
    have hD2 : (a + (T : Int) + 1) / 200 - a / 200 = D1 + ((a + (T : Int) + 1) / 200 - (a + (T : Int)) / 200) := by omega
    rw [hD2]
    generalize (a + (T : Int) + 1) / 200 - (a + (T : Int)) / 200 = D2 at *
    have b1 : sv * (Y3 + 61 * (R * (S3 - S2))) ≤ sv * (Y2 + 305 * (R * F) + nS * (122 * (R * (w * D2)) + 61 + R)) := Int.mul_le_mul_of_nonneg_left hS (by omega)
    have b2 : R * (sv * F) ≤ R * (P3 - P2) := Int.mul_le_mul_of_nonneg_left hPh (by omega)
    have c1 : sv * (Y3 + 61 * (R * (S3 - S2))) = sv * Y3 + 61 * (sv * (R * (S3 - S2))) := by
      rw [Int.mul_add, Int.mul_left_comm sv 61]
    have c2 : sv * (Y2 + 305 * (R * F) + nS * (122 * (R * (w * D2)) + 61 + R)) = sv * Y2 + 305 * (R * (sv * F)) + sv * (nS * (122 * (R * (w * D2)) + 61 + R)) := by
      rw [Int.mul_add, Int.mul_add, Int.mul_left_comm sv 305, Int.mul_left_comm sv R F]
    have c3 : sv * (R * (S3 - S1)) = sv * (R * (S3 - S2)) + sv * (R * (S2 - S1)) := by
      rw [← Int.mul_add, ← Int.mul_add]
      congr 2
      omega
    have c4 : R * (P3 - P1) = R * (P3 - P2) + R * (P2 - P1) := by
      rw [← Int.mul_add]
      congr 1
      omega
    have c5 : sv * (nS * (((T + 1 : Nat) : Int) * (61 + R) + 122 * (R * (w * (D1 + D2))))) = sv * (nS * (T * (61 + R) + 122 * (R * (w * D1)))) + sv * (nS * (122 * (R * (w * D2)) + 61 + R)) := by
      rw [← Int.mul_add, ← Int.mul_add]
      congr 2
      push_cast
      rw [Int.add_mul, Int.one_mul, Int.mul_add w, Int.mul_add R]
      omega
    rw [c3, c4, c5]
    omega
/-- from a state's facts, with no losses of other ways: the start costs the level in place of the potential -/
theorem MHX.start {lo : Nat → Int} (h : GNS nS m lo lo hi) (hl : ∀ k, k < nS → lsB (vwK k m).2.2 (mg m 5 + (mg m 2 + mg m 3))) : MHX nS m lo hi q w (mg m 5) Λ (fun k => hUY w (mg m 2 + mg m 3) (Λ k) (vwK k m).2.2) := by
  intro k hk
  obtain ⟨g, ⟨⟨hG, hp, hg⟩, hND⟩, -⟩ := h k hk
  exact Or.inr ⟨g, ⟨⟨⟨hG, hND⟩, hl k hk⟩, hp, hl k hk, hg⟩, Int.le_refl _⟩
/-- R ticks behind t0: mode H -/
theorem MHX.late (h : MHX nS m lo hi q w t0 Λ y) (ht : t0 + (mg m 2 + mg m 3) ≤ mg m 5) (hw : 0 ≤ w) (hR1 : 1 ≤ mg m 2 + mg m 3) (hs : ∀ k, k < nS → (ms m k).1 11 ≠ -1 → mg m 5 < (ms m k).1 11) (hΛ : ∀ k, k < nS → lvl (ms m k) ≤ Λ k) : MHn nS m lo hi q w y := by
  intro k hk
  rcases h k hk with ⟨g, j, th, be, a, b⟩ | ⟨g, ⟨hI, hp, hl, hg⟩, hY1⟩
  · exact ⟨g, j, th, be, a, b⟩
  · have hB := hI.late (q := q) hp ht
    have hup := PS_up hI.1.1.1.2.2.2.1 (vU (vwK k m)) (vF (vwK k m))
    have hPVu : PV (vwK k m) = PS (vwK k m).1 (vU (vwK k m)) (vF (vwK k m)) := rfl
    have hlk : lvl (vwK k m).1 ≤ Λ k := hΛ k hk
    have nu := nuB_le hI.1.1.1.2.2.1
    have c8 : w * (nuB (mg m 5) g.2.1 : Int) ≤ w * 8 := Int.mul_le_mul_of_nonneg_left (by omega) hw
    have a6 : hPHv w (mg m 5) (vwK k m) g = (PV (vwK k m) : Int) + w * (nuB (mg m 5) g.2.1 : Int) + 5 * (aNl (vwK k m).2.2 : Int) := rfl
    have hsk := hs k hk
    refine ⟨g, _, mg m 5 + 1 - (mg m 2 + mg m 3), mg m 5 - 60, ⟨⟨hB, hp, hl, hg⟩, fun n hn _ _ => by have := hp n hn; omega, by omega, by omega, fun z => ?_, fun _ => Or.inr (by omega)⟩, ?_⟩
    · have z : (ms m k).1 11 ≠ -1 := z
      have b := hsk z
      show mg m 5 - 60 + 60 ≤ (ms m k).1 11
      omega
    · unfold hUY at hY1
      unfold hY
      have e1 : mg m 5 - (mg m 5 + 1 - (mg m 2 + mg m 3)) = (mg m 2 + mg m 3) - 1 := by omega
      have e2 : mg m 5 - (mg m 5 - 60) = 60 := by omega
      rw [e1, e2]
      generalize mg m 2 + mg m 3 = R at *
      have e : hPHv w (mg m 5) (vwK k m) g ≤ 2 * (Λ k : Int) + 18 + w * 8 + 5 * (aNl (vwK k m).2.2 : Int) := by omega
      have eR := Int.mul_le_mul_of_nonneg_left e (show 0 ≤ R by omega)
      omega
end MHXS
