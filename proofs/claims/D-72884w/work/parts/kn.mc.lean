/-! Bounds, mode C: all senders over a tick -/
theorem tick_vo {nS nC k : Nat} {m : MS} (hk : k < nS) (h4 : nS ≤ 4) : ∃ (bs : List Bool) (z : Bool), sndOK (mg m 5 + 1) (mg m 5 + 1 + mg m 2 + mg m 3) k bs (slowM (hndV (mg m 5 + 1) (vwK k m)).1 (mg m 5 + 1) (mg m 4), (hndV (mg m 5 + 1) (vwK k m)).2) ∧ vwK k (tickM nS nC m) = finV (mg m 5 + 1 + mg m 2) (mg m 5 + 1 + mg m 2 + mg m 3) k z (sndV (mg m 5 + 1) (mg m 5 + 1 + mg m 2 + mg m 3) k bs (slowM (hndV (mg m 5 + 1) (vwK k m)).1 (mg m 5 + 1) (mg m 4), (hndV (mg m 5 + 1) (vwK k m)).2)) ∧ ¬ wantsM (sndV (mg m 5 + 1) (mg m 5 + 1 + mg m 2 + mg m 3) k bs (slowM (hndV (mg m 5 + 1) (vwK k m)).1 (mg m 5 + 1) (mg m 4), (hndV (mg m 5 + 1) (vwK k m)).2)).1 ∧ z = fnB k (beginM (midM nS nC m)) ∧ (z = true → (sndV (mg m 5 + 1) (mg m 5 + 1 + mg m 2 + mg m 3) k bs (slowM (hndV (mg m 5 + 1) (vwK k m)).1 (mg m 5 + 1) (mg m 4), (hndV (mg m 5 + 1) (vwK k m)).2)).2.1 ≠ []) ∧ (sndV (mg m 5 + 1) (mg m 5 + 1 + mg m 2 + mg m 3) k bs (slowM (hndV (mg m 5 + 1) (vwK k m)).1 (mg m 5 + 1) (mg m 4), (hndV (mg m 5 + 1) (vwK k m)).2)).2.1 = own k (beginM (midM nS nC m)) := by
  have g5 : mg (handM (nowM m)) 5 = mg m 5 + 1 := rfl
  have g4 : mg (handM (nowM m)) 4 = mg m 4 := rfl
  have g2 : mg (handM (nowM m)) 2 = mg m 2 := rfl
  have g3 : mg (handM (nowM m)) 3 = mg m 3 := rfl
  have vh : vwK k (handM (nowM m)) = hndV (mg m 5 + 1) (vwK k m) := v_hand (k := k) (m := nowM m)
  obtain ⟨bs, h1, h2, h3⟩ := (v_acts (k := k) (m := handM (nowM m)) nS).2 hk
  have es : ms (handM (nowM m)) k = (hndV (mg m 5 + 1) (vwK k m)).1 := congrArg Prod.fst vh
  have ew : ms (actsM nS (handM (nowM m))) k = (vwK k (actsM nS (handM (nowM m)))).1 := rfl
  rw [ew, h2] at h3
  rw [g5, g4, g2, g3, vh, es] at h1 h2 h3
  have gm : mg (midM nS nC m) = mg (handM (nowM m)) := ((burs_keep (m := actsM nS (handM (nowM m))) nC).2.1).trans (acts_g nS)
  have gb := (begin_keep (m := midM nS nC m)).2.2
  have e1 : vwK k (midM nS nC m) = vwK k (actsM nS (handM (nowM m))) := v_burs (by omega) nC
  have eo : (vwK k (beginM (midM nS nC m))).2.1 = own k (beginM (midM nS nC m)) := rfl
  rw [v_begin, e1, h2] at eo
  refine ⟨bs, fnB k (beginM (midM nS nC m)), h1, ?_, h3, rfl, ?_, eo⟩
  · have e0 : vwK k (tickM nS nC m) = vwK k (finiM (beginM (midM nS nC m))) := rfl
    rw [e0, v_fini (by omega), gb 5 (by decide), gb 2 (by decide), gb 3 (by decide), gm, g5, g2, g3, v_begin, e1, h2]
  · intro hz
    rw [eo]
    exact fnB_own hz
/-- all senders; y k bounds the potential of the k-th -/
def MC (nS : Nat) (m : MS) (r : Int) (lo hi : Nat → Int) (M U1 C1 Z : Int) (X A : Nat) (y : Nat → Int) : Prop := ∀ k, k < nS → ∃ g th be, CBc (mg m 5) (mg m 3 - (ms m k).1 2) (mg m 2 + (ms m k).1 2) (mg m 2 + mg m 3) (lo k) (hi k) r (vwK k m) g th be ∧ cY M U1 C1 Z X A (mg m 5) r (vwK k m) g.2.1 th be ≤ y k
def yC (nS nC : Nat) (m : MS) (r M Z : Int) (A : Nat) (y : Nat → Int) : Nat → Int := fun k => y k + 183 * (r * (M * (A : Int))) * (if fnB k (beginM (midM nS nC m)) = true then 1 else 0) + (61 * (r * (M * Z * ((mg m 5 + 1) / 200 - mg m 5 / 200))) + 183 * M + 3 * (r * M)) - 183 * (r * (M * ((ms (tickM nS nC m) k).1 6 - (ms m k).1 6)))
/-- the delay of a packet that is finished lies in its sender's range -/
def frOK (nS nC : Nat) (m : MS) (lo hi : Nat → Int) : Prop := ∀ k, k < nS → fnB k (beginM (midM nS nC m)) = true → ∀ x t, own k (beginM (midM nS nC m)) = x :: t → lo k ≤ mg m 5 + 1 + mg m 2 - x + (ms m k).1 2 ∧ mg m 5 + 1 + mg m 2 - x + (ms m k).1 2 ≤ hi k
theorem tick_s2 {nS nC k : Nat} {m : MS} (hk : k < nS) (h4 : nS ≤ 4) : (ms (tickM nS nC m) k).1 2 = (ms m k).1 2 := by
  obtain ⟨bs, z, h1, h2, h3, h5, h6, h7⟩ := tick_vo (nC := nC) hk h4 (m := m)
  have : (vwK k (tickM nS nC m)).1.1 2 = (ms m k).1 2 := by
    rw [h2, fin_s, snd_2]
    show (slowM (hndV (mg m 5 + 1) (vwK k m)).1 (mg m 5 + 1) (mg m 4)).1 2 = _
    unfold slowM
    rw [begins_o (by decide) (by decide) (by decide), ends_o (by decide) (by decide) (by decide)]
    exact hnd_2 _ _
  exact this
section MCS
variable {nS nC : Nat} {m : MS} {r : Int} {lo hi : Nat → Int} {K M U1 C1 Z Q : Int} {A X C3 w1 : Nat} {y : Nat → Int}
theorem MC.tick (hP : PCs K M A X U1 C1 Z C3 w1) (hKQ : ∀ k, k < nS → hi k - lo k + 1 ≤ K ∧ hi k - lo k ≤ Q) (hQ0 : 0 ≤ Q) (hMQ : 4194304 * Q ≤ M * (A + 1)) (h4 : nS ≤ 4) (h : MC nS m r lo hi M U1 C1 Z X A y) (h0 : 0 ≤ mg m 5 + 1) (hr0 : 1 ≤ r) (hrR : r ≤ mg m 2 + mg m 3) (hf : frOK nS nC m lo hi) : MC nS (tickM nS nC m) r lo hi M U1 C1 Z X A (yC nS nC m r M Z A y) := by
  intro k hk
  obtain ⟨g, th, be, hI, hY⟩ := h k hk
  obtain ⟨bs, z, h1, h2, h3, h5, h6, h7⟩ := tick_vo (nC := nC) hk h4 (m := m)
  obtain ⟨kk, kq⟩ := hKQ k hk
  obtain ⟨g2, th2, be2, hI2, hY2⟩ := CBc.tick (iv := mg m 4) hP kk kq hQ0 hMQ hI h0 hr0 hrR rfl rfl rfl h1 h6 (fun hz x t hx => by
    rw [h7] at hx
    rw [h5] at hz
    exact hf k hk hz x t hx)
  rw [← h2] at hI2 hY2
  have e2 := tick_s2 (nC := nC) hk h4 (m := m)
  have e6 : (ms (tickM nS nC m) k).1 6 = (ms m k).1 6 + bs.length := by
    have : (vwK k (tickM nS nC m)).1.1 6 = (ms m k).1 6 + bs.length := by
      rw [h2, fin_s, snd_6]
      show (slowM (hndV (mg m 5 + 1) (vwK k m)).1 (mg m 5 + 1) (mg m 4)).1 6 + _ = _
      unfold slowM
      rw [begins_o (by decide) (by decide) (by decide), ends_o (by decide) (by decide) (by decide)]
      have : (hndV (mg m 5 + 1) (vwK k m)).1.1 6 = (ms m k).1 6 := hnd_6 _ _
      rw [this]
    exact this
  refine ⟨g2, th2, be2, ?_, ?_⟩
  · rw [tick_g5, tick_g (by decide) (by decide) (by decide) (by decide) (by decide) (by decide), tick_g (by decide) (by decide) (by decide) (by decide) (by decide) (by decide), e2]
    exact hI2
  · rw [tick_g5]
    unfold yC
    rw [e6, ← h5]
    have e7 : (ms m k).1 6 + (bs.length : Int) - (ms m k).1 6 = bs.length := by omega
    rw [e7]
    omega
theorem yC_sum (hr : 0 ≤ r * (M * (A : Int))) : sumN (yC nS nC m r M Z A y) nS + 183 * (r * (M * (sntM nS (tickM nS nC m) - sntM nS m))) ≤ sumN y nS + 183 * (r * (M * (A : Int)) * fiB (beginM (midM nS nC m))) + nS * (61 * (r * (M * Z * ((mg m 5 + 1) / 200 - mg m 5 / 200))) + 183 * M + 3 * (r * M)) := by
  have hz := fnB_sum (beginM (midM nS nC m)) nS
  generalize hD : 61 * (r * (M * Z * ((mg m 5 + 1) / 200 - mg m 5 / 200))) + 183 * M + 3 * (r * M) = D
  have e : sumN (yC nS nC m r M Z A y) nS = sumN (fun k => (y k + (183 * (r * (M * (A : Int)))) * (if fnB k (beginM (midM nS nC m)) = true then 1 else 0)) + (D + (-183 * (r * M)) * ((ms (tickM nS nC m) k).1 6 - (ms m k).1 6))) nS := by
    refine sumN_congr nS (fun k _ => ?_)
    unfold yC
    rw [hD]
    generalize (ms (tickM nS nC m) k).1 6 - (ms m k).1 6 = w
    have a2 : (-183 * (r * M)) * w = -183 * (r * (M * w)) := by rw [Int.mul_assoc, Int.mul_assoc r M w]
    rw [a2]
    omega
  rw [e, sumN_add, sumN_add, sumN_add, sumN_c]
  have e1 : sumN (fun k => (183 * (r * (M * (A : Int)))) * (if fnB k (beginM (midM nS nC m)) = true then (1 : Int) else 0)) nS = (183 * (r * (M * (A : Int)))) * sumN (fun k => if fnB k (beginM (midM nS nC m)) = true then 1 else 0) nS := sumN_mul _ _ _
  have e2 : sumN (fun k => (-183 * (r * M)) * ((ms (tickM nS nC m) k).1 6 - (ms m k).1 6)) nS = (-183 * (r * M)) * (sntM nS (tickM nS nC m) - sntM nS m) := by
    rw [sumN_mul]
    congr 1
    have : sumN (fun k => (ms (tickM nS nC m) k).1 6 - (ms m k).1 6) nS + sntM nS m = sntM nS (tickM nS nC m) := by
      unfold sntM
      rw [← sumN_add]
      exact sumN_congr nS (fun k _ => by omega)
    omega
  rw [e1, e2]
  have q := Int.mul_le_mul_of_nonneg_left hz (show 0 ≤ 183 * (r * (M * (A : Int))) by omega)
  have a2 : (-183 * (r * M)) * (sntM nS (tickM nS nC m) - sntM nS m) = -183 * (r * (M * (sntM nS (tickM nS nC m) - sntM nS m))) := by rw [Int.mul_assoc, Int.mul_assoc r M]
  have a3 : 183 * (r * (M * (A : Int))) * fiB (beginM (midM nS nC m)) = 183 * (r * (M * (A : Int)) * fiB (beginM (midM nS nC m))) := Int.mul_assoc _ _ _
  rw [a2]
  rw [a3] at q
  omega
end MCS
