/-! Bounds, trials: all senders over ticks; ef, hm, tm: thresholds and weights by sender and minute, md: modes -/
/-- modes of two minutes -/
def MT (md md2 : Nat) (e1 e2 : Nat → Int) : Prop := md2 ≠ 2 ∧ (md2 = 1 → md = 2 ∧ e1 1 ≤ e2 3 ∧ e1 2 ≤ e2 3 ∧ e1 3 ≤ e2 3)
theorem IV.nxt {md md2 : Nat} {ee ee2 : Nat → Int} {now ka tq T0 : Int} {s : SdM} {Lf : Nat} {L : List EnF} {fa : Int → Int} {f : Int → Option Int} {la : List Int} (hS : SF now ka tq T0 L fa f la) (h : IV md ee now s Lf L) (hB : ((now + 1) / 200 = now / 200 ∧ md2 = md ∧ ee2 = ee) ∨ ((now + 1) / 200 = now / 200 + 1 ∧ MT md md2 ee ee2)) : IV md2 ee2 (now + 1) s Lf L := by
  rcases hB with ⟨q, e1, e2⟩ | ⟨q, h2, h1⟩
  · subst e1
    subst e2
    obtain ⟨a, b⟩ := nuP_same (L := L) q
    unfold IV at h ⊢
    rw [a, b, q]
    exact h
  · refine ⟨fun a b => ?_, fun a => absurd a h2⟩
    obtain ⟨c, d1, d2, d3⟩ := h1 a
    have hn := nuP_nxt hS
    have h3 := nuP_3 (now := now) (L := L)
    have i := (h.2 c).1 (by omega)
    have cs : nuP now L = 1 ∨ nuP now L = 2 ∨ nuP now L = 3 := by omega
    rcases cs with w | w | w <;> rw [w] at i <;> omega
def TM1 (m : MS) (r : Int) (lo1 lo2 hi : Nat → Int) (X D : Int) (ef : Nat → Int → Nat → Int) (W : Nat → Int → Nat → Nat → Int → Int) (md : Nat → Int → Nat) (y : Nat → Int) (k : Nat) : Prop := ∃ g th, GBb (mg m 5) (mg m 3 - (ms m k).1 2) (mg m 2 + (ms m k).1 2) (mg m 2 + mg m 3) (lo1 k) (lo2 k) (hi k) (vwK k m) g ∧ HT r th (vwK k m).1 (vwK k m).2.2 ∧ th ≤ mg m 5 ∧ IV (md k (mg m 5 / 200)) (ef k (mg m 5 / 200)) (mg m 5) (vwK k m).1 (vF (vwK k m)) g.2.1 ∧ r * tPH (W k (mg m 5 / 200)) X D (mg m 5) (vwK k m) g.2.1 + 65536 * (mg m 5 - th) ≤ y k
def TMn (nS : Nat) (m : MS) (r : Int) (lo1 lo2 hi : Nat → Int) (X D : Int) (ef : Nat → Int → Nat → Int) (W : Nat → Int → Nat → Nat → Int → Int) (md : Nat → Int → Nat) (y : Nat → Int) : Prop := ∀ k, k < nS → TM1 m r lo1 lo2 hi X D ef W md y k
/-- the numbers of all minutes of a sender -/
def TNs (K X D Qd m0 m1 : Int) (ef : Int → Nat → Int) (W : Int → Nat → Nat → Int → Int) (md : Int → Nat) : Prop := (∀ mi, m0 ≤ mi → mi ≤ m1 → TPc K X D (ef mi) (W mi)) ∧ (∀ mi, m0 ≤ mi → mi ≤ m1 → MDp (md mi) Qd X D (ef mi)) ∧ ∀ mi, m0 ≤ mi → mi + 1 ≤ m1 → TBd D (W mi) (W (mi + 1)) ∧ MT (md mi) (md (mi + 1)) (ef mi) (ef (mi + 1))
def yTn (nS nC : Nat) (m : MS) (r : Int) (y : Nat → Int) : Nat → Int := fun k => (y k + (8192 * r) * (if fnB k (beginM (midM nS nC m)) = true then 1 else 0)) + (65536 + (-(4096 * r)) * ((ms (tickM nS nC m) k).1 6 - (ms m k).1 6))
section TMS
variable {nS nC : Nat} {m : MS} {r : Int} {lo1 lo2 hi : Nat → Int} {K X D Qd : Int} {ef : Nat → Int → Nat → Int} {W : Nat → Int → Nat → Nat → Int → Int} {md : Nat → Int → Nat} {y : Nat → Int}
theorem TM1.tick {m0 m1 : Int} {k : Nat} (hk : k < nS) (hP : TNs K X D Qd m0 m1 (ef k) (W k) (md k)) (hm0 : m0 ≤ mg m 5 / 200) (hm1 : (mg m 5 + 1) / 200 ≤ m1) (hQ : hi k - lo2 k ≤ Qd) (hQ0 : 0 ≤ Qd) (hK : hi k - lo1 k + 1 ≤ K) (h4 : nS ≤ 4) (h : TM1 m r lo1 lo2 hi X D ef W md y k) (hF : 256 * (ms m k).1 5 ≤ X + D) (h0 : 0 ≤ mg m 5 + 1) (hnow : mg m 5 + 1 ≤ tqB) (hr0 : 1 ≤ r) (hrR : r ≤ mg m 2 + mg m 3) (hf : frOK nS nC m lo2 hi) : TM1 (tickM nS nC m) r lo1 lo2 hi X D ef W md (yTn nS nC m r y) k := by
  obtain ⟨g, th, hI, hH, hth, hIV, hY⟩ := h
  obtain ⟨bs, z, h1, h2, h3, h5, h6, h7⟩ := tick_vo (nC := nC) hk h4 (m := m)
  obtain ⟨n1, n2, n3⟩ := hP
  have hB' : ((mg m 5 + 1) / 200 = mg m 5 / 200 ∧ W k ((mg m 5 + 1) / 200) = W k (mg m 5 / 200)) ∨ ((mg m 5 + 1) / 200 = mg m 5 / 200 + 1 ∧ TBd D (W k (mg m 5 / 200)) (W k ((mg m 5 + 1) / 200))) := by
    by_cases q : (mg m 5 + 1) / 200 = mg m 5 / 200
    · left
      rw [q]
      exact ⟨rfl, rfl⟩
    · have q2 : (mg m 5 + 1) / 200 = mg m 5 / 200 + 1 := by omega
      have n4 := n3 _ hm0 (by omega)
      rw [q2]
      exact Or.inr ⟨rfl, n4.1⟩
  have hIV1 : IV (md k ((mg m 5 + 1) / 200)) (ef k ((mg m 5 + 1) / 200)) (mg m 5 + 1) (vwK k m).1 (vF (vwK k m)) g.2.1 := by
    refine hIV.nxt hI.1.1.2.2.1 ?_
    by_cases q : (mg m 5 + 1) / 200 = mg m 5 / 200
    · left
      rw [q]
      exact ⟨rfl, rfl, rfl⟩
    · have q2 : (mg m 5 + 1) / 200 = mg m 5 / 200 + 1 := by omega
      have n4 := n3 _ hm0 (by omega)
      rw [q2]
      exact Or.inr ⟨rfl, n4.2⟩
  obtain ⟨g2, hI2, hY2, hIV2⟩ := TPq.tick (iv := mg m 4) (n1 (mg m 5 / 200) hm0 (by omega)) (n1 ((mg m 5 + 1) / 200) (by omega) hm1) hB' (n2 ((mg m 5 + 1) / 200) (by omega) hm1) hIV1 hQ hQ0 hK hF hI h0 hnow (by omega) rfl rfl rfl h1 h6 (fun hz x t hx => by
    rw [h7] at hx
    rw [h5] at hz
    exact hf k hk hz x t hx)
  have hI1 : GB (mg m 5 + 1) (mg m 3 - (ms m k).1 2) (mg m 2 + (ms m k).1 2) (mg m 2 + mg m 3) (lo1 k) (lo2 k) (hi k) (vwK k m).1 (vwK k m).2.1 (vwK k m).2.2 g := ⟨hI.1.1.nxt, hI.1.2.nxt⟩
  have hpt : ∀ a ∈ (vwK k m).2.2, mg m 5 + 1 ≤ a.1 := fun a ha => by have := hI.2.1 a ha; omega
  obtain ⟨th2, t1, t2, t3⟩ := HTg.hnd (vwK k m).2.2 [] (vwK k m).1 g th hI1 (fun a ha => by cases ha) hpt hH (by omega)
  have e2 : hndV (mg m 5 + 1) (vwK k m) = ((vwK k m).2.2.foldl (hndS (mg m 5 + 1)) (vwK k m).1, (vwK k m).2.1, (vwK k m).2.2.filter (fun n => decide (n.1 ≠ mg m 5 + 1))) := rfl
  have hHT : HT r th2 (finV (mg m 5 + 1 + mg m 2) (mg m 5 + 1 + mg m 2 + mg m 3) k z (sndV (mg m 5 + 1) (mg m 5 + 1 + mg m 2 + mg m 3) k bs (slowM (hndV (mg m 5 + 1) (vwK k m)).1 (mg m 5 + 1) (mg m 4), (hndV (mg m 5 + 1) (vwK k m)).2))).1 (finV (mg m 5 + 1 + mg m 2) (mg m 5 + 1 + mg m 2 + mg m 3) k z (sndV (mg m 5 + 1) (mg m 5 + 1 + mg m 2 + mg m 3) k bs (slowM (hndV (mg m 5 + 1) (vwK k m)).1 (mg m 5 + 1) (mg m 4), (hndV (mg m 5 + 1) (vwK k m)).2))).2.2 := by
    refine HT.fin ?_
    refine HT.snds (by omega) bs _ ?_
    rw [e2]
    exact t2.slow
  rw [← h2] at hI2 hY2 hHT hIV2
  have e2' := tick_s2 (nC := nC) hk h4 (m := m)
  have e6 : (ms (tickM nS nC m) k).1 6 = (ms m k).1 6 + bs.length := by
    have : (vwK k (tickM nS nC m)).1.1 6 = (ms m k).1 6 + bs.length := by
      rw [h2, fin_s, snd_6]
      congr 1
      show (slowM (hndV (mg m 5 + 1) (vwK k m)).1 (mg m 5 + 1) (mg m 4)).1 6 = _
      unfold slowM
      rw [begins_o (by decide) (by decide) (by decide), ends_o (by decide) (by decide) (by decide)]
      exact hnd_6 _ _
    exact this
  refine ⟨g2, th2, ?_, hHT, ?_, ?_, ?_⟩
  · rw [tick_g5, tick_g (by decide) (by decide) (by decide) (by decide) (by decide) (by decide), tick_g (by decide) (by decide) (by decide) (by decide) (by decide) (by decide), e2']
    exact hI2
  · rw [tick_g5]
    exact t1
  · rw [tick_g5]
    exact hIV2
  · rw [tick_g5]
    unfold yTn
    rw [e6]
    have e7 : (ms m k).1 6 + (bs.length : Int) - (ms m k).1 6 = bs.length := by omega
    rw [e7, ← h5]
    generalize tPH (W k ((mg m 5 + 1) / 200)) X D (mg m 5 + 1) (vwK k (tickM nS nC m)) g2.2.1 = P2 at *
    generalize tPH (W k (mg m 5 / 200)) X D (mg m 5) (vwK k m) g.2.1 = P1 at *
    generalize (frN (mg m 5 + 1) (vwK k m).1 (vwK k m).2.2 : Int) = fr at *
    generalize (bs.length : Int) = n at *
    generalize (if z = true then (1 : Int) else 0) = zz at *
    have q2 := Int.mul_le_mul_of_nonneg_left hY2 (show 0 ≤ r by omega)
    have q3 : r * (P2 + 4096 * n) = r * P2 + 4096 * (r * n) := by rw [Int.mul_add, Int.mul_left_comm]
    have q4 : r * (P1 + 65536 * fr + 8192 * zz) = r * P1 + 65536 * (r * fr) + 8192 * (r * zz) := by
      rw [Int.mul_add, Int.mul_add, Int.mul_left_comm, Int.mul_left_comm r 8192]
    have q5 : (8192 * r) * zz = 8192 * (r * zz) := Int.mul_assoc _ _ _
    have q6 : (-(4096 * r)) * n = -(4096 * (r * n)) := by rw [Int.neg_mul, Int.mul_assoc]
    rw [q5, q6]
    omega
theorem TMn.tick {m0 m1 : Int} (hP : ∀ k, k < nS → TNs K X D Qd m0 m1 (ef k) (W k) (md k)) (hm0 : m0 ≤ mg m 5 / 200) (hm1 : (mg m 5 + 1) / 200 ≤ m1) (hQ : ∀ k, k < nS → hi k - lo2 k ≤ Qd) (hQ0 : 0 ≤ Qd) (hK : ∀ k, k < nS → hi k - lo1 k + 1 ≤ K) (h4 : nS ≤ 4) (h : TMn nS m r lo1 lo2 hi X D ef W md y) (hF : ∀ k, k < nS → 256 * (ms m k).1 5 ≤ X + D) (h0 : 0 ≤ mg m 5 + 1) (hnow : mg m 5 + 1 ≤ tqB) (hr0 : 1 ≤ r) (hrR : r ≤ mg m 2 + mg m 3) (hf : frOK nS nC m lo2 hi) : TMn nS (tickM nS nC m) r lo1 lo2 hi X D ef W md (yTn nS nC m r y) := fun k hk => TM1.tick hk (hP k hk) hm0 hm1 (hQ k hk) hQ0 (hK k hk) h4 (h k hk) (hF k hk) h0 hnow hr0 hrR hf
theorem yTn_sum (hr : 0 ≤ r) : sumN (yTn nS nC m r y) nS + 4096 * (r * (sntM nS (tickM nS nC m) - sntM nS m)) ≤ sumN y nS + 8192 * (r * fiB (beginM (midM nS nC m))) + nS * 65536 := by
  have e : sumN (yTn nS nC m r y) nS = sumN y nS + (8192 * r) * sumN (fun k => if fnB k (beginM (midM nS nC m)) = true then 1 else 0) nS + (nS * 65536 + (-(4096 * r)) * sumN (fun k => (ms (tickM nS nC m) k).1 6 - (ms m k).1 6) nS) := by
    rw [← sumN_mul, ← sumN_mul, ← sumN_c, ← sumN_add, ← sumN_add, ← sumN_add]
    rfl
  have e2 : sumN (fun k => (ms (tickM nS nC m) k).1 6 - (ms m k).1 6) nS + sntM nS m = sntM nS (tickM nS nC m) := by
    unfold sntM
    rw [← sumN_add]
    exact sumN_congr nS (fun k _ => by omega)
  have e3 := fnB_sum (beginM (midM nS nC m)) nS
  have e4 : (8192 * r) * sumN (fun k => if fnB k (beginM (midM nS nC m)) = true then 1 else 0) nS ≤ (8192 * r) * fiB (beginM (midM nS nC m)) := Int.mul_le_mul_of_nonneg_left e3 (by omega)
  have e5 : (8192 * r) * fiB (beginM (midM nS nC m)) = 8192 * (r * fiB (beginM (midM nS nC m))) := Int.mul_assoc _ _ _
  rw [e]
  generalize sumN (fun k => (ms (tickM nS nC m) k).1 6 - (ms m k).1 6) nS = w at *
  have e6 : sntM nS (tickM nS nC m) - sntM nS m = w := by omega
  rw [e6]
  have e7 : (-(4096 * r)) * w = -(4096 * (r * w)) := by rw [Int.neg_mul, Int.mul_assoc]
  rw [e7]
  omega
theorem TMn.run {m0 m1 : Int} (hP : ∀ k, k < nS → TNs K X D Qd m0 m1 (ef k) (W k) (md k)) (hm0 : m0 ≤ mg m 5 / 200) (hQ : ∀ k, k < nS → hi k - lo2 k ≤ Qd) (hQ0 : 0 ≤ Qd) (hK : ∀ k, k < nS → hi k - lo1 k + 1 ≤ K) (h4 : nS ≤ 4) (h : TMn nS m r lo1 lo2 hi X D ef W md y) (h0 : 0 ≤ mg m 5 + 1) (hr0 : 1 ≤ r) (hrR : r ≤ mg m 2 + mg m 3) : ∀ T : Nat, mg m 5 + T ≤ tqB → (mg m 5 + T) / 200 ≤ m1 → (∀ i, i < T → (∀ k, k < nS → 256 * (ms (tkN nS nC i m) k).1 5 ≤ X + D) ∧ frOK nS nC (tkN nS nC i m) lo2 hi) → ∃ y2 : Nat → Int, TMn nS (tkN nS nC T m) r lo1 lo2 hi X D ef W md y2 ∧ sumN y2 nS + 4096 * (r * (sntM nS (tkN nS nC T m) - sntM nS m)) ≤ sumN y nS + 8192 * (r * fnT nS nC T m) + nS * (T * 65536) := by
  intro T
  induction T with
  | zero =>
    intro _ _ _
    refine ⟨y, h, ?_⟩
    have e : tkN nS nC 0 m = m := rfl
    have e1 : fnT nS nC 0 m = 0 := rfl
    rw [e, e1, Int.sub_self]
    simp
  | succ T ih =>
    intro hT hm1 hf
    push_cast at hT hm1
    obtain ⟨y2, hM2, hY⟩ := ih (by omega) (by omega) (fun i hi => hf i (by omega))
    have hfT := hf T (by omega)
    have g2 := tkN_g (nS := nS) (nC := nC) (m := m) (i := 2) (by decide) (by decide) (by decide) (by decide) (by decide) (by decide) T
    have g3 := tkN_g (nS := nS) (nC := nC) (m := m) (i := 3) (by decide) (by decide) (by decide) (by decide) (by decide) (by decide) T
    have g5 := tkN_5 (nS := nS) (nC := nC) (m := m) T
    have et : tkN nS nC (T + 1) m = tickM nS nC (tkN nS nC T m) := rfl
    have ef : fnT nS nC (T + 1) m = fnT nS nC T m + fiB (beginM (midM nS nC (tkN nS nC T m))) := rfl
    rw [et, ef]
    have hM3 := hM2.tick (nC := nC) hP (by rw [g5]; omega) (by rw [g5]; omega) hQ hQ0 hK h4 hfT.1 (by rw [g5]; omega) (by rw [g5]; omega) hr0 (by rw [g2, g3]; exact hrR) hfT.2
    have hS := yTn_sum (nS := nS) (nC := nC) (m := tkN nS nC T m) (r := r) (y := y2) (by omega)
    refine ⟨yTn nS nC (tkN nS nC T m) r y2, hM3, ?_⟩
    generalize tkN nS nC T m = x at *
    generalize sumN (yTn nS nC x r y2) nS = Y3 at *
    generalize sumN y2 nS = Y2 at *
    generalize sumN y nS = Y1 at *
    generalize sntM nS (tickM nS nC x) = S3 at *
    generalize sntM nS x = S2 at *
    generalize sntM nS m = S1 at *
    generalize fnT nS nC T m = W1 at *
    generalize fiB (beginM (midM nS nC x)) = W2 at *
    have c1 : r * (S3 - S1) = r * (S3 - S2) + r * (S2 - S1) := by
      rw [← Int.mul_add]
      congr 1
      omega
    have c2 : r * (W1 + W2) = r * W1 + r * W2 := Int.mul_add _ _ _
    have c4 : (nS : Int) * (((T + 1 : Nat) : Int) * 65536) = nS * (T * 65536) + nS * 65536 := by
      push_cast
      rw [Int.add_mul, Int.mul_add, Int.one_mul]
    rw [c1, c2, c4]
    omega
end TMS
