/-! Bounds, trials: all ticks of a trial: by the engine up to R ticks before the end (two phases), then by flights -/
section QA
variable {nS nC : Nat} {m : MS} {r SB Λ : Int} {lo1 lo2 hi : Nat → Int} {hi2 : Nat → Int} {K K2 X D Qd Qd2 m0 m1 m2 m3 : Int} {ef : Nat → Int → Nat → Int} {W : Nat → Int → Nat → Nat → Int → Int} {md : Nat → Int → Nat}
theorem GWn.again {y : Nat → Int} (h : GWn nS m lo1 lo2 hi y) : GWn nS m lo1 lo2 hi (fun k => max (lvS (ms m k)) 4224 + 1536 + 128 * (aNl (vwK k m).2.2 : Int)) := by
  intro k hk
  obtain ⟨g, hG, -⟩ := h k hk
  refine ⟨g, hG, ?_⟩
  have := nuP_3 (now := mg m 5) (L := g.2.1)
  have e : (vwK k m).1 = ms m k := rfl
  unfold gwP
  rw [e]
  dsimp only
  omega
theorem lvS_0 (h : ∀ k, k < nS → FI (vwK k m)) : ∀ k, k < nS → 0 ≤ lvS (ms m k) := by
  intro k hk
  have h5 : (ms m k).1 5 = (((vwK k m).2.1.length + (vwK k m).2.2.length : Nat) : Int) := (h k hk).1
  unfold lvS
  omega
/-- the last ticks, not more than the way to the server and back -/
theorem trial_end (h4 : nS ≤ 4) (h : GS nS m lo1 lo2 hi) (h0 : 0 ≤ mg m 5 + 1) (hr0 : 1 ≤ r) (hrR : r ≤ mg m 2 + mg m 3) {T1 T2 : Nat} (hT2 : (T2 : Int) ≤ mg m 2 + mg m 3) (hT : mg m 5 + T1 + T2 ≤ tqB) (hf : ∀ i, i < T1 → frOK nS nC (tkN nS nC i m) lo2 hi) (hf2 : ∀ i, i < T2 → frOK nS nC (tkN nS nC i (tkN nS nC T1 m)) lo2 hi) (A : 16 * (r * sumN (fun k => lvS (ms (tkN nS nC T1 m) k)) nS) + 4096 * (r * (sntM nS (tkN nS nC T1 m) - sntM nS m)) ≤ nS * (r * SB) + 4096 * (r * sumN (fun k => (aNl (vwK k m).2.2 : Int)) nS) + nS * (65536 * (r - 1)) + 8192 * (r * fnT nS nC T1 m) + nS * (T1 * 65536)) :
    4096 * (r * (sntM nS (tkN nS nC T2 (tkN nS nC T1 m)) - sntM nS m)) ≤ nS * (r * SB) + 4096 * (r * sumN (fun k => (aNl (vwK k m).2.2 : Int)) nS) + nS * (65536 * (r - 1)) + 8192 * (r * fnT nS nC T1 m) + nS * (T1 * 65536) + 16 * (r * (nS * (5760 + 1024 * ((mg m 5 + T1 + T2) / 200 - (mg m 5 + T1) / 200)) + 128 * sumN (fun k => (aNl (vwK k (tkN nS nC T1 m)).2.2 : Int)) nS + 384 * fnT nS nC T2 (tkN nS nC T1 m))) := by
  have hR1 : 1 ≤ mg m 2 + mg m 3 := by omega
  have G1 := (GWn.start h).run (nC := nC) h4 h0 hR1 T1 (by omega) hf
  have g2 := tkN_g (nS := nS) (nC := nC) (m := m) (i := 2) (by decide) (by decide) (by decide) (by decide) (by decide) (by decide) T1
  have g3 := tkN_g (nS := nS) (nC := nC) (m := m) (i := 3) (by decide) (by decide) (by decide) (by decide) (by decide) (by decide) T1
  have g5 := tkN_5 (nS := nS) (nC := nC) (m := m) T1
  have hFI : ∀ k, k < nS → FI (vwK k (tkN nS nC T1 m)) := fun k hk => by
    obtain ⟨g, hG, -⟩ := G1 k hk
    exact hG.1.1.1
  generalize hx : tkN nS nC T1 m = x at *
  have G2 := G1.again.run (nC := nC) h4 (by rw [g5]; omega) (by rw [g2, g3]; exact hR1) T2 (by rw [g5]; omega) hf2
  have hl := G2.lv
  rw [g5] at hl
  have hs := gen_all (nC := nC) h4 (m := x) (T := T2) (by rw [g2, g3]; exact hT2) hFI
  have p0 := lvS_0 hFI
  have f1 := fkT_sum (nS := nS) (nC := nC) (m := x) T2
  -- flights behind
  obtain ⟨cc, hcc⟩ : ∃ cc : Int, cc = 5760 + 1024 * ((mg m 5 + T1 + T2) / 200 - (mg m 5 + T1) / 200) := ⟨_, rfl⟩
  rw [← hcc]
  have hfl : ∀ k, k < nS → 256 * (ms (tkN nS nC T2 x) k).1 5 ≤ lvS (ms x k) + (cc + (128 * (aNl (vwK k x).2.2 : Int) + 128 * fkT nS nC k T2 x)) := by
    intro k hk
    have a := hl k hk
    have b := p0 k hk
    have c : 256 * (ms (tkN nS nC T2 x) k).1 5 ≤ lvS (ms (tkN nS nC T2 x) k) := by
      unfold lvS
      omega
    omega
  have s1 := sumN_le nS hfl
  rw [sumN_mul, sumN_add, sumN_add, sumN_add, sumN_c, sumN_mul, sumN_mul] at s1
  generalize sumN (fun k => lvS (ms x k)) nS = Y1 at *
  generalize sumN (fun k => (ms (tkN nS nC T2 x) k).1 5) nS = Y2 at *
  generalize sumN (fun k => (aNl (vwK k x).2.2 : Int)) nS = Y3 at *
  generalize sumN (fun k => fkT nS nC k T2 x) nS = Y4 at *
  generalize fnT nS nC T2 x = W2 at *
  generalize sntM nS (tkN nS nC T2 x) = S2 at *
  generalize sntM nS x = S1 at *
  generalize sntM nS m = S0 at *
  generalize (nS : Int) * cc = Cb at *
  have k1 : 256 * (S2 - S1) ≤ Y1 + (Cb + 128 * Y3 + 384 * W2) := by omega
  have k2 := Int.mul_le_mul_of_nonneg_left k1 (show 0 ≤ r by omega)
  have k3 : r * (256 * (S2 - S1)) = 256 * (r * (S2 - S1)) := Int.mul_left_comm _ _ _
  have k4 : r * (Y1 + (Cb + 128 * Y3 + 384 * W2)) = r * Y1 + r * (Cb + 128 * Y3 + 384 * W2) := Int.mul_add _ _ _
  have k5 : r * (S2 - S0) = r * (S2 - S1) + r * (S1 - S0) := by
    rw [← Int.mul_add]
    congr 1
    omega
  rw [k5]
  omega
/-- the delays on their way in a smaller range -/
theorem TZ.rng {y : Nat → Int} (h : TZ nS m r lo1 lo2 hi SB X D ef W md y) (hh : ∀ k, k < nS → ∀ n ∈ (vwK k m).2.2, isA n → n.2.2.2 ≤ hi2 k) : TZ nS m r lo1 lo2 hi2 SB X D ef W md y := by
  have key : ∀ k, k < nS → ∀ g, GBb (mg m 5) (mg m 3 - (ms m k).1 2) (mg m 2 + (ms m k).1 2) (mg m 2 + mg m 3) (lo1 k) (lo2 k) (hi k) (vwK k m) g → GBb (mg m 5) (mg m 3 - (ms m k).1 2) (mg m 2 + (ms m k).1 2) (mg m 2 + mg m 3) (lo1 k) (lo2 k) (hi2 k) (vwK k m) g := by
    intro k hk g hG
    obtain ⟨⟨v, a1, a2, a3, a4⟩, b, c⟩ := hG
    exact ⟨⟨v, a1, a2, fun n hn hA => ⟨(a3 n hn hA).1, hh k hk n hn hA⟩, a4⟩, b, c⟩
  intro k hk
  rcases h k hk with ⟨g, hI, hY⟩ | ⟨g, th, hI, hH⟩
  · exact Or.inl ⟨g, key k hk g hI, hY⟩
  · exact Or.inr ⟨g, th, key k hk g hI, hH⟩
/-- two phases: behind the first the delays lie in a smaller range -/
theorem trial_le2 (hP : ∀ k, k < nS → TNs K X D Qd m0 m1 (ef k) (W k) (md k)) (hP2 : ∀ k, k < nS → TNs K2 X D Qd2 m2 m3 (ef k) (W k) (md k)) (hm0 : m0 ≤ mg m 5 / 200) (hQ : ∀ k, k < nS → hi k - lo2 k ≤ Qd) (hQ2 : ∀ k, k < nS → hi2 k - lo2 k ≤ Qd2) (hQ0 : 0 ≤ Qd) (hQ02 : 0 ≤ Qd2) (hK : ∀ k, k < nS → hi k - lo1 k + 1 ≤ K) (hK2 : ∀ k, k < nS → hi2 k - lo1 k + 1 ≤ K2) (h4 : nS ≤ 4) (hSB : ∀ k mi, k < nS → m0 ≤ mi → mi ≤ m3 → 32 * max Λ 4096 + W k mi 4 0 (dvL X D Λ) ≤ SB) (hS : 16 * Λ ≤ SB) (h : GS nS m lo1 lo2 hi) (h0 : 0 ≤ mg m 5 + 1) (hr0 : 1 ≤ r) (hrR : r ≤ mg m 2 + mg m 3) {Ta Tb : Nat} (hT : mg m 5 + Ta + Tb ≤ tqB) (hm1 : (mg m 5 + Ta) / 200 ≤ m1) (hm2 : m2 ≤ (mg m 5 + Ta) / 200) (hm3 : (mg m 5 + Ta + Tb) / 200 ≤ m3) (hm02 : m0 ≤ m2) (hm13 : m1 ≤ m3) (hL0 : ∀ k, k < nS → lvS (ms (tkN nS nC (Ta + Tb) m) k) ≤ Λ) (hf : ∀ i, i < Ta + Tb → (∀ k, k < nS → 256 * (ms (tkN nS nC i m) k).1 5 ≤ X + D) ∧ (∀ k, k < nS → lvS (ms (tkN nS nC (i + 1) m) k) ≤ Λ)) (hfa : ∀ i, i < Ta → frOK nS nC (tkN nS nC i m) lo2 hi) (hfb : ∀ i, i < Tb → frOK nS nC (tkN nS nC (Ta + i) m) lo2 hi2) (hh : ∀ k, k < nS → ∀ n ∈ (vwK k (tkN nS nC Ta m)).2.2, isA n → n.2.2.2 ≤ hi2 k) :
    16 * (r * sumN (fun k => lvS (ms (tkN nS nC (Ta + Tb) m) k)) nS) + 4096 * (r * (sntM nS (tkN nS nC (Ta + Tb) m) - sntM nS m)) ≤ nS * (r * SB) + 4096 * (r * sumN (fun k => (aNl (vwK k m).2.2 : Int)) nS) + nS * (65536 * (r - 1)) + 8192 * (r * fnT nS nC (Ta + Tb) m) + nS * ((Ta + Tb : Nat) * 65536) := by
  obtain ⟨y1, hZ1, hY1⟩ := TZ.run (nC := nC) hP hm0 hQ hQ0 hK h4 (fun k mi hk q1 q2 => hSB k mi hk q1 (by omega)) (TZ.start (SB := SB) (X := X) (D := D) (ef := ef) (W := W) (md := md) (r := r) h) h0 hr0 hrR Ta (by omega) hm1 (fun i hi => ⟨(hf i (by omega)).1, (hf i (by omega)).2, hfa i hi⟩)
  have g2 := tkN_g (nS := nS) (nC := nC) (m := m) (i := 2) (by decide) (by decide) (by decide) (by decide) (by decide) (by decide) Ta
  have g3 := tkN_g (nS := nS) (nC := nC) (m := m) (i := 3) (by decide) (by decide) (by decide) (by decide) (by decide) (by decide) Ta
  have g5 := tkN_5 (nS := nS) (nC := nC) (m := m) Ta
  have ha : ∀ i : Nat, tkN nS nC (Ta + i) m = tkN nS nC i (tkN nS nC Ta m) := fun i => tkN_add i
  have g6 := tkN_5 (nS := nS) (nC := nC) (m := m) (Ta + Tb)
  have fa := fnT_add (nS := nS) (nC := nC) (a := Ta) (m := m) Tb
  obtain ⟨y2, hZ2, hY2⟩ := TZ.run (nC := nC) hP2 (by rw [g5]; omega) hQ2 hQ02 hK2 h4 (fun k mi hk q1 q2 => hSB k mi hk (by omega) q2) (hZ1.rng hh) (by rw [g5]; omega) hr0 (by rw [g2, g3]; exact hrR) Tb (by rw [g5]; omega) (by rw [g5]; exact hm3) (fun i hi => by
    have a := hf (Ta + i) (by omega)
    have b := hfb i hi
    rw [Nat.add_assoc, ha, ha] at a
    rw [ha] at b
    exact ⟨a.1, a.2, b⟩)
  rw [ha] at hL0 ⊢
  have hl := hZ2.lv hP2 (by rw [← ha, g6]; push_cast; omega) (by rw [← ha, g6]; push_cast; omega) hS hL0 hr0
  have e1 : 16 * (r * sumN (fun k => lvS (ms (tkN nS nC Tb (tkN nS nC Ta m)) k)) nS) = sumN (fun k => 16 * (r * lvS (ms (tkN nS nC Tb (tkN nS nC Ta m)) k))) nS := by
    rw [sumN_mul, sumN_mul]
  have e2 := sumN_le nS (f := fun k => 16 * (r * lvS (ms (tkN nS nC Tb (tkN nS nC Ta m)) k))) (g := y2) hl
  have e3 : sumN (fun k => r * (SB + 4096 * (aNl (vwK k m).2.2 : Int)) + 65536 * (r - 1)) nS = nS * (r * SB) + 4096 * (r * sumN (fun k => (aNl (vwK k m).2.2 : Int)) nS) + nS * (65536 * (r - 1)) := by
    have c : sumN (fun k => r * (SB + 4096 * (aNl (vwK k m).2.2 : Int)) + 65536 * (r - 1)) nS = sumN (fun k => (r * SB + 4096 * (r * (aNl (vwK k m).2.2 : Int))) + 65536 * (r - 1)) nS := by
      refine sumN_congr nS (fun k _ => ?_)
      rw [Int.mul_add, Int.mul_left_comm]
    rw [c, sumN_add, sumN_add, sumN_c, sumN_c, sumN_mul, sumN_mul]
  rw [e3] at hY1
  rw [fa, e1]
  generalize tkN nS nC Tb (tkN nS nC Ta m) = x2 at *
  generalize tkN nS nC Ta m = x1 at *
  generalize sumN (fun k => 16 * (r * lvS (ms x2 k))) nS = V at *
  generalize sumN y2 nS = Y2 at *
  generalize sumN y1 nS = Y1 at *
  generalize sntM nS x2 = S2 at *
  generalize sntM nS x1 = S1 at *
  generalize sntM nS m = S0 at *
  generalize fnT nS nC Ta m = W1 at *
  generalize fnT nS nC Tb x1 = W2 at *
  have c1 : r * (S2 - S0) = r * (S2 - S1) + r * (S1 - S0) := by
    rw [← Int.mul_add]
    congr 1
    omega
  have c2 : r * (W1 + W2) = r * W1 + r * W2 := Int.mul_add _ _ _
  have c4 : (nS : Int) * (((Ta + Tb : Nat) : Int) * 65536) = nS * (Ta * 65536) + nS * (Tb * 65536) := by
    push_cast
    rw [Int.add_mul, Int.mul_add]
  rw [c1, c2, c4]
  omega
end QA
