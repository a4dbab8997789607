/-! Bounds, trials: one sender over a whole trial: by the engine (two phases), then two windows of R ticks, the first of them by both potentials -/
section TRW
variable {nS nC k : Nat} {m : MS} {r SB SF Λ : Int} {lo1 lo2 hi hi2 : Nat → Int} {K K2 X D Qd Qd2 m0 m1 m2 m3 m4 mf : Int} {ef : Nat → Int → Nat → Int} {W WF : Nat → Int → Nat → Nat → Int → Int} {md : Nat → Int → Nat}
theorem TM1.run {y : Int} (hk : k < nS) (hP : TNs K X D Qd m0 m1 (ef k) (W k) (md k)) (hm0 : m0 ≤ mg m 5 / 200) (hQ : hi k - lo2 k ≤ Qd) (hQ0 : 0 ≤ Qd) (hK : hi k - lo1 k + 1 ≤ K) (h4 : nS ≤ 4) (h : TM1 m r lo1 lo2 hi X D ef W md (fun _ => y) k) (h0 : 0 ≤ mg m 5 + 1) (hr0 : 1 ≤ r) (hrR : r ≤ mg m 2 + mg m 3) : ∀ T : Nat, mg m 5 + T ≤ tqB → (mg m 5 + T) / 200 ≤ m1 → (∀ i, i < T → 256 * (ms (tkN nS nC i m) k).1 5 ≤ X + D ∧ frOK nS nC (tkN nS nC i m) lo2 hi) → TM1 (tkN nS nC T m) r lo1 lo2 hi X D ef W md (fun _ => ykT nS nC m r y k T) k := by
  intro T
  induction T with
  | zero =>
    intro _ _ _
    have e : ykT nS nC m r y k 0 = y := by
      unfold ykT
      show y + 8192 * (r * 0) + 65536 * ((0 : Nat) : Int) - 4096 * (r * ((ms m k).1 6 - (ms m k).1 6)) = y
      rw [Int.sub_self]
      simp
    rw [e]
    exact h
  | succ T ih =>
    intro hT hm1 hf
    push_cast at hT hm1
    have hM2 := ih (by omega) (by omega) (fun i hi => hf i (by omega))
    have hfT := hf T (by omega)
    have g2 := tkN_g (nS := nS) (nC := nC) (m := m) (i := 2) (by decide) (by decide) (by decide) (by decide) (by decide) (by decide) T
    have g3 := tkN_g (nS := nS) (nC := nC) (m := m) (i := 3) (by decide) (by decide) (by decide) (by decide) (by decide) (by decide) T
    have g5 := tkN_5 (nS := nS) (nC := nC) (m := m) T
    have et : tkN nS nC (T + 1) m = tickM nS nC (tkN nS nC T m) := rfl
    have ey : yTn nS nC (tkN nS nC T m) r (fun _ => ykT nS nC m r y k T) k = ykT nS nC m r y k (T + 1) := by
      unfold yTn ykT
      have ef2 : fkT nS nC k (T + 1) m = fkT nS nC k T m + (if fnB k (beginM (midM nS nC (tkN nS nC T m))) = true then 1 else 0) := rfl
      rw [ef2, et]
      generalize (if fnB k (beginM (midM nS nC (tkN nS nC T m))) = true then (1 : Int) else 0) = z
      generalize (ms (tickM nS nC (tkN nS nC T m)) k).1 6 = s3
      generalize (ms (tkN nS nC T m) k).1 6 = s2
      generalize (ms m k).1 6 = s1
      generalize fkT nS nC k T m = f
      have c1 : r * (s3 - s1) = r * (s3 - s2) + r * (s2 - s1) := by
        rw [← Int.mul_add]
        congr 1
        omega
      have c2 : r * (f + z) = r * f + r * z := Int.mul_add _ _ _
      have c3 : 8192 * r * z = 8192 * (r * z) := Int.mul_assoc _ _ _
      have c4 : -(4096 * r) * (s3 - s2) = -(4096 * (r * (s3 - s2))) := by rw [Int.neg_mul, Int.mul_assoc]
      rw [c1, c2, c3, c4]
      push_cast
      omega
    rw [et]
    have w := TM1.tick (nC := nC) hk hP (by rw [g5]; omega) (by rw [g5]; omega) hQ hQ0 hK h4 hM2 hfT.1 (by rw [g5]; omega) (by rw [g5]; omega) hr0 (by rw [g2, g3]; exact hrR) hfT.2
    unfold TM1 at w ⊢
    rw [ey] at w
    exact w
/-- the last two windows, from a state where the sender has sent in this trial -/
theorem win2_k {y : Int} {Rn : Nat} (hk : k < nS) (hRn : (Rn : Int) = mg m 2 + mg m 3) (hP : TNs K X D Qd m0 m1 (ef k) (WF k) (md k)) (hm0 : m0 ≤ mg m 5 / 200) (hm1 : (mg m 5 + Rn + Rn) / 200 ≤ m1) (hQ : hi k - lo2 k ≤ Qd) (hQ0 : 0 ≤ Qd) (hK : hi k - lo1 k + 1 ≤ K) (h4 : nS ≤ 4) (h : TM1 m r lo1 lo2 hi X D ef WF md (fun _ => y) k) (h0 : 0 ≤ mg m 5 + 1) (hr0 : 1 ≤ r) (hrR : r ≤ mg m 2 + mg m 3) (hT : mg m 5 + Rn + Rn ≤ tqB) (hf : ∀ i, i < Rn + Rn → 256 * (ms (tkN nS nC i m) k).1 5 ≤ X + D ∧ frOK nS nC (tkN nS nC i m) lo2 hi) (ho : ∀ x ∈ own k m, x ≤ mg m 5) (hl : ∀ n ∈ (vwK k m).2.2, n.1 ≤ mg m 5 + (mg m 2 + mg m 3)) (ho2 : ∀ x ∈ own k (tkN nS nC Rn m), x ≤ mg m 5 + Rn) (hl2 : ∀ n ∈ (vwK k (tkN nS nC Rn m)).2.2, n.1 ≤ mg m 5 + Rn + (mg m 2 + mg m 3)) :
    16384 * (r * ((ms (tkN nS nC (Rn + Rn) m) k).1 6 - (ms m k).1 6)) ≤ 3 * y + 4096 * (r * ((own k m).length : Int)) + 8192 * (r * ((own k (tkN nS nC Rn m)).length : Int)) + 28672 * (r * fkT nS nC k Rn m) + 24576 * (r * fkT nS nC k Rn (tkN nS nC Rn m)) + 327680 * (Rn : Int) := by
  have ha : ∀ b : Nat, tkN nS nC (Rn + b) m = tkN nS nC b (tkN nS nC Rn m) := fun b => tkN_add b
  have g2 := tkN_g (nS := nS) (nC := nC) (m := m) (i := 2) (by decide) (by decide) (by decide) (by decide) (by decide) (by decide) Rn
  have g3 := tkN_g (nS := nS) (nC := nC) (m := m) (i := 3) (by decide) (by decide) (by decide) (by decide) (by decide) (by decide) Rn
  have g5 := tkN_5 (nS := nS) (nC := nC) (m := m) Rn
  have gg5 := tkN_5 (nS := nS) (nC := nC) (m := tkN nS nC Rn m) Rn
  have e1 := TM1.run (nC := nC) hk hP hm0 hQ hQ0 hK h4 h h0 hr0 hrR Rn (by omega) (by omega) (fun i hi => hf i (by omega))
  have w1 := TW1.run (nC := nC) hk hP hm0 hQ hQ0 hK h4 (h.win hr0 ho hl) h0 hr0 hrR Rn (by omega) (by omega) (by omega) (fun i hi => hf i (by omega))
  have n1 := w1.nonneg hP (by rw [g5]; omega) (by rw [g5]; omega) hr0
  have e2 := e1.win hr0 (by rw [g5]; exact ho2) (by rw [g5, g2, g3]; exact hl2)
  have w2 := TW1.run (nC := nC) hk hP (by rw [g5]; omega) hQ hQ0 hK h4 e2 (by rw [g5]; omega) hr0 (by rw [g2, g3]; exact hrR) Rn (by rw [g2, g3]; omega) (by rw [g5]; omega) (by rw [g5]; omega) (fun i hi => by
    have a := hf (Rn + i) (by omega)
    rw [ha] at a
    exact a)
  have n2 := w2.nonneg hP (by rw [gg5, g5]; omega) (by rw [gg5, g5]; omega) hr0
  rw [ha]
  unfold ywT at n1 n2
  unfold ykT at n2
  generalize (ms (tkN nS nC Rn (tkN nS nC Rn m)) k).1 6 = S3 at *
  generalize (ms (tkN nS nC Rn m) k).1 6 = S2 at *
  generalize (ms m k).1 6 = S1 at *
  generalize ((own k m).length : Int) = O1 at *
  generalize ((own k (tkN nS nC Rn m)).length : Int) = O2 at *
  generalize fkT nS nC k Rn m = F1 at *
  generalize fkT nS nC k Rn (tkN nS nC Rn m) = F2 at *
  have k5 : r * (S3 - S1) = r * (S3 - S2) + r * (S2 - S1) := by
    rw [← Int.mul_add]
    congr 1
    omega
  rw [k5]
  omega
theorem fkT_0 : ∀ T : Nat, 0 ≤ fkT nS nC k T m := by
  intro T
  induction T with
  | zero => exact Int.le_refl 0
  | succ T ih =>
    have e : fkT nS nC k (T + 1) m = fkT nS nC k T m + (if fnB k (beginM (midM nS nC (tkN nS nC T m))) = true then 1 else 0) := rfl
    rw [e]
    split <;> omega
/-- the whole trial -/
theorem trial_w {Ta Tb Rn : Nat} (hk : k < nS) (hRn : (Rn : Int) = mg m 2 + mg m 3) (hR200 : Rn ≤ 200) (hP : TNs K X D Qd m0 m1 (ef k) (W k) (md k)) (hP2 : TNs K2 X D Qd2 m2 m3 (ef k) (W k) (md k)) (hPF : TNs K2 X D Qd2 mf m4 (ef k) (WF k) (md k)) (hX : 0 ≤ X) (hD : 0 ≤ D) (hfam : ∀ j e z, j ≤ 4 → e ≤ 1 → 0 ≤ z → z ≤ D → 3 * WF k mf j e z ≤ 4 * W k mf j e z + (if 0 < z then 16 * (X + z) else 0)) (hm0 : m0 ≤ mg m 5 / 200) (hQ : hi k - lo2 k ≤ Qd) (hQ2 : hi2 k - lo2 k ≤ Qd2) (hQ0 : 0 ≤ Qd) (hQ02 : 0 ≤ Qd2) (hK : hi k - lo1 k + 1 ≤ K) (hK2 : hi2 k - lo1 k + 1 ≤ K2) (h4 : nS ≤ 4) (hSB : ∀ mi, m0 ≤ mi → mi ≤ m3 → 32 * max Λ 4096 + W k mi 4 0 (dvL X D Λ) ≤ SB) (hSF : ∀ mi, mf ≤ mi → mi ≤ m4 → 32 * max Λ 4096 + WF k mi 4 0 (dvL X D Λ) ≤ SF) (hS : 16 * Λ ≤ SF) (hSS : SF + 518144 ≤ SB) (h : GS nS m lo1 lo2 hi) (hG0 : GS nS (tkN nS nC (Ta + Tb) m) lo1 lo2 hi2) (h0 : 0 ≤ mg m 5 + 1) (hr0 : 1 ≤ r) (hrR : r ≤ mg m 2 + mg m 3) (hT : mg m 5 + Ta + Tb + Rn + Rn ≤ tqB) (hm1 : (mg m 5 + Ta) / 200 ≤ m1) (hm2 : m2 ≤ (mg m 5 + Ta) / 200) (hm3 : (mg m 5 + Ta + Tb) / 200 ≤ m3) (hm02 : m0 ≤ m2) (hm13 : m1 ≤ m3) (hmf : (mg m 5 + Ta + Tb) / 200 = mf) (hm4 : (mg m 5 + Ta + Tb + Rn + Rn) / 200 ≤ m4) (hf : ∀ i, i ≤ Ta + Tb + Rn + Rn → 256 * (ms (tkN nS nC i m) k).1 5 ≤ X + D ∧ lvS (ms (tkN nS nC i m) k) ≤ Λ) (hfr : ∀ i, i < Ta + Tb → frOK nS nC (tkN nS nC i m) lo2 hi) (hfb : ∀ i, i < Tb + Rn + Rn → frOK nS nC (tkN nS nC (Ta + i) m) lo2 hi2) (hh : ∀ n ∈ (vwK k (tkN nS nC Ta m)).2.2, isA n → n.2.2.2 ≤ hi2 k) (hown : ∀ i, i ≤ Ta + Tb + Rn → ∀ x ∈ own k (tkN nS nC i m), x ≤ mg m 5 + i) (harr : ∀ i, Ta + Tb ≤ i → i ≤ Ta + Tb + Rn → ∀ n ∈ (vwK k (tkN nS nC i m)).2.2, n.1 ≤ mg m 5 + i + (mg m 2 + mg m 3)) (hA : aNl (vwK k (tkN nS nC (Ta + Tb + Rn) m)).2.2 ≤ 200) :
    16384 * (r * ((ms (tkN nS nC (Ta + Tb + (Rn + Rn)) m) k).1 6 - (ms m k).1 6)) ≤ 4 * (r * (SB + 4096 * (aNl (vwK k m).2.2 : Int)) + 65536 * (r - 1) + 8192 * (r * fkT nS nC k (Ta + Tb) m) + 65536 * ((Ta + Tb : Nat) : Int)) + 4096 * (r * ((own k (tkN nS nC (Ta + Tb) m)).length : Int)) + 8192 * (r * ((own k (tkN nS nC (Ta + Tb + Rn) m)).length : Int)) + 32768 * (r * fkT nS nC k Rn (tkN nS nC (Ta + Tb) m)) + 24576 * (r * fkT nS nC k Rn (tkN nS nC (Ta + Tb + Rn) m)) + 327680 * (Rn : Int) := by
  have ha : ∀ a b : Nat, tkN nS nC (a + b) m = tkN nS nC b (tkN nS nC a m) := fun a b => tkN_add b
  have gg := fun (i : Nat) (h5 : i ≠ 5) (h14 : i ≠ 14) (h15 : i ≠ 15) (h16 : i ≠ 16) (h17 : i ≠ 17) (h18 : i ≠ 18) (T : Nat) => tkN_g (nS := nS) (nC := nC) (m := m) (i := i) h5 h14 h15 h16 h17 h18 T
  have g2a := gg 2 (by decide) (by decide) (by decide) (by decide) (by decide) (by decide) Ta
  have g3a := gg 3 (by decide) (by decide) (by decide) (by decide) (by decide) (by decide) Ta
  have g5a := tkN_5 (nS := nS) (nC := nC) (m := m) Ta
  have g2 := gg 2 (by decide) (by decide) (by decide) (by decide) (by decide) (by decide) (Ta + Tb)
  have g3 := gg 3 (by decide) (by decide) (by decide) (by decide) (by decide) (by decide) (Ta + Tb)
  have g5 := tkN_5 (nS := nS) (nC := nC) (m := m) (Ta + Tb)
  have z1 := TZ1.run (nC := nC) hk hP hm0 hQ hQ0 hK h4 (fun mi q1 q2 => hSB mi q1 (by omega)) (TZ1.start (SB := SB) (X := X) (D := D) (ef := ef) (W := W) (md := md) (r := r) hk h) h0 hr0 hrR Ta (by omega) hm1 (fun i hi => ⟨(hf i (by omega)).1, (hf (i + 1) (by omega)).2, hfr i (by omega)⟩)
  have z2 := TZ1.run (nC := nC) hk hP2 (by rw [g5a]; omega) hQ2 hQ02 hK2 h4 (fun mi q1 q2 => hSB mi (by omega) q2) (z1.rng hh) (by rw [g5a]; omega) hr0 (by rw [g2a, g3a]; exact hrR) Tb (by rw [g5a]; omega) (by rw [g5a]; exact hm3) (fun i hi => by
    have a := hf (Ta + i) (by omega)
    have a2 := hf (Ta + (i + 1)) (by omega)
    have b := hfb i (by omega)
    rw [ha] at a a2 b
    exact ⟨a.1, a2.2, b⟩)
  rw [← ha] at z2
  have hfa := fkT_add (nS := nS) (nC := nC) (k := k) (m := m) (a := Ta) Tb
  have eRR : tkN nS nC (Ta + Tb + (Rn + Rn)) m = tkN nS nC (Rn + Rn) (tkN nS nC (Ta + Tb) m) := ha (Ta + Tb) (Rn + Rn)
  have eR : tkN nS nC (Ta + Tb + Rn) m = tkN nS nC Rn (tkN nS nC (Ta + Tb) m) := ha (Ta + Tb) Rn
  have hcap : ∀ i, i ≤ Rn + Rn → 256 * (ms (tkN nS nC i (tkN nS nC (Ta + Tb) m)) k).1 5 ≤ X + D ∧ lvS (ms (tkN nS nC i (tkN nS nC (Ta + Tb) m)) k) ≤ Λ := fun i hi => by
    have a := hf (Ta + Tb + i) (by omega)
    rw [ha] at a
    exact a
  have hfr2 : ∀ i, i < Rn + Rn → frOK nS nC (tkN nS nC i (tkN nS nC (Ta + Tb) m)) lo2 hi2 := fun i hi => by
    have b := hfb (Tb + i) (by omega)
    rw [← Nat.add_assoc, ha (Ta + Tb)] at b
    exact b
  have ho1 : ∀ x ∈ own k (tkN nS nC (Ta + Tb) m), x ≤ mg (tkN nS nC (Ta + Tb) m) 5 := by
    rw [g5]
    exact hown (Ta + Tb) (by omega)
  have ho2 : ∀ x ∈ own k (tkN nS nC Rn (tkN nS nC (Ta + Tb) m)), x ≤ mg (tkN nS nC (Ta + Tb) m) 5 + Rn := by
    rw [← eR, g5]
    have := hown (Ta + Tb + Rn) (by omega)
    push_cast at this ⊢
    intro x hx
    have := this x hx
    omega
  have hl1 : ∀ n ∈ (vwK k (tkN nS nC (Ta + Tb) m)).2.2, n.1 ≤ mg (tkN nS nC (Ta + Tb) m) 5 + (mg (tkN nS nC (Ta + Tb) m) 2 + mg (tkN nS nC (Ta + Tb) m) 3) := by
    rw [g5, g2, g3]
    exact harr (Ta + Tb) (by omega) (by omega)
  have hl2 : ∀ n ∈ (vwK k (tkN nS nC Rn (tkN nS nC (Ta + Tb) m))).2.2, n.1 ≤ mg (tkN nS nC (Ta + Tb) m) 5 + Rn + (mg (tkN nS nC (Ta + Tb) m) 2 + mg (tkN nS nC (Ta + Tb) m) 3) := by
    rw [← eR, g5, g2, g3]
    intro n hn
    have := harr (Ta + Tb + Rn) (by omega) (by omega) n hn
    push_cast at this ⊢
    omega
  have e68 : ykT nS nC (tkN nS nC Ta m) r (ykT nS nC m r (r * (SB + 4096 * (aNl (vwK k m).2.2 : Int)) + 65536 * (r - 1)) k Ta) k Tb = r * (SB + 4096 * (aNl (vwK k m).2.2 : Int)) + 65536 * (r - 1) + 8192 * (r * fkT nS nC k (Ta + Tb) m) + 65536 * ((Ta + Tb : Nat) : Int) - 4096 * (r * ((ms (tkN nS nC (Ta + Tb) m) k).1 6 - (ms m k).1 6)) := by
    unfold ykT
    rw [hfa, ← ha]
    generalize fkT nS nC k Tb (tkN nS nC Ta m) = Fb
    generalize fkT nS nC k Ta m = Fa
    generalize (ms (tkN nS nC (Ta + Tb) m) k).1 6 = s3
    generalize (ms (tkN nS nC Ta m) k).1 6 = s2
    generalize (ms m k).1 6 = s1
    have c1 : r * (s3 - s1) = r * (s3 - s2) + r * (s2 - s1) := by
      rw [← Int.mul_add]
      congr 1
      omega
    have c2 : r * (Fa + Fb) = r * Fa + r * Fb := Int.mul_add _ _ _
    rw [c1, c2]
    push_cast
    omega
  rw [e68] at z2
  rw [eRR, eR]
  rcases z2 with q | q
  · -- no packet of this trial yet
    obtain ⟨-, -, hY⟩ := q
    dsimp only at hY
    have tk := trial_k (nC := nC) (Ta := Rn) (Tb := 0) (T2 := Rn) (r := r) (SB := SF) (Λ := Λ) (hi2 := hi2) hk hPF hPF (by rw [g5]; push_cast; omega) hQ2 hQ2 hQ02 hQ02 hK2 hK2 h4 hSF hS hG0 (by rw [g5]; push_cast; omega) hr0 (by rw [g2, g3]; exact hrR) (by rw [g2, g3]; omega) (by rw [g5]; push_cast; omega) (by rw [g5]; push_cast; omega) (by rw [g5]; push_cast; omega) (by rw [g5]; push_cast; omega) (Int.le_refl _) (Int.le_refl _) (hcap _ (by omega)).2 (fun i hi => ⟨(hcap i (by omega)).1, (hcap (i + 1) (by omega)).2⟩) (fun i hi => hfr2 i (by omega)) (fun i hi => absurd hi (Nat.not_lt_zero i)) (fun n hn hA => by
      obtain ⟨gk, hGk, -⟩ := ((GWn.start hG0).run (nC := nC) h4 (by rw [g5]; push_cast; omega) (by rw [g2, g3]; omega) Rn (by rw [g5]; push_cast; omega) (fun i hi => hfr2 i (by omega))) k hk
      exact (hGk.1.2.2.2.1 n hn hA).2)
    rw [g5] at tk
    have e0 : Rn + 0 = Rn := Nat.add_zero Rn
    have e0' : Rn + 0 + Rn = Rn + Rn := by omega
    rw [e0'] at tk
    rw [e0] at tk
    rw [eR] at hA
    have nb : (mg m 5 + ((Ta + Tb : Nat) : Int) + (Rn : Int) + ((0 : Nat) : Int) + (Rn : Int)) / 200 - (mg m 5 + ((Ta + Tb : Nat) : Int) + (Rn : Int) + ((0 : Nat) : Int)) / 200 ≤ 1 := by omega
    generalize (mg m 5 + ((Ta + Tb : Nat) : Int) + (Rn : Int) + ((0 : Nat) : Int) + (Rn : Int)) / 200 - (mg m 5 + ((Ta + Tb : Nat) : Int) + (Rn : Int) + ((0 : Nat) : Int)) / 200 = NB at *
    have f1 : 0 ≤ fkT nS nC k Rn (tkN nS nC (Ta + Tb) m) := fkT_0 Rn
    generalize fkT nS nC k (Ta + Tb) m = F0 at *
    generalize fkT nS nC k Rn (tkN nS nC (Ta + Tb) m) = F1 at *
    generalize fkT nS nC k Rn (tkN nS nC Rn (tkN nS nC (Ta + Tb) m)) = F2 at *
    generalize (ms (tkN nS nC (Rn + Rn) (tkN nS nC (Ta + Tb) m)) k).1 6 = S3 at *
    generalize (ms (tkN nS nC (Ta + Tb) m) k).1 6 = S2 at *
    generalize (ms m k).1 6 = S1 at *
    generalize hA1 : (aNl (vwK k (tkN nS nC Rn (tkN nS nC (Ta + Tb) m))).2.2 : Int) = A1 at *
    generalize (aNl (vwK k (tkN nS nC (Ta + Tb) m)).2.2 : Int) = A0 at *
    generalize (aNl (vwK k m).2.2 : Int) = AA at *
    have o1 : 0 ≤ r * ((own k (tkN nS nC (Ta + Tb) m)).length : Int) := Int.mul_nonneg (by omega) (by omega)
    have o2 : 0 ≤ r * ((own k (tkN nS nC Rn (tkN nS nC (Ta + Tb) m))).length : Int) := Int.mul_nonneg (by omega) (by omega)
    have k5 : r * (S3 - S1) = r * (S3 - S2) + r * (S2 - S1) := by
      rw [← Int.mul_add]
      congr 1
      omega
    have x1 : 16 * (5760 + 1024 * NB + 128 * A1 + 384 * F2) + SF ≤ SB + 6144 * F2 := by omega
    have x2 := Int.mul_le_mul_of_nonneg_left x1 (show 0 ≤ r by omega)
    have x3 : r * (16 * (5760 + 1024 * NB + 128 * A1 + 384 * F2) + SF) = 16 * (r * (5760 + 1024 * NB + 128 * A1 + 384 * F2)) + r * SF := by rw [Int.mul_add, Int.mul_left_comm]
    have x4 : r * (SB + 6144 * F2) = r * SB + 6144 * (r * F2) := by rw [Int.mul_add, Int.mul_left_comm]
    have x5 : r * (SF + 4096 * A0) = r * SF + 4096 * (r * A0) := by rw [Int.mul_add, Int.mul_left_comm]
    have x6 : r * (SB + 4096 * A0) = r * SB + 4096 * (r * A0) := by rw [Int.mul_add, Int.mul_left_comm]
    rw [x5] at tk
    rw [x6] at hY
    rw [k5]
    omega
  · obtain ⟨y2, hF, hy⟩ := q.fam (W2 := WF) (mi := mf) (by rw [g5]; push_cast; omega) hr0 hX hD hfam
    have wn := win2_k (nC := nC) (Rn := Rn) hk (by rw [g2, g3]; exact hRn) hPF (by rw [g5]; push_cast; omega) (by rw [g5]; push_cast; omega) hQ2 hQ02 hK2 h4 hF (by rw [g5]; push_cast; omega) hr0 (by rw [g2, g3]; exact hrR) (by rw [g5]; push_cast; omega) (fun i hi => ⟨(hcap i (by omega)).1, hfr2 i hi⟩) ho1 hl1 ho2 hl2
    generalize fkT nS nC k (Ta + Tb) m = F0 at *
    have f1 : 0 ≤ fkT nS nC k Rn (tkN nS nC (Ta + Tb) m) := fkT_0 Rn
    have f1' : 0 ≤ r * fkT nS nC k Rn (tkN nS nC (Ta + Tb) m) := Int.mul_nonneg (by omega) f1
    generalize fkT nS nC k Rn (tkN nS nC (Ta + Tb) m) = F1 at *
    generalize fkT nS nC k Rn (tkN nS nC Rn (tkN nS nC (Ta + Tb) m)) = F2 at *
    generalize (ms (tkN nS nC (Rn + Rn) (tkN nS nC (Ta + Tb) m)) k).1 6 = S3 at *
    generalize (ms (tkN nS nC (Ta + Tb) m) k).1 6 = S2 at *
    generalize (ms m k).1 6 = S1 at *
    have k5 : r * (S3 - S1) = r * (S3 - S2) + r * (S2 - S1) := by
      rw [← Int.mul_add]
      congr 1
      omega
    rw [k5]
    omega
end TRW
