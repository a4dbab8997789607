/-! Bounds, trials: one sender alone, over all ticks of a trial -/
/-- what is left of y behind T ticks -/
def ykT (nS nC : Nat) (m : MS) (r y : Int) (k T : Nat) : Int := y + 8192 * (r * fkT nS nC k T m) + 65536 * (T : Int) - 4096 * (r * ((ms (tkN nS nC T m) k).1 6 - (ms m k).1 6))
def TZ1 (m : MS) (r : Int) (lo1 lo2 hi : Nat → Int) (SB X D : Int) (ef : Nat → Int → Nat → Int) (W : Nat → Int → Nat → Nat → Int → Int) (md : Nat → Int → Nat) (y : Int) (k : Nat) : Prop := TQ1 m r lo1 lo2 hi SB (fun _ => y) k ∨ TM1 m r lo1 lo2 hi X D ef W md (fun _ => y) k
section TRK
variable {nS nC k : Nat} {m : MS} {r SB Λ y : Int} {lo1 lo2 hi hi2 : Nat → Int} {K K2 X D Qd Qd2 m0 m1 m2 m3 : Int} {ef : Nat → Int → Nat → Int} {W : Nat → Int → Nat → Nat → Int → Int} {md : Nat → Int → Nat}
theorem TZ1.run (hk : k < nS) (hP : TNs K X D Qd m0 m1 (ef k) (W k) (md k)) (hm0 : m0 ≤ mg m 5 / 200) (hQ : hi k - lo2 k ≤ Qd) (hQ0 : 0 ≤ Qd) (hK : hi k - lo1 k + 1 ≤ K) (h4 : nS ≤ 4) (hSB : ∀ mi, m0 ≤ mi → mi ≤ m1 → 32 * max Λ 4096 + W k mi 4 0 (dvL X D Λ) ≤ SB) (h : TZ1 m r lo1 lo2 hi SB X D ef W md y k) (h0 : 0 ≤ mg m 5 + 1) (hr0 : 1 ≤ r) (hrR : r ≤ mg m 2 + mg m 3) : ∀ T : Nat, mg m 5 + T ≤ tqB → (mg m 5 + T) / 200 ≤ m1 → (∀ i, i < T → 256 * (ms (tkN nS nC i m) k).1 5 ≤ X + D ∧ lvS (ms (tkN nS nC (i + 1) m) k) ≤ Λ ∧ frOK nS nC (tkN nS nC i m) lo2 hi) → TZ1 (tkN nS nC T m) r lo1 lo2 hi SB X D ef W md (ykT nS nC m r y k T) k := by
  intro T
  induction T with
  | zero =>
    intro _ _ _
    have e : ykT nS nC m r y k 0 = y := by
      unfold ykT
      show y + 8192 * (r * 0) + 65536 * ((0 : Nat) : Int) - 4096 * (r * ((ms m k).1 6 - (ms m k).1 6)) = y
      rw [Int.sub_self]
      simp
    rw [e]
    exact h
  | succ T ih =>
    intro hT hm1 hf
    push_cast at hT hm1
    have hM2 := ih (by omega) (by omega) (fun i hi => hf i (by omega))
    have hfT := hf T (by omega)
    have g2 := tkN_g (nS := nS) (nC := nC) (m := m) (i := 2) (by decide) (by decide) (by decide) (by decide) (by decide) (by decide) T
    have g3 := tkN_g (nS := nS) (nC := nC) (m := m) (i := 3) (by decide) (by decide) (by decide) (by decide) (by decide) (by decide) T
    have g5 := tkN_5 (nS := nS) (nC := nC) (m := m) T
    have et : tkN nS nC (T + 1) m = tickM nS nC (tkN nS nC T m) := rfl
    rw [et] at hfT
    have ey : yTn nS nC (tkN nS nC T m) r (fun _ => ykT nS nC m r y k T) k = ykT nS nC m r y k (T + 1) := by
      unfold yTn ykT
      have ef2 : fkT nS nC k (T + 1) m = fkT nS nC k T m + (if fnB k (beginM (midM nS nC (tkN nS nC T m))) = true then 1 else 0) := rfl
      rw [ef2, et]
      generalize (if fnB k (beginM (midM nS nC (tkN nS nC T m))) = true then (1 : Int) else 0) = z
      generalize (ms (tickM nS nC (tkN nS nC T m)) k).1 6 = s3
      generalize (ms (tkN nS nC T m) k).1 6 = s2
      generalize (ms m k).1 6 = s1
      generalize fkT nS nC k T m = f
      have c1 : r * (s3 - s1) = r * (s3 - s2) + r * (s2 - s1) := by
        rw [← Int.mul_add]
        congr 1
        omega
      have c2 : r * (f + z) = r * f + r * z := Int.mul_add _ _ _
      have c3 : 8192 * r * z = 8192 * (r * z) := Int.mul_assoc _ _ _
      have c4 : -(4096 * r) * (s3 - s2) = -(4096 * (r * (s3 - s2))) := by rw [Int.neg_mul, Int.mul_assoc]
      rw [c1, c2, c3, c4]
      push_cast
      omega
    unfold TZ1
    rw [et]
    have cv : ∀ x : MS, (TQ1 x r lo1 lo2 hi SB (yTn nS nC (tkN nS nC T m) r (fun _ => ykT nS nC m r y k T)) k → TQ1 x r lo1 lo2 hi SB (fun _ => ykT nS nC m r y k (T + 1)) k) ∧ (TM1 x r lo1 lo2 hi X D ef W md (yTn nS nC (tkN nS nC T m) r (fun _ => ykT nS nC m r y k T)) k → TM1 x r lo1 lo2 hi X D ef W md (fun _ => ykT nS nC m r y k (T + 1)) k) := by
      intro x
      unfold TQ1 TM1
      rw [ey]
      exact ⟨fun q => q, fun q => q⟩
    rcases hM2 with q | q
    · rcases TQ1.tick (nC := nC) (ef := ef) (W := W) (md := md) hk hP (by rw [g5]; omega) (by rw [g5]; omega) h4 q (hSB _ (by rw [g5]; omega) (by rw [g5]; omega)) hfT.2.1 (by rw [g5]; omega) (by rw [g5]; omega) hr0 (by rw [g2, g3]; exact hrR) hfT.2.2 with w | w
      · exact Or.inl ((cv _).1 w)
      · exact Or.inr ((cv _).2 w)
    · exact Or.inr ((cv _).2 (TM1.tick (nC := nC) hk hP (by rw [g5]; omega) (by rw [g5]; omega) hQ hQ0 hK h4 q hfT.1 (by rw [g5]; omega) (by rw [g5]; omega) hr0 (by rw [g2, g3]; exact hrR) hfT.2.2))
theorem TZ1.lv (hP : TNs K X D Qd m0 m1 (ef k) (W k) (md k)) (hm0 : m0 ≤ mg m 5 / 200) (hm1 : mg m 5 / 200 ≤ m1) (hS : 16 * Λ ≤ SB) (hL : lvS (ms m k) ≤ Λ) (hr0 : 1 ≤ r) (h : TZ1 m r lo1 lo2 hi SB X D ef W md y k) : 16 * (r * lvS (ms m k)) ≤ y := by
  rcases h with ⟨g, hI, hY⟩ | ⟨g, th, hI, hH, hth, hIV, hY⟩ <;> dsimp only at hY
  · have a1 : 16 * lvS (ms m k) ≤ SB + 4096 * (aNl (vwK k m).2.2 : Int) := by omega
    have a2 := Int.mul_le_mul_of_nonneg_left a1 (show 0 ≤ r by omega)
    rw [Int.mul_left_comm] at a2
    omega
  · have p := tPot_lv (now := mg m 5) (v := vwK k m) (L := g.2.1) (hP.1 (mg m 5 / 200) hm0 hm1) hI.1.1.1
    have e : (vwK k m).1 = ms m k := rfl
    rw [e] at p
    have a1 : 16 * lvS (ms m k) ≤ tPH (W k (mg m 5 / 200)) X D (mg m 5) (vwK k m) g.2.1 := by
      unfold tPH
      omega
    have a2 := Int.mul_le_mul_of_nonneg_left a1 (show 0 ≤ r by omega)
    rw [Int.mul_left_comm] at a2
    omega
theorem TZ1.start (hk : k < nS) (h : GS nS m lo1 lo2 hi) : TZ1 m r lo1 lo2 hi SB X D ef W md (r * (SB + 4096 * (aNl (vwK k m).2.2 : Int)) + 65536 * (r - 1)) k := by
  obtain ⟨g, hG, hs⟩ := h k hk
  exact Or.inl ⟨g, hG, Int.le_refl _⟩
theorem TZ1.rng (h : TZ1 m r lo1 lo2 hi SB X D ef W md y k) (hh : ∀ n ∈ (vwK k m).2.2, isA n → n.2.2.2 ≤ hi2 k) : TZ1 m r lo1 lo2 hi2 SB X D ef W md y k := by
  have key : ∀ g, GBb (mg m 5) (mg m 3 - (ms m k).1 2) (mg m 2 + (ms m k).1 2) (mg m 2 + mg m 3) (lo1 k) (lo2 k) (hi k) (vwK k m) g → GBb (mg m 5) (mg m 3 - (ms m k).1 2) (mg m 2 + (ms m k).1 2) (mg m 2 + mg m 3) (lo1 k) (lo2 k) (hi2 k) (vwK k m) g := by
    intro g hG
    obtain ⟨⟨v, a1, a2, a3, a4⟩, b, c⟩ := hG
    exact ⟨⟨v, a1, a2, fun n hn hA => ⟨(a3 n hn hA).1, hh n hn hA⟩, a4⟩, b, c⟩
  rcases h with ⟨g, hI, hY⟩ | ⟨g, th, hI, hH⟩
  · exact Or.inl ⟨g, key g hI, hY⟩
  · exact Or.inr ⟨g, th, key g hI, hH⟩
theorem fkT_add {a : Nat} : ∀ b : Nat, fkT nS nC k (a + b) m = fkT nS nC k a m + fkT nS nC k b (tkN nS nC a m) := by
  intro b
  induction b with
  | zero =>
    show fkT nS nC k a m = fkT nS nC k a m + 0
    omega
  | succ b ih =>
    have e1 : fkT nS nC k (a + b + 1) m = fkT nS nC k (a + b) m + (if fnB k (beginM (midM nS nC (tkN nS nC (a + b) m))) = true then 1 else 0) := rfl
    have e2 : fkT nS nC k (b + 1) (tkN nS nC a m) = fkT nS nC k b (tkN nS nC a m) + (if fnB k (beginM (midM nS nC (tkN nS nC b (tkN nS nC a m)))) = true then 1 else 0) := rfl
    rw [← Nat.add_assoc, e1, e2, ih, tkN_add]
    omega
/-- two phases by the engine, then the last ticks (not more than the way to the server and back) by flights -/
theorem trial_k (hk : k < nS) (hP : TNs K X D Qd m0 m1 (ef k) (W k) (md k)) (hP2 : TNs K2 X D Qd2 m2 m3 (ef k) (W k) (md k)) (hm0 : m0 ≤ mg m 5 / 200) (hQ : hi k - lo2 k ≤ Qd) (hQ2 : hi2 k - lo2 k ≤ Qd2) (hQ0 : 0 ≤ Qd) (hQ02 : 0 ≤ Qd2) (hK : hi k - lo1 k + 1 ≤ K) (hK2 : hi2 k - lo1 k + 1 ≤ K2) (h4 : nS ≤ 4) (hSB : ∀ mi, m0 ≤ mi → mi ≤ m3 → 32 * max Λ 4096 + W k mi 4 0 (dvL X D Λ) ≤ SB) (hS : 16 * Λ ≤ SB) (h : GS nS m lo1 lo2 hi) (h0 : 0 ≤ mg m 5 + 1) (hr0 : 1 ≤ r) (hrR : r ≤ mg m 2 + mg m 3) {Ta Tb T2 : Nat} (hT2 : (T2 : Int) ≤ mg m 2 + mg m 3) (hT : mg m 5 + Ta + Tb + T2 ≤ tqB) (hm1 : (mg m 5 + Ta) / 200 ≤ m1) (hm2 : m2 ≤ (mg m 5 + Ta) / 200) (hm3 : (mg m 5 + Ta + Tb) / 200 ≤ m3) (hm02 : m0 ≤ m2) (hm13 : m1 ≤ m3) (hL0 : lvS (ms (tkN nS nC (Ta + Tb) m) k) ≤ Λ) (hf : ∀ i, i < Ta + Tb → 256 * (ms (tkN nS nC i m) k).1 5 ≤ X + D ∧ lvS (ms (tkN nS nC (i + 1) m) k) ≤ Λ) (hfr : ∀ i, i < Ta + Tb + T2 → frOK nS nC (tkN nS nC i m) lo2 hi) (hfb : ∀ i, i < Tb → frOK nS nC (tkN nS nC (Ta + i) m) lo2 hi2) (hh : ∀ n ∈ (vwK k (tkN nS nC Ta m)).2.2, isA n → n.2.2.2 ≤ hi2 k) :
    4096 * (r * ((ms (tkN nS nC (Ta + Tb + T2) m) k).1 6 - (ms m k).1 6)) ≤ r * (SB + 4096 * (aNl (vwK k m).2.2 : Int)) + 65536 * (r - 1) + 8192 * (r * fkT nS nC k (Ta + Tb) m) + 65536 * ((Ta + Tb : Nat) : Int) + 16 * (r * (5760 + 1024 * ((mg m 5 + Ta + Tb + T2) / 200 - (mg m 5 + Ta + Tb) / 200) + 128 * (aNl (vwK k (tkN nS nC (Ta + Tb) m)).2.2 : Int) + 384 * fkT nS nC k T2 (tkN nS nC (Ta + Tb) m))) := by
  have ha : ∀ a b : Nat, tkN nS nC (a + b) m = tkN nS nC b (tkN nS nC a m) := fun a b => tkN_add b
  have gg := fun (i : Nat) (h5 : i ≠ 5) (h14 : i ≠ 14) (h15 : i ≠ 15) (h16 : i ≠ 16) (h17 : i ≠ 17) (h18 : i ≠ 18) (T : Nat) => tkN_g (nS := nS) (nC := nC) (m := m) (i := i) h5 h14 h15 h16 h17 h18 T
  have g2a := gg 2 (by decide) (by decide) (by decide) (by decide) (by decide) (by decide) Ta
  have g3a := gg 3 (by decide) (by decide) (by decide) (by decide) (by decide) (by decide) Ta
  have g5a := tkN_5 (nS := nS) (nC := nC) (m := m) Ta
  have g2 := gg 2 (by decide) (by decide) (by decide) (by decide) (by decide) (by decide) (Ta + Tb)
  have g3 := gg 3 (by decide) (by decide) (by decide) (by decide) (by decide) (by decide) (Ta + Tb)
  have g5 := tkN_5 (nS := nS) (nC := nC) (m := m) (Ta + Tb)
  have z1 := TZ1.run (nC := nC) hk hP hm0 hQ hQ0 hK h4 (fun mi q1 q2 => hSB mi q1 (by omega)) (TZ1.start (SB := SB) (X := X) (D := D) (ef := ef) (W := W) (md := md) (r := r) hk h) h0 hr0 hrR Ta (by omega) hm1 (fun i hi => ⟨(hf i (by omega)).1, (hf i (by omega)).2, hfr i (by omega)⟩)
  have z2 := TZ1.run (nC := nC) hk hP2 (by rw [g5a]; omega) hQ2 hQ02 hK2 h4 (fun mi q1 q2 => hSB mi (by omega) q2) (z1.rng hh) (by rw [g5a]; omega) hr0 (by rw [g2a, g3a]; exact hrR) Tb (by rw [g5a]; omega) (by rw [g5a]; exact hm3) (fun i hi => by
    have a := hf (Ta + i) (by omega)
    have b := hfb i hi
    rw [Nat.add_assoc, ha, ha] at a
    rw [ha] at b
    exact ⟨a.1, a.2, b⟩)
  rw [← ha] at z2
  have hl := z2.lv hP2 (by rw [g5]; push_cast; omega) (by rw [g5]; push_cast; omega) hS hL0 hr0
  -- the last ticks
  have hR1 : 1 ≤ mg m 2 + mg m 3 := by omega
  have G1 := (GWn.start h).run (nC := nC) h4 h0 hR1 (Ta + Tb) (by push_cast; omega) (fun i hi => hfr i (by omega))
  obtain ⟨gk, hGk, -⟩ := G1 k hk
  have hFI : FI (vwK k (tkN nS nC (Ta + Tb) m)) := hGk.1.1.1
  have hfa := fkT_add (nS := nS) (nC := nC) (k := k) (m := m) (a := Ta) Tb
  have hx2 : tkN nS nC (Ta + Tb + T2) m = tkN nS nC T2 (tkN nS nC (Ta + Tb) m) := ha (Ta + Tb) T2
  rw [hx2]
  have hfr2 : ∀ i, i < T2 → frOK nS nC (tkN nS nC i (tkN nS nC (Ta + Tb) m)) lo2 hi := fun i hi => by
    have b := hfr (Ta + Tb + i) (by omega)
    rw [ha] at b
    exact b
  have ex1 : (ms (tkN nS nC Tb (tkN nS nC Ta m)) k).1 6 = (ms (tkN nS nC (Ta + Tb) m) k).1 6 := by rw [ha]
  unfold ykT at hl
  rw [ex1] at hl
  generalize hx : tkN nS nC (Ta + Tb) m = x at *
  have G2 := G1.again.run (nC := nC) h4 (by rw [g5]; push_cast; omega) (by rw [g2, g3]; exact hR1) T2 (by rw [g5]; push_cast; omega) hfr2
  have l2 := G2.lv k hk
  rw [g5] at l2
  have hs := gen_k (nC := nC) hk h4 (m := x) (T := T2) (by rw [g2, g3]; exact hT2) hFI
  have p0 : 0 ≤ lvS (ms x k) := by
    have h5 : (ms x k).1 5 = (((vwK k x).2.1.length + (vwK k x).2.2.length : Nat) : Int) := hFI.1
    unfold lvS
    omega
  have hfl : 256 * (ms (tkN nS nC T2 x) k).1 5 ≤ lvS (ms (tkN nS nC T2 x) k) := by
    unfold lvS
    omega
  push_cast at l2
  have e200 : mg m 5 + ((Ta : Int) + (Tb : Int)) + (T2 : Int) = mg m 5 + Ta + Tb + T2 := by omega
  have e201 : mg m 5 + ((Ta : Int) + (Tb : Int)) = mg m 5 + Ta + Tb := by omega
  rw [e200, e201] at l2
  generalize (mg m 5 + Ta + Tb + T2) / 200 - (mg m 5 + Ta + Tb) / 200 = nb at *
  generalize (aNl (vwK k x).2.2 : Int) = A2 at *
  generalize (aNl (vwK k m).2.2 : Int) = A1 at *
  generalize fkT nS nC k T2 x = F2 at *
  generalize fkT nS nC k Tb (tkN nS nC Ta m) = Fb at *
  generalize fkT nS nC k Ta m = Fa at *
  generalize (ms (tkN nS nC T2 x) k).1 6 = S3 at *
  generalize (ms x k).1 6 = S2 at *
  generalize (ms (tkN nS nC Ta m) k).1 6 = S1 at *
  generalize (ms m k).1 6 = S0 at *
  generalize lvS (ms x k) = V at *
  have k1 : 256 * (S3 - S2) ≤ V + (5760 + 1024 * nb + 128 * A2 + 384 * F2) := by omega
  have k2 := Int.mul_le_mul_of_nonneg_left k1 (show 0 ≤ r by omega)
  have k3 : r * (256 * (S3 - S2)) = 256 * (r * (S3 - S2)) := Int.mul_left_comm _ _ _
  rw [Int.mul_add r V] at k2
  have k5 : r * (S3 - S0) = r * (S3 - S2) + r * (S2 - S1) + r * (S1 - S0) := by
    rw [← Int.mul_add, ← Int.mul_add]
    congr 1
    omega
  have k6 : r * (Fa + Fb) = r * Fa + r * Fb := Int.mul_add _ _ _
  rw [hfa, k5, k6]
  push_cast
  omega
end TRK
