/-! Bounds, trials: a sender before its first packet of the trial -/
theorem tE_want {s : SdM} {Lf : Nat} (hk : sW s) (hw : wantsM s) (h0 : 0 ≤ s.1 5) : tE s Lf = 0 ∧ lvS s ≤ max (mW s) 512 := by
  have h2 := hw.2
  unfold tE lvS
  by_cases q : s.1 11 = -1
  · rw [mW_n q]
    exact ⟨eE_none (by omega) (Or.inr (by omega)), by omega⟩
  · have := (hk q).1
    exact ⟨eE_s (by omega), by omega⟩
def TQ1 (m : MS) (r : Int) (lo1 lo2 hi : Nat → Int) (SB : Int) (y : Nat → Int) (k : Nat) : Prop := ∃ g, GBb (mg m 5) (mg m 3 - (ms m k).1 2) (mg m 2 + (ms m k).1 2) (mg m 2 + mg m 3) (lo1 k) (lo2 k) (hi k) (vwK k m) g ∧ r * (SB + 4096 * (aNl (vwK k m).2.2 : Int)) + 65536 * (r - 1) ≤ y k
theorem aNl_hnd {now : Int} {v : SV} : aNl (hndV now v).2.2 ≤ aNl v.2.2 := by
  unfold aNl
  exact List.filter_sublist.countP_le
theorem aNl_snds {now ar : Int} {k : Nat} : ∀ (bs : List Bool) (v : SV), aNl (sndV now ar k bs v).2.2 = aNl v.2.2 := by
  intro bs
  induction bs with
  | nil => intro v; rfl
  | cons b bs ih =>
    intro v
    have ev : sndV now ar k (b :: bs) v = sndV now ar k bs (snd1 now ar k b v) := rfl
    rw [ev, ih]
    cases b with
    | true => rfl
    | false =>
      show aNl (v.2.2 ++ [(ar, k, 1, v.1.1 6)]) = aNl v.2.2
      rw [aNl_app, if_neg (show ¬ (1 : Int) = 0 by decide)]
      rfl
theorem mW_snds {now ar : Int} {k : Nat} (bs : List Bool) (v : SV) : mW (sndV now ar k bs v).1 = mW v.1 := by
  unfold mW
  rw [snd_o (by decide) (by decide) bs v, snd_o (by decide) (by decide) bs v, snd_o (by decide) (by decide) bs v]
section TZ
variable {nS nC k : Nat} {m : MS} {r SB Λ : Int} {lo1 lo2 hi : Nat → Int} {K X D Qd m0 m1 : Int} {ef : Nat → Int → Nat → Int} {W : Nat → Int → Nat → Nat → Int → Int} {md : Nat → Int → Nat} {y : Nat → Int}
theorem TQ1.tick (hk : k < nS) (hP : TNs K X D Qd m0 m1 (ef k) (W k) (md k)) (hm0 : m0 ≤ (mg m 5 + 1) / 200) (hm1 : (mg m 5 + 1) / 200 ≤ m1) (h4 : nS ≤ 4) (h : TQ1 m r lo1 lo2 hi SB y k) (hSB : 32 * max Λ 4096 + W k ((mg m 5 + 1) / 200) 4 0 (dvL X D Λ) ≤ SB) (hL : lvS (ms (tickM nS nC m) k) ≤ Λ) (h0 : 0 ≤ mg m 5 + 1) (hnow : mg m 5 + 1 ≤ tqB) (hr0 : 1 ≤ r) (hrR : r ≤ mg m 2 + mg m 3) (hf : frOK nS nC m lo2 hi) : TQ1 (tickM nS nC m) r lo1 lo2 hi SB (yTn nS nC m r y) k ∨ TM1 (tickM nS nC m) r lo1 lo2 hi X D ef W md (yTn nS nC m r y) k := by
  obtain ⟨g, hI, hY⟩ := h
  obtain ⟨bs, z, h1, h2, h3, h5, h6, h7⟩ := tick_vo (nC := nC) hk h4 (m := m)
  obtain ⟨n1, n2, n3⟩ := hP
  obtain ⟨g2, G1, G2⟩ := GBq.tick (iv := mg m 4) hI h0 hnow (by omega) rfl rfl rfl h1 h6 (fun hz x t hx => by
    rw [h7] at hx
    rw [h5] at hz
    exact hf k hk hz x t hx)
  have e2' := tick_s2 (nC := nC) hk h4 (m := m)
  have e6 : (ms (tickM nS nC m) k).1 6 = (ms m k).1 6 + bs.length := by
    have : (vwK k (tickM nS nC m)).1.1 6 = (ms m k).1 6 + bs.length := by
      rw [h2, fin_s, snd_6]
      congr 1
      show (slowM (hndV (mg m 5 + 1) (vwK k m)).1 (mg m 5 + 1) (mg m 4)).1 6 = _
      unfold slowM
      rw [begins_o (by decide) (by decide) (by decide), ends_o (by decide) (by decide) (by decide)]
      exact hnd_6 _ _
    exact this
  have ea1 := aNl_hnd (now := mg m 5 + 1) (v := vwK k m)
  have ea2 := aNl_snds (now := mg m 5 + 1) (ar := mg m 5 + 1 + mg m 2 + mg m 3) (k := k) bs (slowM (hndV (mg m 5 + 1) (vwK k m)).1 (mg m 5 + 1) (mg m 4), (hndV (mg m 5 + 1) (vwK k m)).2)
  have ea3 := aNl_finE (du := mg m 5 + 1 + mg m 2) (ar := mg m 5 + 1 + mg m 2 + mg m 3) (k := k) (z := z) h6
  have ez : (if z = true then (1 : Int) else 0) = (if fnB k (beginM (midM nS nC m)) = true then 1 else 0) := by rw [h5]
  have ezN : (((if z = true then 1 else 0) : Nat) : Int) = (if z = true then (1 : Int) else 0) := by split <;> rfl
  cases hb : bs with
  | nil =>
    left
    rw [hb] at e6
    rw [← h2] at G2 ea3
    refine ⟨g2, ?_, ?_⟩
    · rw [tick_g5, tick_g (by decide) (by decide) (by decide) (by decide) (by decide) (by decide), tick_g (by decide) (by decide) (by decide) (by decide) (by decide) (by decide), e2']
      exact G2
    · unfold yTn
      rw [e6, ← ez]
      have e7 : (ms m k).1 6 + (([] : List Bool).length : Int) - (ms m k).1 6 = 0 := by simp
      rw [e7, Int.mul_zero]
      have a1 : (aNl (vwK k (tickM nS nC m)).2.2 : Int) ≤ (aNl (vwK k m).2.2 : Int) + (if z = true then 1 else 0) := by
        rw [← ezN]
        dsimp only at *
        omega
      have a2 := Int.mul_le_mul_of_nonneg_left a1 (show 0 ≤ r by omega)
      have zz0 : 0 ≤ (if z = true then (1 : Int) else 0) := by split <;> omega
      generalize (if z = true then (1 : Int) else 0) = zz at *
      have z0 : 0 ≤ r * zz := Int.mul_nonneg (by omega) (by omega)
      have q1 : r * (SB + 4096 * (aNl (vwK k (tickM nS nC m)).2.2 : Int)) = r * SB + 4096 * (r * (aNl (vwK k (tickM nS nC m)).2.2 : Int)) := by rw [Int.mul_add, Int.mul_left_comm]
      have q2 : r * (SB + 4096 * (aNl (vwK k m).2.2 : Int)) = r * SB + 4096 * (r * (aNl (vwK k m).2.2 : Int)) := by rw [Int.mul_add, Int.mul_left_comm]
      rw [Int.mul_add] at a2
      have q3 : (8192 * r) * zz = 8192 * (r * zz) := Int.mul_assoc _ _ _
      rw [q1, q3]
      rw [q2] at hY
      omega
  | cons b bs' =>
    right
    -- before its sends
    have hw : wantsM (slowM (hndV (mg m 5 + 1) (vwK k m)).1 (mg m 5 + 1) (mg m 4)) := by
      have := h1
      rw [hb] at this
      exact this.1
    have hkW := G1.1.2.2.2.1
    have h50 : 0 ≤ (slowM (hndV (mg m 5 + 1) (vwK k m)).1 (mg m 5 + 1) (mg m 4)).1 5 := by
      have := G1.1.2.2.2.2
      unfold sdB at this
      omega
    have tw := fun Lf => tE_want (Lf := Lf) hkW hw h50
    have em : mW (ms (tickM nS nC m) k) = mW (slowM (hndV (mg m 5 + 1) (vwK k m)).1 (mg m 5 + 1) (mg m 4)) := by
      have e : (vwK k (tickM nS nC m)).1 = ms (tickM nS nC m) k := rfl
      rw [← e, h2, fin_s, mW_snds]
    have hlv : lvS (slowM (hndV (mg m 5 + 1) (vwK k m)).1 (mg m 5 + 1) (mg m 4)) ≤ max Λ 4096 := by
      have a := (tw 0).2
      unfold lvS at hL a ⊢
      omega
    have p1 := tPot_upU (now := mg m 5 + 1) (v := (slowM (hndV (mg m 5 + 1) (vwK k m)).1 (mg m 5 + 1) (mg m 4), (hndV (mg m 5 + 1) (vwK k m)).2)) (L := g2.2.1) (n1 ((mg m 5 + 1) / 200) hm0 hm1) hlv (by
      have := (tw (vF (slowM (hndV (mg m 5 + 1) (vwK k m)).1 (mg m 5 + 1) (mg m 4), (hndV (mg m 5 + 1) (vwK k m)).2))).1
      dsimp only at *
      omega) G1.1.1
    obtain ⟨-, p5⟩ := TPq.snds (n1 ((mg m 5 + 1) / 200) hm0 hm1) (k := k) (ar := mg m 5 + 1 + mg m 2 + mg m 3) bs (slowM (hndV (mg m 5 + 1) (vwK k m)).1 (mg m 5 + 1) (mg m 4), (hndV (mg m 5 + 1) (vwK k m)).2) G1 h1
    have p6 := tp_fin (W := W k ((mg m 5 + 1) / 200)) (X := X) (D := D) (now := mg m 5 + 1) (g := g2) (k := k) (z := z) (fw := mg m 2) (bk := mg m 3) h6 (s := (sndV (mg m 5 + 1) (mg m 5 + 1 + mg m 2 + mg m 3) k bs (slowM (hndV (mg m 5 + 1) (vwK k m)).1 (mg m 5 + 1) (mg m 4), (hndV (mg m 5 + 1) (vwK k m)).2)).1) (l := (sndV (mg m 5 + 1) (mg m 5 + 1 + mg m 2 + mg m 3) k bs (slowM (hndV (mg m 5 + 1) (vwK k m)).1 (mg m 5 + 1) (mg m 4), (hndV (mg m 5 + 1) (vwK k m)).2)).2.2)
    have i1 : IV (md k ((mg m 5 + 1) / 200)) (ef k ((mg m 5 + 1) / 200)) (mg m 5 + 1) (slowM (hndV (mg m 5 + 1) (vwK k m)).1 (mg m 5 + 1) (mg m 4)) (vF (slowM (hndV (mg m 5 + 1) (vwK k m)).1 (mg m 5 + 1) (mg m 4), (hndV (mg m 5 + 1) (vwK k m)).2)) g2.2.1 := by
      have t0 := (tw (vF (slowM (hndV (mg m 5 + 1) (vwK k m)).1 (mg m 5 + 1) (mg m 4), (hndV (mg m 5 + 1) (vwK k m)).2))).1
      have c := (n1 ((mg m 5 + 1) / 200) hm0 hm1).2.2.1
      refine ⟨fun _ _ => ?_, fun _ => ⟨fun b => ?_, fun _ => ?_⟩⟩
      · have := c 3
        omega
      · have := c (nuP (mg m 5 + 1) g2.2.1)
        omega
      · omega
    have i2 := IV.snds (k := k) (ar := mg m 5 + 1 + mg m 2 + mg m 3) bs (slowM (hndV (mg m 5 + 1) (vwK k m)).1 (mg m 5 + 1) (mg m 4), (hndV (mg m 5 + 1) (vwK k m)).2) G1 h1 i1
    have hHT : HT r (mg m 5 + 1 + 1 - r) (finV (mg m 5 + 1 + mg m 2) (mg m 5 + 1 + mg m 2 + mg m 3) k z (sndV (mg m 5 + 1) (mg m 5 + 1 + mg m 2 + mg m 3) k bs (slowM (hndV (mg m 5 + 1) (vwK k m)).1 (mg m 5 + 1) (mg m 4), (hndV (mg m 5 + 1) (vwK k m)).2))).1 (finV (mg m 5 + 1 + mg m 2) (mg m 5 + 1 + mg m 2 + mg m 3) k z (sndV (mg m 5 + 1) (mg m 5 + 1 + mg m 2 + mg m 3) k bs (slowM (hndV (mg m 5 + 1) (vwK k m)).1 (mg m 5 + 1) (mg m 4), (hndV (mg m 5 + 1) (vwK k m)).2))).2.2 := by
      refine HT.fin ?_
      refine HT.snds (by omega) bs _ ?_
      intro a ha _ _
      have ha : a ∈ (vwK k m).2.2.filter (fun n => decide (n.1 ≠ mg m 5 + 1)) := ha
      rw [List.mem_filter] at ha
      have b1 := hI.2.1 a ha.1
      have b2 := of_decide_eq_true ha.2
      omega
    have i3 : IV (md k ((mg m 5 + 1) / 200)) (ef k ((mg m 5 + 1) / 200)) (mg m 5 + 1) (vwK k (tickM nS nC m)).1 (vF (vwK k (tickM nS nC m))) g2.2.1 := by
      rw [h2]
      refine i2.mono ?_
      rw [fin_s, vF_fin h6]
      exact Int.le_refl _
    rw [← h2] at G2 ea3 hHT
    refine ⟨g2, mg m 5 + 1 + 1 - r, ?_, hHT, ?_, ?_, ?_⟩
    · rw [tick_g5, tick_g (by decide) (by decide) (by decide) (by decide) (by decide) (by decide), tick_g (by decide) (by decide) (by decide) (by decide) (by decide) (by decide), e2']
      exact G2
    · rw [tick_g5]
      omega
    · rw [tick_g5]
      exact i3
    · rw [tick_g5]
      unfold yTn
      rw [e6, ← ez]
      have e7 : (ms m k).1 6 + (bs.length : Int) - (ms m k).1 6 = bs.length := by omega
      rw [e7]
      have p7 : tPot (W k ((mg m 5 + 1) / 200)) X D (mg m 5 + 1) (vwK k (tickM nS nC m)) g2.2.1 = tPot (W k ((mg m 5 + 1) / 200)) X D (mg m 5 + 1) (sndV (mg m 5 + 1) (mg m 5 + 1 + mg m 2 + mg m 3) k bs (slowM (hndV (mg m 5 + 1) (vwK k m)).1 (mg m 5 + 1) (mg m 4), (hndV (mg m 5 + 1) (vwK k m)).2)) g2.2.1 := by
        rw [h2]
        exact p6
      have key : tPH (W k ((mg m 5 + 1) / 200)) X D (mg m 5 + 1) (vwK k (tickM nS nC m)) g2.2.1 + 4096 * (bs.length : Int) ≤ SB + 4096 * (aNl (vwK k m).2.2 : Int) + 8192 * (if z = true then 1 else 0) := by
        unfold tPH at p5 ⊢
        rw [p7, ← ezN]
        dsimp only at *
        omega
      have e8 : mg m 5 + 1 - (mg m 5 + 1 + 1 - r) = r - 1 := by omega
      rw [e8]
      generalize tPH (W k ((mg m 5 + 1) / 200)) X D (mg m 5 + 1) (vwK k (tickM nS nC m)) g2.2.1 = P2 at *
      generalize (bs.length : Int) = n at *
      generalize (if z = true then (1 : Int) else 0) = zz at *
      have q2 := Int.mul_le_mul_of_nonneg_left key (show 0 ≤ r by omega)
      have q3 : r * (P2 + 4096 * n) = r * P2 + 4096 * (r * n) := by rw [Int.mul_add, Int.mul_left_comm]
      have q4 : r * (SB + 4096 * (aNl (vwK k m).2.2 : Int) + 8192 * zz) = r * (SB + 4096 * (aNl (vwK k m).2.2 : Int)) + 8192 * (r * zz) := by
        rw [Int.mul_add r _ (8192 * zz), Int.mul_left_comm r 8192 zz]
      have q5 : (8192 * r) * zz = 8192 * (r * zz) := Int.mul_assoc _ _ _
      have q6 : (-(4096 * r)) * n = -(4096 * (r * n)) := by rw [Int.neg_mul, Int.mul_assoc]
      rw [q5, q6]
      omega
end TZ
