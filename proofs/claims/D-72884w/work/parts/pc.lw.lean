/-! Bounds, ledger by ages: a sender's level, event by event, under any scale of E -/
def LPn (K kp J1 B w1 w2 Wm F0 z H0 e0 : Int) : Prop :=
  0 < K ∧ 0 ≤ kp ∧ 0 ≤ J1 ∧ J1 ≤ 14000 ∧ B < J1 * (w2 + 1) ∧ w1 + w2 ≤ Wm ∧ B ≤ w1 * (Wm - w1) ∧ 4096 ≤ F0 ∧ 0 ≤ e0 ∧ Wm + J1 + 20 * kp + 300 ≤ F0 ∧ 2 * (J1 + 21 * kp + 300) ≤ F0 ∧ F0 * F0 ≤ K * z ∧ F0 + z ≤ H0 ∧ F0 + 512 + kp ≤ H0 ∧ 0 ≤ w1 ∧ 0 ≤ w2 ∧ 67328 + kp + e0 ≤ H0 ∧ 67328 * 67328 ≤ K * e0
theorem LPn.up {K K2 kp J1 B w1 w2 Wm F0 z H0 e0 : Int} (h : LPn K kp J1 B w1 w2 Wm F0 z H0 e0) (hK : K ≤ K2) : LPn K2 kp J1 B w1 w2 Wm F0 z H0 e0 := by
  obtain ⟨c1, c2, c3, c4, c5, c6, c7, c8, c9, c10, c11, c12, c13, c14, c15, c16, c17, c18⟩ := h
  have hz : 0 ≤ z := by
    apply Decidable.byContradiction
    intro q
    have a : K * z ≤ K * (-1) := Int.mul_le_mul_of_nonneg_left (by omega) (by omega)
    have b : 0 ≤ F0 * F0 := Int.mul_nonneg (by omega) (by omega)
    omega
  have a : K * z ≤ K2 * z := Int.mul_le_mul_of_nonneg_right hK hz
  have b : K * e0 ≤ K2 * e0 := Int.mul_le_mul_of_nonneg_right hK c9
  exact ⟨by omega, c2, c3, c4, c5, c6, c7, c8, c9, c10, c11, by omega, c13, c14, c15, c16, c17, by omega⟩
section LAN2
variable {K kp J1 B w1 w2 Wm F0 z H0 e0 w v F a b t t2 : Int} {Lf : Nat}
theorem lA_neg2 (hP : LPn K kp J1 B w1 w2 Wm F0 z H0 e0) (hw0 : 0 ≤ w) (hv : w ≤ v) (hF : 256 ≤ F) (hvF : v ≤ max w (F + 512)) (h : (v - w) * w ≤ B) (ht2 : 0 ≤ t2) (htt : t2 ≤ t) (hz : 0 < t2 → Lf = 0 → 2 * v < F - 256) (hdeep : Lf = 0 → F0 ≤ F → w ≤ w1 → kp ≤ t / K) (hb : t2 ≤ F * F) : lA kp J1 v (F - 256) (t2 / K) Lf ≤ max (lA kp J1 w F (t / K) Lf + 512) H0 := by
  obtain ⟨c1, c2, c3, c4, c5, c6, c7, c8, c9, c10, c11, c12, c13, c14, c15, c16, c17, c18⟩ := hP
  have m1 := dv_mono c1 htt
  have m0 := dv_0 c1 ht2
  have m2 := dv_0 c1 (show 0 ≤ t by omega)
  have ez : ¬ 0 < t2 → t2 / K = 0 := fun q => by
    have : t2 = 0 := by omega
    rw [this]
    exact Int.zero_ediv _
  generalize hA : t / K = A at *
  generalize hB : t2 / K = A2 at *
  by_cases hl : 1 ≤ Lf
  · unfold lA
    rw [if_pos hl, if_pos hl]
    omega
  · have hl0 : Lf = 0 := by omega
    by_cases hg : v - w ≤ J1
    · unfold lA nrL
      rw [if_neg hl, if_neg hl]
      omega
    · by_cases hF0 : F0 ≤ F
      · by_cases q : w ≤ w1
        · -- deep
          have hkA : kp ≤ A := by
            exact hdeep hl0 hF0 q
          by_cases y : 0 < t2
          · have hz := hz y hl0
            have hn : nrL kp J1 (F - 256 - v) = 0 := nrL_z (by omega)
            have hn2 := nrL_0 (kp := kp) (J1 := J1) (d := F - w)
            unfold lA
            rw [if_neg hl, if_neg hl, hn]
            omega
          · have e0 := ez y
            have hn := nrL_le (J1 := J1) (d := F - 256 - v) c2
            have hn2 := nrL_0 (kp := kp) (J1 := J1) (d := F - w)
            unfold lA
            rw [if_neg hl, if_neg hl]
            omega
        · have hv2 := lift_le (by omega) h c5 c6 c7 (by omega) c3 c15
          have hn : nrL kp J1 (F - 256 - v) = 0 := nrL_z (by omega)
          have hn2 := nrL_0 (kp := kp) (J1 := J1) (d := F - w)
          unfold lA
          rw [if_neg hl, if_neg hl, hn]
          omega
      · -- small
        have hF2 : F * F ≤ F0 * F0 := sq_mono (by omega) (by omega)
        have hz2 : A2 ≤ z := by
          rw [← hB]
          exact dv_le c1 (by omega)
        by_cases hwF : w ≤ F
        · by_cases y : 0 < t2
          · have hz := hz y hl0
            have hn := nrL_le (J1 := J1) (d := F - 256 - v) c2
            by_cases x : J1 + 20 * kp ≤ F - 256 - v
            · have hn : nrL kp J1 (F - 256 - v) = 0 := nrL_z x
              unfold lA
              rw [if_neg hl, if_neg hl, hn]
              omega
            · unfold lA
              rw [if_neg hl, if_neg hl]
              omega
          · have e0 := ez y
            have hn := nrL_le (J1 := J1) (d := F - 256 - v) c2
            unfold lA
            rw [if_neg hl, if_neg hl]
            omega
        · have hn := nrL_le (J1 := J1) (d := F - 256 - v) c2
          have hn2 := nrL_eq (J1 := J1) (d := F - w) c2 (by omega)
          have e0 := ez (fun y => by have := hz y hl0; omega)
          unfold lA
          rw [if_neg hl, if_neg hl, hn2]
          omega
theorem lA_half2 (hP : LPn K kp J1 B w1 w2 Wm F0 z H0 e0) (hw : 256 ≤ w) (hF : 256 ≤ F) (ht2 : 0 ≤ t2) (htt : t2 ≤ t) (hz : 0 < t2 → 2 * halfM w < F - 256) (hb : t2 ≤ F * F) : lA kp J1 (halfM w) (F - 256) (t2 / K) 0 ≤ max (lA kp J1 w F (t / K) (Lf + 1) - kp - 256) H0 := by
  obtain ⟨c1, c2, c3, c4, c5, c6, c7, c8, c9, c10, c11, c12, c13, c14, c15, c16, c17, c18⟩ := hP
  have m1 := dv_mono c1 htt
  have m0 := dv_0 c1 ht2
  have m2 := dv_0 c1 (show 0 ≤ t by omega)
  have ez : ¬ 0 < t2 → t2 / K = 0 := fun q => by
    have : t2 = 0 := by omega
    rw [this]
    exact Int.zero_ediv _
  have hh : halfM w = if w / 2 < 256 then 256 else w / 2 := rfl
  have hh2 : halfM w ≤ w ∧ 2 * halfM w ≤ max w 512 ∧ 256 ≤ halfM w := by
    rw [hh]
    split <;> omega
  generalize halfM w = u at *
  generalize hA : t / K = A at *
  generalize hB : t2 / K = A2 at *
  unfold lA
  rw [if_pos (show 1 ≤ Lf + 1 by omega), if_neg (show ¬ 1 ≤ 0 by omega)]
  have hn := nrL_le (J1 := J1) (d := F - 256 - u) c2
  by_cases hF0 : F0 ≤ F
  · by_cases q : u ≤ F - 256
    · unfold nrL
      omega
    · have e0 := ez (fun y => by have := hz y; omega)
      omega
  · have hF2 : F * F ≤ F0 * F0 := sq_mono (by omega) (by omega)
    have hz2 : A2 ≤ z := by
      rw [← hB]
      exact dv_le c1 (by omega)
    by_cases y : 0 < t2
    · have hz := hz y
      by_cases x : J1 + 20 * kp ≤ F - 256 - u
      · have hn : nrL kp J1 (F - 256 - u) = 0 := nrL_z x
        rw [hn]
        omega
      · omega
    · have e0 := ez y
      omega
end LAN2
section LWS
variable {K kp J1 B w1 w2 Wm F0 z H0 e0 gr w3 Q : Int} {s : SdM} {d mi tk num : Int} {Lf Lf2 : Nat}
theorem lw_0 (hP : LPn K kp J1 B w1 w2 Wm F0 z H0 e0) : mW s ≤ lvL K kp J1 s Lf ∧ 256 * s.1 5 ≤ lvL K kp J1 s Lf := lA_ge hP.2.1 (dv_0 hP.1 (tE_0 s Lf))
theorem lw_low (hP : LPn K kp J1 B w1 w2 Wm F0 z H0 e0) (hw : mW s ≤ 67328) (h0 : 0 ≤ s.1 5) (hf : s.1 5 ≤ 261) : lvL K kp J1 s Lf ≤ H0 := by
  obtain ⟨c1, c2, c3, c4, c5, c6, c7, c8, c9, c10, c11, c12, c13, c14, c15, c16, c17, c18⟩ := hP
  have a := lA_le (J1 := J1) (w := mW s) (F := 256 * s.1 5) (a := tE s Lf / K) (Lf := Lf) c2
  have b := eE_le (w := mW s) (f := s.1 5) (Lf := Lf) h0
  have c := sq_mono (a := 256 * s.1 5) (b := 67328) (by omega) (by omega)
  have e := dv_le (t := tE s Lf) c1 (c := e0) (by unfold tE; omega)
  unfold lvL
  omega
theorem lw_stale (hP : LPn K kp J1 B w1 w2 Wm F0 z H0 e0) (hI : sdB tk s) (hk : sW s) (h : num < s.1 9) : lvL K kp J1 (lostM s num) Lf ≤ lvL K kp J1 s Lf := by
  have e := lost_s h
  have e11 : (lostM s num).1 11 = s.1 11 := by rw [e]; simp [iup]
  have e4 : (lostM s num).1 4 = s.1 4 := by rw [e]; simp [iup]
  have e12 : (lostM s num).1 12 = s.1 12 := by rw [e]; simp [iup]
  have em : mW (lostM s num) = mW s := by
    unfold mW
    rw [e11, e4, e12]
  have ht := tE_stale (Lf := Lf) h (by have := mW_256 hI hk; omega)
  unfold lvL
  rw [em, lost_5]
  exact lA_less (by omega) (dv_mono hP.1 ht) hP.2.2.1
theorem lw_fresh (hP : LPn K kp J1 B w1 w2 Wm F0 z H0 e0) (hI : sdB tk s) (hk : sW s) (h5 : 1 ≤ s.1 5) (h : ¬ num < s.1 9) : lvL K kp J1 (lostM s num) 0 ≤ max (lvL K kp J1 s (Lf + 1) - kp - 256) H0 := by
  have e := lost_f h
  have e11 : (lostM s num).1 11 = s.1 11 := by rw [e]; simp [iup]
  have e4 : (lostM s num).1 4 = halfM (s.1 4) := by rw [e]; simp [iup]
  have e12 : (lostM s num).1 12 = halfM (s.1 12) := by rw [e]; simp [iup]
  have em : mW (lostM s num) = halfM (mW s) := by
    unfold mW
    rw [e11, e4, e12]
    split <;> rfl
  have hm := mW_256 hI hk
  have ht := tE_fresh (Lf := Lf) hI hk h
  have ht0 := tE_0 (lostM s num) 0
  have hmh : 0 ≤ halfM (mW s) := by
    unfold halfM
    split <;> omega
  have hz : 0 < tE (lostM s num) 0 → 2 * halfM (mW s) < 256 * s.1 5 - 256 := by
    intro y
    unfold tE at y
    rw [em, lost_5] at y
    have := (eE_pos hmh y).2.1 rfl
    omega
  have hb : tE (lostM s num) 0 ≤ (256 * s.1 5) * (256 * s.1 5) := by
    have a := eE_le (w := mW (lostM s num)) (f := (lostM s num).1 5) (Lf := 0) (by rw [lost_5]; omega)
    rw [lost_5] at a
    have b := sq_mono (a := 256 * (s.1 5 - 1)) (b := 256 * s.1 5) (by omega) (by omega)
    unfold tE
    rw [lost_5]
    omega
  have key := lA_half2 (Lf := Lf) hP hm (show 256 ≤ 256 * s.1 5 by omega) ht0 ht hz hb
  unfold lvL
  rw [em, lost_5, show 256 * (s.1 5 - 1) = 256 * s.1 5 - 256 by omega]
  exact key
theorem lw_acks (hP : LPn K kp J1 B w1 w2 Wm F0 z H0 e0) (hI : sdB tk s) (hk : sW s) (h : s.1 11 ≠ -1) : lvL K kp J1 (ackM s d mi) Lf ≤ lvL K kp J1 s Lf := by
  have ht := tE_acks (d := d) (mi := mi) (Lf := Lf) hI hk h
  unfold lvL
  rw [mW_acks h, ack_5]
  exact lA_less (by omega) (dv_mono hP.1 ht) hP.2.2.1
theorem lw_pos (hP : LPn K kp J1 B w1 w2 Wm F0 z H0 e0) (hI : sdB tk s) (hn : s.1 11 = -1) (hQ0 : 0 ≤ Q) (hQ : 4194304 * Q ≤ 242 * K) (hq : 0 ≤ queueM (enterM s d mi) mi ∧ queueM (enterM s d mi) mi ≤ Q + 1) (hg : 0 ≤ gr) (h30 : 0 ≤ w3) (h3 : 524288 < (gr + 1) * (w3 + 1)) (hH : w3 + 2048 + kp ≤ H0) : lvL K kp J1 (ackM s d mi) Lf ≤ max (lvL K kp J1 s Lf + gr) H0 := by
  have st := ack_4 (d := d) (mi := mi) hI hn (Int.le_refl 0) (by omega)
  have t0 := tE_0 (ackM s d mi) Lf
  have hI2 := hI
  unfold sdB at hI2
  have hb : 0 < tE (ackM s d mi) Lf → (ackM s d mi).1 4 ≤ 256 * s.1 5 - 256 := by
    intro y
    unfold tE at y
    rw [mW_ackn hn, ack_5] at y
    have p := eE_pos (by omega) y
    by_cases hl : Lf = 0
    · have := p.2.1 hl
      omega
    · have := p.2.2.1 (by omega)
      omega
  have hb2 : 0 < tE (ackM s d mi) Lf / K → (ackM s d mi).1 4 ≤ 256 * s.1 5 - 256 := by
    intro y
    refine hb ?_
    apply Decidable.byContradiction
    intro x
    have : tE (ackM s d mi) Lf = 0 := by omega
    rw [this, Int.zero_ediv] at y
    omega
  unfold lvL
  rw [mW_n hn, mW_ackn hn, ack_5, show 256 * (s.1 5 - 1) = 256 * s.1 5 - 256 by omega]
  by_cases hv : s.1 4 ≤ (ackM s d mi).1 4
  · have te := tE_ackg (Lf := Lf) hI hn hv
    have hgw : ((ackM s d mi).1 4 - s.1 4) * s.1 4 ≤ 524288 := by
      rcases st.2.1 with y | y
      · have : (ackM s d mi).1 4 - s.1 4 = 0 := by omega
        rw [this, Int.zero_mul]
        omega
      · have := y.2
        omega
    exact lA_grow2 hP.2.1 hP.2.2.1 hI2.2.2.1.1 hv hgw (dv_mono hP.1 te) (dv_0 hP.1 t0) hb2 hg h30 h3 hH
  · have te := tE_ackd (Lf := Lf) hI hn hQ0 hq.2
    have := lA_drop (kp := kp) (J1 := J1) (Lf := Lf) (F := 256 * s.1 5) (show (ackM s d mi).1 4 ≤ s.1 4 by omega) (dv_add (t := tE (ackM s d mi) Lf) (t2 := tE s Lf) hP.1 (by omega)) hb2 (dv_0 hP.1 t0) (dv_0 hP.1 (tE_0 s Lf)) hP.2.2.1 hP.2.1
    omega
theorem lw_neg {g : Nat} (hP : LPn K kp J1 B w1 w2 Wm F0 z H0 e0) (hI : sdB tk s) (hn : s.1 11 = -1) (h5 : 1 ≤ s.1 5) (hq : queueM (enterM s d mi) mi < 0) (hg : - (g : Int) ≤ queueM (enterM s d mi) mi) (hB : 524288 * (1 + (g : Int)) ≤ B) (hdeep : Lf = 0 → F0 ≤ 256 * s.1 5 → s.1 4 ≤ w1 → kp ≤ tE s Lf / K) : lvL K kp J1 (ackM s d mi) Lf ≤ max (lvL K kp J1 s Lf + 512) H0 := by
  have n1 := (neg_w hI hn h5 hq hg).1
  have st := ack_4 (d := d) (mi := mi) (g := g) hI hn (by omega) hg
  have t0 := tE_0 (ackM s d mi) Lf
  have te := tE_ackg (Lf := Lf) hI hn n1
  have hI2 := hI
  unfold sdB at hI2
  have hgw : ((ackM s d mi).1 4 - s.1 4) * s.1 4 ≤ B := by
    rcases st.2.1 with y | y
    · have : (ackM s d mi).1 4 - s.1 4 = 0 := by omega
      rw [this, Int.zero_mul]
      omega
    · have := y.2
      omega
  have hvF : (ackM s d mi).1 4 ≤ max (s.1 4) (256 * s.1 5 + 512) := by
    rcases st.2.1 with y | y
    · omega
    · have := y.1
      omega
  have hz : 0 < tE (ackM s d mi) Lf → Lf = 0 → 2 * (ackM s d mi).1 4 < 256 * s.1 5 - 256 := by
    intro y hl
    unfold tE at y
    rw [mW_ackn hn, ack_5] at y
    have := (eE_pos (by omega) y).2.1 hl
    omega
  have hb : tE (ackM s d mi) Lf ≤ (256 * s.1 5) * (256 * s.1 5) := by
    have a := eE_le (w := mW (ackM s d mi)) (f := (ackM s d mi).1 5) (Lf := Lf) (by rw [ack_5]; omega)
    rw [ack_5] at a
    have b := sq_mono (a := 256 * (s.1 5 - 1)) (b := 256 * s.1 5) (by omega) (by omega)
    unfold tE
    rw [ack_5]
    omega
  have key := lA_neg2 (Lf := Lf) hP (show 0 ≤ s.1 4 by omega) n1 (show 256 ≤ 256 * s.1 5 by omega) hvF hgw t0 te hz hdeep hb
  unfold lvL
  rw [mW_n hn, mW_ackn hn, ack_5, show 256 * (s.1 5 - 1) = 256 * s.1 5 - 256 by omega]
  exact key
theorem lw_send (hP : LPn K kp J1 B w1 w2 Wm F0 z H0 e0) (hk : sW s) (hw : wantsM s) (h0 : 0 ≤ s.1 5) : lvL K kp J1 (sentM s) Lf2 ≤ max (lvL K kp J1 s Lf) H0 := by
  have e11 : (sentM s).1 11 = s.1 11 := sent_o (by decide) (by decide)
  have e4 : (sentM s).1 4 = s.1 4 := sent_o (by decide) (by decide)
  have e12 : (sentM s).1 12 = s.1 12 := sent_o (by decide) (by decide)
  have em : mW (sentM s) = mW s := by unfold mW; rw [e11, e4, e12]
  have t1 : tE (sentM s) Lf2 = 0 := tE_sent hk hw h0
  have h2 := hw.2
  have hkp := hP.2.1
  have hJ := hP.2.2.1
  unfold lvL
  rw [em, sent_5, t1, Int.zero_ediv, show 256 * (s.1 5 + 1) = 256 * s.1 5 + 256 by omega]
  by_cases y : 256 * s.1 5 + 256 ≤ mW s
  · have t0 : tE s Lf = 0 := by
      unfold tE
      exact eE_none (by omega) (Or.inr (by omega))
    rw [t0, Int.zero_ediv]
    rw [(lA_send (Lf := Lf) (Lf2 := Lf2) y hJ hkp).1, (lA_send (Lf := Lf) (Lf2 := Lf2) y hJ hkp).2]
    omega
  · by_cases q : s.1 11 = -1
    · rw [mW_n q] at y
      omega
    · have hk := hk q
      have := lA_le (J1 := J1) (w := mW s) (F := 256 * s.1 5 + 256) (a := 0) (Lf := Lf2) hkp
      have c17 := hP.2.2.2.2.2.2.2.2.2.2.2.2.2.2.2.2.1
      have c9 := hP.2.2.2.2.2.2.2.2.1
      omega
/-- what E is at least -/
theorem tE_deep {F0 w1 : Int} (hn : s.1 11 = -1) (h0 : 0 ≤ s.1 4) (hl : Lf = 0) (h15 : 4096 ≤ F0) (hF : F0 ≤ 256 * s.1 5) (hw : s.1 4 ≤ w1) : (F0 - 512) * (F0 - 512) - 4 * (w1 * w1) ≤ tE s Lf := by
  have := eE_ge (w := s.1 4) (f := s.1 5) (Lf := Lf) (by omega)
  rw [if_pos hl] at this
  have e1 : (2 * s.1 4) * (2 * s.1 4) = 4 * (s.1 4 * s.1 4) := by rw [Int.mul_assoc, Int.mul_comm (s.1 4) (2 * s.1 4), Int.mul_assoc]; omega
  rw [e1, show 256 * (s.1 5 - 2) = 256 * s.1 5 - 512 by omega] at this
  have s1 := sq_mono (a := s.1 4) (b := w1) h0 hw
  have s2 := sq_mono (a := F0 - 512) (b := 256 * s.1 5 - 512) (by omega) (by omega)
  unfold tE
  rw [mW_n hn]
  omega
theorem lw_up {K2 : Int} (hK : 0 < K) (h : K ≤ K2) : lvL K2 kp J1 s Lf ≤ lvL K kp J1 s Lf := by
  have t0 := tE_0 s Lf
  have : tE s Lf / K2 ≤ tE s Lf / K := by
    rw [Int.le_ediv_iff_mul_le hK]
    have a1 := Int.ediv_mul_le (tE s Lf) (show K2 ≠ 0 by omega)
    have a2 : tE s Lf / K2 * K ≤ tE s Lf / K2 * K2 := Int.mul_le_mul_of_nonneg_left h (Int.ediv_nonneg t0 (by omega))
    omega
  unfold lvL lA
  omega
theorem lw_cv {K2 c : Int} (h : 25 * (tE s Lf / K) ≤ 25 * (tE s Lf / K2) + c) : 25 * lvL K kp J1 s Lf ≤ 25 * lvL K2 kp J1 s Lf + c := by
  unfold lvL lA
  omega
end LWS
