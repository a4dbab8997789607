/-! Bounds, ledger of levels: a sender, event by event -/
def lvL (K kp J1 : Int) (s : SdM) (Lf : Nat) : Int := lA kp J1 (mW s) (256 * s.1 5) (tE s Lf / K) Lf
theorem eE_le {w f : Int} {Lf : Nat} (h0 : 0 ≤ f) : eE w f Lf ≤ (256 * f) * (256 * f) := by
  unfold eE
  split
  · exact Int.mul_nonneg (by omega) (by omega)
  · have a1 : 0 ≤ (256 * f) * (256 * f) := Int.mul_nonneg (by omega) (by omega)
    have a2 : (256 * (f - 2)) * (256 * (f - 2)) ≤ (256 * f) * (256 * f) := sq_mono (by omega) (by omega)
    have a3 : 0 ≤ (2 * w) * (2 * w) := by
      rcases Int.le_total 0 w with q | q
      · exact Int.mul_nonneg (by omega) (by omega)
      · rw [← Int.neg_mul_neg]
        exact Int.mul_nonneg (by omega) (by omega)
    have a4 : 0 ≤ w * w := by
      rcases Int.le_total 0 w with q | q
      · exact Int.mul_nonneg (by omega) (by omega)
      · rw [← Int.neg_mul_neg]
        exact Int.mul_nonneg (by omega) (by omega)
    split <;> omega
section LVS
variable {K kp J1 B w1 w2 Wm F0 z H0 gr w3 Q : Int} {s : SdM} {d mi tk num : Int} {Lf Lf2 : Nat}
theorem lv_0 (hP : LPm K kp J1 B w1 w2 Wm F0 z H0) : mW s ≤ lvL K kp J1 s Lf ∧ 256 * s.1 5 ≤ lvL K kp J1 s Lf := lA_ge hP.2.1 (dv_0 hP.1 (tE_0 s Lf))
theorem lv_low (hP : LPm K kp J1 B w1 w2 Wm F0 z H0) (hw : mW s ≤ 67328) (h0 : 0 ≤ s.1 5) (hf : s.1 5 ≤ 261) : lvL K kp J1 s Lf ≤ H0 := by
  obtain ⟨c1, c2, c3, c4, c5, c6, c7, c8, c9, c10, c11, c12, c13, c14, c15, c16, c17, c18⟩ := hP
  have a := lA_le (J1 := J1) (w := mW s) (F := 256 * s.1 5) (a := tE s Lf / K) (Lf := Lf) c2
  have b := eE_le (w := mW s) (f := s.1 5) (Lf := Lf) h0
  have c := sq_mono (a := 256 * s.1 5) (b := 67328) (by omega) (by omega)
  have e := dv_le (t := tE s Lf) c1 (c := 300) (by unfold tE; omega)
  unfold lvL
  omega
theorem lv_stale (hP : LPm K kp J1 B w1 w2 Wm F0 z H0) (hI : sdB tk s) (hk : sW s) (h : num < s.1 9) : lvL K kp J1 (lostM s num) Lf ≤ lvL K kp J1 s Lf := by
  have e := lost_s h
  have e11 : (lostM s num).1 11 = s.1 11 := by rw [e]; simp [iup]
  have e4 : (lostM s num).1 4 = s.1 4 := by rw [e]; simp [iup]
  have e12 : (lostM s num).1 12 = s.1 12 := by rw [e]; simp [iup]
  have em : mW (lostM s num) = mW s := by
    unfold mW
    rw [e11, e4, e12]
  have ht := tE_stale (Lf := Lf) h (by have := mW_256 hI hk; omega)
  unfold lvL
  rw [em, lost_5]
  exact lA_less (by omega) (dv_mono hP.1 ht) hP.2.2.1
theorem lv_fresh (hP : LPm K kp J1 B w1 w2 Wm F0 z H0) (hI : sdB tk s) (hk : sW s) (h5 : 1 ≤ s.1 5) (h : ¬ num < s.1 9) : lvL K kp J1 (lostM s num) 0 ≤ max (lvL K kp J1 s (Lf + 1) - kp - 256) H0 := by
  have e := lost_f h
  have e11 : (lostM s num).1 11 = s.1 11 := by rw [e]; simp [iup]
  have e4 : (lostM s num).1 4 = halfM (s.1 4) := by rw [e]; simp [iup]
  have e12 : (lostM s num).1 12 = halfM (s.1 12) := by rw [e]; simp [iup]
  have em : mW (lostM s num) = halfM (mW s) := by
    unfold mW
    rw [e11, e4, e12]
    split <;> rfl
  have hm := mW_256 hI hk
  have ht := tE_fresh (Lf := Lf) hI hk h
  have ht0 := tE_0 (lostM s num) 0
  have hmh : 0 ≤ halfM (mW s) := by
    unfold halfM
    split <;> omega
  have hz : 0 < tE (lostM s num) 0 → 2 * halfM (mW s) < 256 * s.1 5 - 256 := by
    intro y
    unfold tE at y
    rw [em, lost_5] at y
    have := (eE_pos hmh y).2.1 rfl
    omega
  have hb : tE (lostM s num) 0 ≤ (256 * s.1 5) * (256 * s.1 5) := by
    have a := eE_le (w := mW (lostM s num)) (f := (lostM s num).1 5) (Lf := 0) (by rw [lost_5]; omega)
    rw [lost_5] at a
    have b := sq_mono (a := 256 * (s.1 5 - 1)) (b := 256 * s.1 5) (by omega) (by omega)
    unfold tE
    rw [lost_5]
    omega
  have key := lA_half (Lf := Lf) hP hm (show 256 ≤ 256 * s.1 5 by omega) ht0 ht hz hb
  unfold lvL
  rw [em, lost_5, show 256 * (s.1 5 - 1) = 256 * s.1 5 - 256 by omega]
  exact key
theorem lv_acks (hP : LPm K kp J1 B w1 w2 Wm F0 z H0) (hI : sdB tk s) (hk : sW s) (h : s.1 11 ≠ -1) : lvL K kp J1 (ackM s d mi) Lf ≤ lvL K kp J1 s Lf := by
  have ht := tE_acks (d := d) (mi := mi) (Lf := Lf) hI hk h
  unfold lvL
  rw [mW_acks h, ack_5]
  exact lA_less (by omega) (dv_mono hP.1 ht) hP.2.2.1
theorem lA_grow2 {w v F a b : Int} (hk : 0 ≤ kp) (hJ : 0 ≤ J1) (hw : 256 ≤ w) (hv : w ≤ v) (h : (v - w) * w ≤ 524288) (hab : b ≤ a) (hb0 : 0 ≤ b) (hb : 0 < b → v ≤ F - 256) (hg : 0 ≤ gr) (h30 : 0 ≤ w3) (h3 : 524288 < (gr + 1) * (w3 + 1)) (hH : w3 + 2048 + kp ≤ H0) : lA kp J1 v (F - 256) b Lf ≤ max (lA kp J1 w F a Lf + gr) H0 := by
  have g2 : v - w ≤ 2048 := by
    apply Decidable.byContradiction
    intro y
    have : 2049 * 256 ≤ (v - w) * w := Int.mul_le_mul (by omega) hw (by omega) (by omega)
    omega
  by_cases q : v - w ≤ gr
  · have := lA_grow (kp := kp) (J1 := J1) (Lf := Lf) (F := F) hv hab hJ hk
    omega
  · have hw3 : w ≤ w3 := by
      apply Decidable.byContradiction
      intro y
      have : (gr + 1) * (w3 + 1) ≤ (v - w) * w := Int.mul_le_mul (by omega) (by omega) (by omega) (by omega)
      omega
    by_cases y : v ≤ F - 256
    · unfold lA nrL
      split <;> omega
    · have b0 : b = 0 := by
        apply Decidable.byContradiction
        intro x
        exact y (hb (by omega))
      have := lA_le (J1 := J1) (w := v) (F := F - 256) (a := b) (Lf := Lf) hk
      omega
theorem lv_pos (hP : LPm K kp J1 B w1 w2 Wm F0 z H0) (hI : sdB tk s) (hn : s.1 11 = -1) (hQ0 : 0 ≤ Q) (hQ : 4194304 * Q ≤ 242 * K) (hq : 0 ≤ queueM (enterM s d mi) mi ∧ queueM (enterM s d mi) mi ≤ Q + 1) (hg : 0 ≤ gr) (h30 : 0 ≤ w3) (h3 : 524288 < (gr + 1) * (w3 + 1)) (hH : w3 + 2048 + kp ≤ H0) : lvL K kp J1 (ackM s d mi) Lf ≤ max (lvL K kp J1 s Lf + gr) H0 := by
  have st := ack_4 (d := d) (mi := mi) hI hn (Int.le_refl 0) (by omega)
  have t0 := tE_0 (ackM s d mi) Lf
  have hI2 := hI
  unfold sdB at hI2
  have hb : 0 < tE (ackM s d mi) Lf → (ackM s d mi).1 4 ≤ 256 * s.1 5 - 256 := by
    intro y
    unfold tE at y
    rw [mW_ackn hn, ack_5] at y
    have p := eE_pos (by omega) y
    by_cases hl : Lf = 0
    · have := p.2.1 hl
      omega
    · have := p.2.2.1 (by omega)
      omega
  have hb2 : 0 < tE (ackM s d mi) Lf / K → (ackM s d mi).1 4 ≤ 256 * s.1 5 - 256 := by
    intro y
    refine hb ?_
    apply Decidable.byContradiction
    intro x
    have : tE (ackM s d mi) Lf = 0 := by omega
    rw [this, Int.zero_ediv] at y
    omega
  unfold lvL
  rw [mW_n hn, mW_ackn hn, ack_5, show 256 * (s.1 5 - 1) = 256 * s.1 5 - 256 by omega]
  by_cases hv : s.1 4 ≤ (ackM s d mi).1 4
  · have te := tE_ackg (Lf := Lf) hI hn hv
    have hgw : ((ackM s d mi).1 4 - s.1 4) * s.1 4 ≤ 524288 := by
      rcases st.2.1 with y | y
      · have : (ackM s d mi).1 4 - s.1 4 = 0 := by omega
        rw [this, Int.zero_mul]
        omega
      · have := y.2
        omega
    exact lA_grow2 hP.2.1 hP.2.2.1 hI2.2.2.1.1 hv hgw (dv_mono hP.1 te) (dv_0 hP.1 t0) hb2 hg h30 h3 hH
  · have te := tE_ackd (Lf := Lf) hI hn hQ0 hq.2
    have := lA_drop (kp := kp) (J1 := J1) (Lf := Lf) (F := 256 * s.1 5) (show (ackM s d mi).1 4 ≤ s.1 4 by omega) (dv_add (t := tE (ackM s d mi) Lf) (t2 := tE s Lf) hP.1 (by omega)) hb2 (dv_0 hP.1 t0) (dv_0 hP.1 (tE_0 s Lf)) hP.2.2.1 hP.2.1
    omega
theorem lv_neg {g : Nat} (hP : LPm K kp J1 B w1 w2 Wm F0 z H0) (hI : sdB tk s) (hn : s.1 11 = -1) (h5 : 1 ≤ s.1 5) (hq : queueM (enterM s d mi) mi < 0) (hg : - (g : Int) ≤ queueM (enterM s d mi) mi) (hB : 524288 * (1 + (g : Int)) ≤ B) : lvL K kp J1 (ackM s d mi) Lf ≤ max (lvL K kp J1 s Lf + 512) H0 := by
  have n1 := (neg_w hI hn h5 hq hg).1
  have st := ack_4 (d := d) (mi := mi) (g := g) hI hn (by omega) hg
  have t0 := tE_0 (ackM s d mi) Lf
  have te := tE_ackg (Lf := Lf) hI hn n1
  have hI2 := hI
  unfold sdB at hI2
  have hgw : ((ackM s d mi).1 4 - s.1 4) * s.1 4 ≤ B := by
    rcases st.2.1 with y | y
    · have : (ackM s d mi).1 4 - s.1 4 = 0 := by omega
      rw [this, Int.zero_mul]
      omega
    · have := y.2
      omega
  have hvF : (ackM s d mi).1 4 ≤ max (s.1 4) (256 * s.1 5 + 512) := by
    rcases st.2.1 with y | y
    · omega
    · have := y.1
      omega
  have hz : 0 < tE (ackM s d mi) Lf → Lf = 0 → 2 * (ackM s d mi).1 4 < 256 * s.1 5 - 256 := by
    intro y hl
    unfold tE at y
    rw [mW_ackn hn, ack_5] at y
    have := (eE_pos (by omega) y).2.1 hl
    omega
  have ht : Lf = 0 → 15 * 256 < 256 * s.1 5 → (256 * s.1 5 - 512) * (256 * s.1 5 - 512) - 4 * (s.1 4 * s.1 4) ≤ tE s Lf := by
    intro hl hf
    have := eE_ge (w := s.1 4) (f := s.1 5) (Lf := Lf) (by omega)
    rw [if_pos hl] at this
    have e1 : (2 * s.1 4) * (2 * s.1 4) = 4 * (s.1 4 * s.1 4) := by rw [Int.mul_assoc, Int.mul_comm (s.1 4) (2 * s.1 4), Int.mul_assoc]; omega
    rw [e1, show 256 * (s.1 5 - 2) = 256 * s.1 5 - 512 by omega] at this
    unfold tE
    rw [mW_n hn]
    exact this
  have hb : tE (ackM s d mi) Lf ≤ (256 * s.1 5) * (256 * s.1 5) := by
    have a := eE_le (w := mW (ackM s d mi)) (f := (ackM s d mi).1 5) (Lf := Lf) (by rw [ack_5]; omega)
    rw [ack_5] at a
    have b := sq_mono (a := 256 * (s.1 5 - 1)) (b := 256 * s.1 5) (by omega) (by omega)
    unfold tE
    rw [ack_5]
    omega
  have key := lA_neg (Lf := Lf) hP (show 0 ≤ s.1 4 by omega) n1 (show 256 ≤ 256 * s.1 5 by omega) hvF hgw t0 te hz ht hb
  unfold lvL
  rw [mW_n hn, mW_ackn hn, ack_5, show 256 * (s.1 5 - 1) = 256 * s.1 5 - 256 by omega]
  exact key
theorem lv_send (hP : LPm K kp J1 B w1 w2 Wm F0 z H0) (hk : sW s) (hw : wantsM s) (h0 : 0 ≤ s.1 5) : lvL K kp J1 (sentM s) Lf2 ≤ max (lvL K kp J1 s Lf) H0 := by
  have e11 : (sentM s).1 11 = s.1 11 := sent_o (by decide) (by decide)
  have e4 : (sentM s).1 4 = s.1 4 := sent_o (by decide) (by decide)
  have e12 : (sentM s).1 12 = s.1 12 := sent_o (by decide) (by decide)
  have em : mW (sentM s) = mW s := by unfold mW; rw [e11, e4, e12]
  have t1 : tE (sentM s) Lf2 = 0 := tE_sent hk hw h0
  have h2 := hw.2
  have hkp := hP.2.1
  have hJ := hP.2.2.1
  unfold lvL
  rw [em, sent_5, t1, Int.zero_ediv, show 256 * (s.1 5 + 1) = 256 * s.1 5 + 256 by omega]
  by_cases y : 256 * s.1 5 + 256 ≤ mW s
  · have t0 : tE s Lf = 0 := by
      unfold tE
      exact eE_none (by omega) (Or.inr (by omega))
    rw [t0, Int.zero_ediv]
    rw [(lA_send (Lf := Lf) (Lf2 := Lf2) y hJ hkp).1, (lA_send (Lf := Lf) (Lf2 := Lf2) y hJ hkp).2]
    omega
  · by_cases q : s.1 11 = -1
    · rw [mW_n q] at y
      omega
    · have hk := hk q
      have := lA_le (J1 := J1) (w := mW s) (F := 256 * s.1 5 + 256) (a := 0) (Lf := Lf2) hkp
      have c17 := hP.2.2.2.2.2.2.2.2.2.2.2.2.2.2.2.2.1
      omega
theorem lv_ends : lvL K kp J1 (endsM s tk) Lf = lvL K kp J1 s Lf := by
  unfold lvL
  rw [mW_ends, tE_ends, ends_o (k := 5) (by decide) (by decide) (by decide)]
theorem lv_begins {iv : Int} (h0 : 0 ≤ tk) : lvL K kp J1 (beginsM s tk iv) Lf = lvL K kp J1 s Lf := by
  unfold lvL
  rw [mW_begins h0, tE_begins h0, begins_o (k := 5) (by decide) (by decide) (by decide)]
end LVS
