/-! Bounds, mode C: E of a sender, event by event; what negative acknowledgments cost -/
def mW (s : SdM) : Int := if s.1 11 = -1 then s.1 4 else s.1 12
def tE (s : SdM) (Lf : Nat) : Int := eE (mW s) (s.1 5) Lf
theorem mW_n {s : SdM} (h : s.1 11 = -1) : mW s = s.1 4 := if_pos h
theorem mW_s {s : SdM} (h : s.1 11 ≠ -1) : mW s = s.1 12 := if_neg h
theorem mW_256 {tk : Int} {s : SdM} (hI : sdB tk s) (hk : sW s) : 256 ≤ mW s := by
  unfold sdB at hI
  by_cases q : s.1 11 = -1
  · rw [mW_n q]; omega
  · rw [mW_s q]; exact (hk q).2
theorem tE_0 (s : SdM) (Lf : Nat) : 0 ≤ tE s Lf := eE_0 _ _ _
theorem tE_sent {s : SdM} {Lf : Nat} (hk : sW s) (hw : wantsM s) (h0 : 0 ≤ s.1 5) : tE (sentM s) Lf = 0 := by
  have e11 : (sentM s).1 11 = s.1 11 := sent_o (by decide) (by decide)
  have e4 : (sentM s).1 4 = s.1 4 := sent_o (by decide) (by decide)
  have e12 : (sentM s).1 12 = s.1 12 := sent_o (by decide) (by decide)
  have e5 : (sentM s).1 5 = s.1 5 + 1 := sent_5
  have h2 := hw.2
  unfold tE
  rw [e5]
  by_cases q : s.1 11 = -1
  · rw [mW_n (e11.trans q), e4]
    exact eE_none (by omega) (Or.inr (by omega))
  · have := (hk q).1
    exact eE_s (by omega)
theorem tE_stale {s : SdM} {num : Int} {Lf : Nat} (h : num < s.1 9) (hm : 0 ≤ mW s) : tE (lostM s num) Lf ≤ tE s Lf := by
  have e := lost_s h
  have e11 : (lostM s num).1 11 = s.1 11 := by rw [e]; simp [iup]
  have e4 : (lostM s num).1 4 = s.1 4 := by rw [e]; simp [iup]
  have e12 : (lostM s num).1 12 = s.1 12 := by rw [e]; simp [iup]
  have em : mW (lostM s num) = mW s := by
    unfold mW
    rw [e11, e4, e12]
  unfold tE
  rw [em, lost_5]
  exact eE_mono hm (Int.le_refl _) (by omega)
theorem tE_fresh {s : SdM} {num tk : Int} {Lf : Nat} (hI : sdB tk s) (hk : sW s) (h : ¬ num < s.1 9) : tE (lostM s num) 0 ≤ tE s (Lf + 1) := by
  have e := lost_f h
  have e11 : (lostM s num).1 11 = s.1 11 := by rw [e]; simp [iup]
  have e4 : (lostM s num).1 4 = halfM (s.1 4) := by rw [e]; simp [iup]
  have e12 : (lostM s num).1 12 = halfM (s.1 12) := by rw [e]; simp [iup]
  have em : mW (lostM s num) = halfM (mW s) := by
    unfold mW
    rw [e11, e4, e12]
    split <;> rfl
  have hm := mW_256 hI hk
  unfold tE
  rw [em, lost_5]
  have := eE_half (w := mW s) (v := halfM (mW s)) (f := s.1 5 - 1) (Lf := Lf) hm (by unfold halfM; split <;> omega)
  rw [show s.1 5 - 1 + 1 = s.1 5 by omega] at this
  exact this
theorem tE_ends {s : SdM} {tk : Int} {Lf : Nat} : tE (endsM s tk) Lf = tE s Lf := by
  have e5 : (endsM s tk).1 5 = s.1 5 := ends_o (by decide) (by decide) (by decide)
  unfold tE
  rw [e5]
  congr 1
  unfold mW endsM
  by_cases q : s.1 11 = -1
  · rw [if_pos q]
  · rw [if_neg q]
    by_cases q2 : tk < s.1 11
    · rw [if_pos q2]
    · rw [if_neg q2]
      have a : (iup (iup (iup s.1 4 (s.1 12)) 11 (-1)) 10 tk) 11 = -1 := by simp [iup]
      have b : (iup (iup (iup s.1 4 (s.1 12)) 11 (-1)) 10 tk) 4 = s.1 12 := by simp [iup]
      dsimp only
      rw [if_pos a, b, if_neg q]
theorem tE_begins {s : SdM} {tk iv : Int} {Lf : Nat} (h0 : 0 ≤ tk) : tE (beginsM s tk iv) Lf = tE s Lf := by
  have e5 : (beginsM s tk iv).1 5 = s.1 5 := begins_o (by decide) (by decide) (by decide)
  unfold tE
  rw [e5]
  congr 1
  unfold mW beginsM
  split
  · rename_i q
    have a : (iup (iup (iup s.1 12 (s.1 4)) 4 512) 11 (tk + 60)) 11 = tk + 60 := by simp [iup]
    have b : (iup (iup (iup s.1 12 (s.1 4)) 4 512) 11 (tk + 60)) 12 = s.1 4 := by simp [iup]
    dsimp only
    rw [if_neg (show ¬ (iup (iup (iup s.1 12 (s.1 4)) 4 512) 11 (tk + 60)) 11 = -1 by rw [a]; omega), b, if_pos q.2.2.1]
  · rfl
section TACK
variable {s : SdM} {d mi tk : Int} {U Lf : Nat}
theorem mW_acks (h : s.1 11 ≠ -1) : mW (ackM s d mi) = mW s := by
  have e11 : (ackM s d mi).1 11 = s.1 11 := ack_o (by decide) (by decide) (by decide)
  have e12 : (ackM s d mi).1 12 = s.1 12 := ack_o (by decide) (by decide) (by decide)
  rw [mW_s h, mW_s (by rw [e11]; exact h), e12]
theorem mW_ackn (h : s.1 11 = -1) : mW (ackM s d mi) = (ackM s d mi).1 4 := by
  have e11 : (ackM s d mi).1 11 = s.1 11 := ack_o (by decide) (by decide) (by decide)
  rw [mW_n (e11.trans h)]
theorem tE_acks (hI : sdB tk s) (hk : sW s) (h : s.1 11 ≠ -1) : tE (ackM s d mi) Lf ≤ tE s Lf := by
  unfold tE
  rw [mW_acks h, ack_5]
  exact eE_mono (by have := mW_256 hI hk; omega) (Int.le_refl _) (by omega)
theorem tE_ackd (hI : sdB tk s) (h : s.1 11 = -1) {q : Int} (hq0 : 0 ≤ q) (hq : queueM (enterM s d mi) mi ≤ q + 1) : tE (ackM s d mi) Lf ≤ tE s Lf + 4194304 * q := by
  have hd := ack_4d hI h hq0 hq
  have hv := (ack_4 (d := d) (mi := mi) (g := q + (-(queueM (enterM s d mi) mi)).toNat) hI h (by omega) (by omega)).1
  unfold tE
  rw [mW_n h, mW_ackn h, ack_5]
  unfold sdB at hI
  exact eE_drop (by omega) (by omega) hq0 hd (by omega)
theorem tE_ackg (hI : sdB tk s) (h : s.1 11 = -1) (hv : s.1 4 ≤ (ackM s d mi).1 4) : tE (ackM s d mi) Lf ≤ tE s Lf := by
  unfold tE
  rw [mW_n h, mW_ackn h, ack_5]
  unfold sdB at hI
  exact eE_mono (by omega) hv (by omega)
/-- where E lies above zero behind it, an acknowledgment takes one -/
theorem ps_tdrop (hI : sdB tk s) (hk : sW s) (h5 : 1 ≤ s.1 5) (hE : 0 < tE (ackM s d mi) Lf) : PS (ackM s d mi) U Lf + 1 ≤ PS s (U + 1) Lf := by
  have e11 : (ackM s d mi).1 11 = s.1 11 := ack_o (by decide) (by decide) (by decide)
  have e12 : (ackM s d mi).1 12 = s.1 12 := ack_o (by decide) (by decide) (by decide)
  have e5 : (ackM s d mi).1 5 = s.1 5 - 1 := ack_5
  have f1 : (s.1 5).toNat = ((ackM s d mi).1 5).toNat + 1 := by omega
  have hm : 256 ≤ mW (ackM s d mi) := by
    by_cases q : s.1 11 = -1
    · rw [mW_ackn q]
      exact (ack_4 (d := d) (mi := mi) (g := (-(queueM (enterM s d mi) mi)).toNat) hI q (by omega) (by omega)).1
    · rw [mW_acks q]
      exact mW_256 hI hk
  have p := eE_pos (by omega) hE
  by_cases q : s.1 11 = -1
  · rw [mW_ackn q] at p hm
    rw [PS_n q, PS_n (e11.trans q), f1]
    refine pb_drop (by omega) (fun hl => ?_) (fun hl => ?_)
    · have := p.2.1 hl
      unfold wP
      omega
    · have := p.2.2.1 hl
      unfold wP
      omega
  · have hk := hk q
    have e4 : (ackM s d mi).1 4 = s.1 4 := ack_4s q
    rw [mW_acks q, mW_s q] at p hm
    rw [PS_s q, PS_s (by rw [e11]; exact q), f1, e4, e12]
    have b1 : PB (wP (s.1 12)) ((ackM s d mi).1 5).toNat U Lf + 1 ≤ PB (wP (s.1 12)) (((ackM s d mi).1 5).toNat + 1) (U + 1) Lf := by
      refine pb_drop (by omega) (fun hl => ?_) (fun hl => ?_)
      · have := p.2.1 hl
        unfold wP
        omega
      · have := p.2.2.1 hl
        unfold wP
        omega
    have b2 : PB (max (wP (s.1 4)) (wP (s.1 12))) ((ackM s d mi).1 5).toNat U Lf + 1 ≤ PB (max (wP (s.1 4)) (wP (s.1 12))) (((ackM s d mi).1 5).toNat + 1) (U + 1) Lf := by
      have : wP (s.1 4) ≤ 2 := by unfold wP; omega
      refine pb_drop (by omega) (fun hl => ?_) (fun hl => ?_)
      · have := p.2.1 hl
        have : 2 * wP (s.1 12) ≤ ((ackM s d mi).1 5).toNat := by unfold wP; omega
        omega
      · have := p.2.2.1 hl
        have : wP (s.1 12) ≤ ((ackM s d mi).1 5).toNat := by unfold wP; omega
        omega
    unfold PL
    omega
end TACK
