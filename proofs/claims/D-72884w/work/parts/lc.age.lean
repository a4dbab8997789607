/-! Bounds, ledger of levels: a view with the clocks of its halvings -/
section CB0
variable {now c dl R lo hi : Int} {s : SdM} {o : List Int} {l l1 l2 : List NtM} {n : NtM} {g : Gh}
theorem CB.lost0 (h : CB now c dl R lo hi s o (l1 ++ n :: l2) g) (hn : ¬ isA n) : CB now c dl R lo hi (lostM s n.2.2.2) o (l1 ++ l2) g := ⟨h.1.lost hn, h.2.lost⟩
theorem CB.ack0 (h : CB now c dl R lo hi s o (l1 ++ n :: l2) g) (hn : isA n) (ht : n.1 = now) (hl : ∀ a ∈ l1, now < a.1) (hr : ∀ a ∈ l2, now ≤ a.1) : CB now c dl R lo hi (ackM s n.2.2.2 (now / 200)) o (l1 ++ l2) (stepG tqB T0B now s.2.1 g n) := ⟨h.1.ack hn ht hl hr, h.2.ack hn⟩
theorem CB.snd0 {k : Nat} {b : Bool} {ar : Int} (h : CB now c dl R lo hi s o l g) (hw : wantsM s) : CB now c dl R lo hi (snd1 now ar k b (s, o, l)).1 (snd1 now ar k b (s, o, l)).2.1 (snd1 now ar k b (s, o, l)).2.2 g := by
  refine ⟨h.1.snd hw, ?_⟩
  cases b with
  | true => exact h.2.same rfl
  | false => exact RG.app (h.2.same (s2 := sentM s) rfl) (fun z => absurd z (show ¬ (1 : Int) = 0 by decide))
theorem CB.fin0 {k : Nat} {z : Bool} {fw bk : Int} (h : CB now c dl R lo hi s o l g) (hz : z = true → o ≠ []) (hc : c = bk - s.1 2) (hd : dl = fw + s.1 2) (hR : R = fw + bk) (hr : z = true → ∀ x t, o = x :: t → lo ≤ now + fw - x + s.1 2 ∧ now + fw - x + s.1 2 ≤ hi) : CB now c dl R lo hi (finV (now + fw) (now + fw + bk) k z (s, o, l)).1 (finV (now + fw) (now + fw + bk) k z (s, o, l)).2.1 (finV (now + fw) (now + fw + bk) k z (s, o, l)).2.2 g := by
  have hV2 := VM.fin (k := k) (z := z) h.1 hz hc hd hR
  cases z with
  | false => exact h
  | true =>
    cases ho : o with
    | nil => exact absurd ho (hz rfl)
    | cons x t =>
      rw [ho] at hV2 h
      rw [fin_t (du := now + fw) (ar := now + fw + bk) (k := k) (x := x) (t := t) (v := (s, x :: t, l)) rfl] at hV2 ⊢
      exact ⟨hV2, RG.app h.2 (fun _ => hr rfl x t ho)⟩
theorem CB.ends0 (h : CB now c dl R lo hi s o l g) : CB now c dl R lo hi (endsM s now) o l g := by
  refine ⟨h.1.ends, RG.only h.2 ?_ ?_⟩
  · unfold endsM
    split
    · rfl
    · split <;> rfl
  · intro j v hj
    unfold endsM at hj
    split at hj
    · exact hj
    · split at hj
      · exact hj
      · exact only_sub hj
theorem CB.begins0 {iv : Int} (h : CB now c dl R lo hi s o l g) (h0 : 0 ≤ now) : CB now c dl R lo hi (beginsM s now iv) o l g := by
  refine ⟨h.1.begins h0, RG.same h.2 ?_⟩
  unfold beginsM
  split <;> rfl
theorem CB.nxt0 (h : CB now c dl R lo hi s o l g) : CB (now + 1) c dl R lo hi s o l g := ⟨h.1.nxt, h.2.nxt⟩
end CB0
/-- th: the last halving; ed: when a fresh loss comes in at the latest -/
def AgI (now th ed : Int) (s : SdM) (l : List NtM) : Prop := th ≤ now ∧ (∀ n ∈ l, n.1 ≤ now + 200) ∧ (∀ n ∈ l, ¬ isA n → n.2.2.2 < s.1 9 → n.1 ≤ th + 200) ∧ (1 ≤ lFl (s.1 9) l → ed ≤ now + 200 ∧ ∃ n ∈ l, ¬ isA n ∧ s.1 9 ≤ n.2.2.2 ∧ n.1 ≤ ed)
/-- ticks left to the next halving -/
def rmN (now th ed : Int) (Lf : Nat) : Int := if 1 ≤ Lf then ed - now else 200 + max 0 (th + 262 - now)
def OH (K kp J1 de gr now th ed : Int) (v : SV) (L : List EnF) : Int := 25 * lvL K kp J1 v.1 (vF v) + 12800 * (nuP now L : Int) + 128 * (now % 200) + de * rmN now th ed (vF v) + 25 * (gr * (aNl v.2.2 : Int))
/-- the numbers of a ledger at work: gr what another acknowledgment may add, Q the range of the delays, de what a tick brings back -/
def LQ (K kp J1 B w1 w2 Wm F0 z H0 gr w3 Q de : Int) : Prop := LPm K kp J1 B w1 w2 Wm F0 z H0 ∧ 0 ≤ Q ∧ 4194304 * Q ≤ 242 * K ∧ 524288 * (1 + Q) ≤ B ∧ 0 ≤ gr ∧ 0 ≤ w3 ∧ 524288 < (gr + 1) * (w3 + 1) ∧ w3 + 2048 + kp ≤ H0 ∧ 0 ≤ de ∧ 462 * de ≤ 25 * (kp + 256)
def bmN (H0 de gr : Int) : Int := 25 * H0 + 63872 + 462 * de + 5000 * gr
/-- while notices of now come in: where a window that counts may be great -/
def MID (t th : Int) (v : SV) : Prop := (v.1.1 11 ≠ -1 → v.1.1 11 ≤ t + 60 ∧ (1 ≤ vF v ∨ v.1.1 11 ≤ th + 262 ∨ mW v.1 ≤ 67328)) ∧ (v.1.1 11 = -1 → 1 ≤ vF v ∨ t ≤ th + 202 ∨ (mW v.1 ≤ 67328 ∧ v.1.1 5 ≤ 261))
theorem oh_low {lv H0 de gr r m : Int} {n a : Nat} (h : lv ≤ H0) (hn : n ≤ 3) (hm : m ≤ 199) (hr : r ≤ 462) (hd : 0 ≤ de) (hg : 0 ≤ gr) (ha : a ≤ 200) : 25 * lv + 12800 * (n : Int) + 128 * m + de * r + 25 * (gr * (a : Int)) ≤ bmN H0 de gr := by
  have a1 : de * r ≤ de * 462 := Int.mul_le_mul_of_nonneg_left hr hd
  have a2 : gr * (a : Int) ≤ gr * 200 := Int.mul_le_mul_of_nonneg_left (by omega) hg
  unfold bmN
  omega
theorem rmN_le {now th ed : Int} {s : SdM} {o : List Int} {l : List NtM} (h : AgI now th ed s l) : rmN now th ed (vF (s, o, l)) ≤ 462 := by
  unfold rmN
  split
  · rename_i q
    have := (h.2.2.2 q).1
    omega
  · have := h.1
    omega
theorem rmN_0 {now th ed : Int} {s : SdM} {o : List Int} {l : List NtM} (h : AgI now th ed s l) (hl : ∀ a ∈ l, now ≤ a.1) : 0 ≤ rmN now th ed (vF (s, o, l)) := by
  unfold rmN
  split
  · rename_i q
    obtain ⟨-, n, hn, -, -, h4⟩ := h.2.2.2 q
    have := hl n hn
    omega
  · omega
section LGE
variable {now c dl R lo hi th ed : Int} {s : SdM} {o : List Int} {l l1 l2 : List NtM} {n : NtM} {g : Gh} {K kp J1 B w1 w2 Wm F0 z H0 gr w3 Q de : Int}
theorem AgI.stale (h : AgI now th ed s (l1 ++ n :: l2)) (hn : ¬ isA n) (y : n.2.2.2 < s.1 9) : AgI now th ed (lostM s n.2.2.2) (l1 ++ l2) := by
  obtain ⟨a1, a2, a3, a4⟩ := h
  refine ⟨a1, fun b hb => a2 b (mid_mem hb), fun b hb => ?_, fun q => ?_⟩
  · rw [lost_9s y]
    exact a3 b (mid_mem hb)
  · rw [lost_9s y] at q ⊢
    have q2 : 1 ≤ lFl (s.1 9) (l1 ++ n :: l2) := by
      rw [lFl_mid]
      omega
    obtain ⟨b1, m, hm, b2, b3, b4⟩ := a4 q2
    refine ⟨b1, m, ?_, b2, b3, b4⟩
    rcases List.mem_append.mp hm with w | w
    · exact List.mem_append_left _ w
    · rcases List.mem_cons.mp w with x | x
      · rw [x] at b3
        omega
      · exact List.mem_append_right _ x
theorem AgI.fresh (h : AgI now th ed s (l1 ++ n :: l2)) (hF : FI (s, o, l1 ++ n :: l2)) (y : ¬ n.2.2.2 < s.1 9) : AgI now now ed (lostM s n.2.2.2) (l1 ++ l2) := by
  obtain ⟨a1, a2, a3, a4⟩ := h
  refine ⟨Int.le_refl _, fun b hb => a2 b (mid_mem hb), fun b hb _ _ => a2 b (mid_mem hb), fun q => ?_⟩
  have : lFl ((lostM s n.2.2.2).1 9) (l1 ++ l2) = 0 := by
    rw [lost_9f y]
    exact lFl_0 (fun a ha hz => hF.2.2 a (mid_mem ha) hz)
  omega
theorem AgI.ack {d mi : Int} (h : AgI now th ed s (l1 ++ n :: l2)) (hn : isA n) : AgI now th ed (ackM s d mi) (l1 ++ l2) := by
  have e9 : (ackM s d mi).1 9 = s.1 9 := ack_o (by decide) (by decide) (by decide)
  obtain ⟨a1, a2, a3, a4⟩ := h
  refine ⟨a1, fun b hb => a2 b (mid_mem hb), fun b hb => ?_, fun q => ?_⟩
  · rw [e9]
    exact a3 b (mid_mem hb)
  · rw [e9] at q ⊢
    have q2 : 1 ≤ lFl (s.1 9) (l1 ++ n :: l2) := by
      rw [lFl_mid]
      omega
    obtain ⟨b1, m, hm, b2, b3, b4⟩ := a4 q2
    refine ⟨b1, m, ?_, b2, b3, b4⟩
    rcases List.mem_append.mp hm with w | w
    · exact List.mem_append_left _ w
    · rcases List.mem_cons.mp w with x | x
      · rw [x] at b2
        exact absurd hn b2
      · exact List.mem_append_right _ x
/-- a notice of now: a stale loss -/
theorem OH.stale (hP : LQ K kp J1 B w1 w2 Wm F0 z H0 gr w3 Q de) (h : CB now c dl R lo hi s o (l1 ++ n :: l2) g) (hn : ¬ isA n) (y : n.2.2.2 < s.1 9) : OH K kp J1 de gr now th ed (lostM s n.2.2.2, o, l1 ++ l2) g.2.1 ≤ OH K kp J1 de gr now th ed (s, o, l1 ++ n :: l2) g.2.1 := by
  have e := vF_stale (o := o) (l1 := l1) (l2 := l2) y
  have hlv := lv_stale (Lf := vF (s, o, l1 ++ n :: l2)) hP.1 h.1.2.2.2.2 h.1.2.2.2.1 y
  have ea : aNl (l1 ++ n :: l2) = aNl (l1 ++ l2) := by
    have z : ¬ n.2.2.1 = 0 := hn
    rw [aNl_mid, if_neg z]
    rfl
  unfold OH
  rw [← e]
  dsimp only
  rw [ea]
  omega
theorem OH.fresh (hP : LQ K kp J1 B w1 w2 Wm F0 z H0 gr w3 Q de) (h : CB now c dl R lo hi s o (l1 ++ n :: l2) g) (hA : AgI now th ed s (l1 ++ n :: l2)) (hn : ¬ isA n) (y : ¬ n.2.2.2 < s.1 9) (hl : ∀ a ∈ l1 ++ n :: l2, now ≤ a.1) (ha : aNl (l1 ++ l2) ≤ 200) : OH K kp J1 de gr now now ed (lostM s n.2.2.2, o, l1 ++ l2) g.2.1 ≤ max (OH K kp J1 de gr now th ed (s, o, l1 ++ n :: l2) g.2.1) (bmN H0 de gr) := by
  have q := vF_fresh h.1.1 hn y
  have hF1 := fl_mid h.1.1
  have hlv := lv_fresh (Lf := lFl (s.1 9) (l1 ++ l2)) hP.1 h.1.2.2.2.2 h.1.2.2.2.1 (show 1 ≤ s.1 5 by omega) y
  have r0 := rmN_0 (o := o) hA hl
  obtain ⟨-, -, -, -, hg, -, -, -, hd, hr⟩ := hP
  have ea : aNl (l1 ++ n :: l2) = aNl (l1 ++ l2) := by
    have z : ¬ n.2.2.1 = 0 := hn
    rw [aNl_mid, if_neg z]
    rfl
  have h3 := nuP_3 (now := now) (L := g.2.1)
  have hr0 : 0 ≤ de * rmN now th ed (vF (s, o, l1 ++ n :: l2)) := Int.mul_nonneg hd r0
  have er : rmN now now ed 0 = 462 := by
    unfold rmN
    rw [if_neg (by omega)]
    omega
  rcases (show lvL K kp J1 (lostM s n.2.2.2) 0 ≤ H0 ∨ lvL K kp J1 (lostM s n.2.2.2) 0 ≤ lvL K kp J1 s (lFl (s.1 9) (l1 ++ l2) + 1) - kp - 256 by omega) with w | w
  · have := oh_low (m := now % 200) (r := 462) (a := aNl (l1 ++ l2)) w h3 (by omega) (by omega) hd hg ha
    unfold OH
    rw [q.1, er]
    dsimp only
    omega
  · unfold OH at *
    rw [q.1, er]
    rw [q.2] at hr0 ⊢
    dsimp only
    rw [ea]
    have e2 : de * 462 = 462 * de := Int.mul_comm _ _
    omega
/-- an acknowledgment of now -/
theorem OH.ack (hP : LQ K kp J1 B w1 w2 Wm F0 z H0 gr w3 Q de) (h : CB now c dl R lo hi s o (l1 ++ n :: l2) g) (hA : AgI now th ed s (l1 ++ n :: l2)) (hn : isA n) (ht : n.1 = now) (hQ : hi - lo ≤ Q) (ha : aNl (l1 ++ l2) ≤ 200) : OH K kp J1 de gr now th ed (ackM s n.2.2.2 (now / 200), o, l1 ++ l2) (stepG tqB T0B now s.2.1 g n).2.1 ≤ max (OH K kp J1 de gr now th ed (s, o, l1 ++ n :: l2) g.2.1) (bmN H0 de gr) := by
  obtain ⟨hV, hR⟩ := h
  have hI := hV.2.2.2.2
  have hk := hV.2.2.2.1
  have hS := hV.2.2.1
  have hst := (hV.stor hn ht).1
  have rq := hR.q hn
  have hF1 := fl_mid hV.1
  obtain ⟨eu, ef⟩ := ack_uf (s := s) (o := o) (l1 := l1) (l2 := l2) (mi := now / 200) hn
  have eg : stepG tqB T0B now s.2.1 g n = (kaN tqB now g.1 n, ackL tqB T0B now n.2.2.2 g.2.1, ackF tqB T0B now s.2.1 g.2.2) := if_pos ⟨ht, hn⟩
  have hA2 := hA.ack (d := n.2.2.2) (mi := now / 200) hn
  have r2 := rmN_le (o := o) hA2
  rw [eg] at hst ⊢
  dsimp only at hst ⊢
  have hn1 := nuP_ack (d := n.2.2.2) hS
  have h3 := nuP_3 (now := now) (L := ackL tqB T0B now n.2.2.2 g.2.1)
  obtain ⟨hP1, hQ0, hQK, hQB, hg, hw3, hgr, hgH, hd, hr⟩ := hP
  have ea : aNl (l1 ++ n :: l2) = aNl (l1 ++ l2) + 1 := by
    have z : n.2.2.1 = 0 := hn
    rw [aNl_mid, if_pos z]
  have ega : gr * (aNl (l1 ++ n :: l2) : Int) = gr * (aNl (l1 ++ l2) : Int) + gr := by
    rw [ea]
    push_cast
    rw [Int.mul_add, Int.mul_one]
  have h5 : 1 ≤ s.1 5 := by omega
  have main : ∀ e : Int, lvL K kp J1 (ackM s n.2.2.2 (now / 200)) (vF (ackM s n.2.2.2 (now / 200), o, l1 ++ l2)) ≤ max (lvL K kp J1 s (vF (ackM s n.2.2.2 (now / 200), o, l1 ++ l2)) + e) H0 → 25 * e + 12800 * (nuP now (ackL tqB T0B now n.2.2.2 g.2.1) : Int) ≤ 12800 * (nuP now g.2.1 : Int) + 25 * gr → OH K kp J1 de gr now th ed (ackM s n.2.2.2 (now / 200), o, l1 ++ l2) (ackL tqB T0B now n.2.2.2 g.2.1) ≤ max (OH K kp J1 de gr now th ed (s, o, l1 ++ n :: l2) g.2.1) (bmN H0 de gr) := by
    intro e k1 k2
    rcases (show lvL K kp J1 (ackM s n.2.2.2 (now / 200)) (vF (ackM s n.2.2.2 (now / 200), o, l1 ++ l2)) ≤ H0 ∨ lvL K kp J1 (ackM s n.2.2.2 (now / 200)) (vF (ackM s n.2.2.2 (now / 200), o, l1 ++ l2)) ≤ lvL K kp J1 s (vF (ackM s n.2.2.2 (now / 200), o, l1 ++ l2)) + e by omega) with w | w
    · have := oh_low (m := now % 200) (r := rmN now th ed (vF (ackM s n.2.2.2 (now / 200), o, l1 ++ l2))) (a := aNl (l1 ++ l2)) w h3 (by omega) r2 hd hg ha
      unfold OH
      dsimp only
      omega
    · unfold OH
      rw [ef]
      dsimp only
      rw [ega]
      omega
  by_cases hs : s.1 11 = -1
  · by_cases hneg : queueM (enterM s n.2.2.2 (now / 200)) (now / 200) < 0
    · have hin := neg_in hS hst hneg
      rw [if_pos hin] at hn1
      refine main 512 (lv_neg (g := (hi - lo).toNat) hP1 hI hs h5 hneg (by omega) ?_) (by omega)
      have : 524288 * (1 + ((hi - lo).toNat : Int)) ≤ 524288 * (1 + Q) := by omega
      omega
    · exact main gr (lv_pos hP1 hI hs hQ0 hQK (by omega) hg hw3 hgr hgH) (by omega)
  · refine main 0 ?_ (by omega)
    have := lv_acks (d := n.2.2.2) (mi := now / 200) (Lf := vF (ackM s n.2.2.2 (now / 200), o, l1 ++ l2)) hP1 hI hk hs
    omega
end LGE
