/-! Bounds, short ways behind a setTimes: losses of packets sent before (numbers below n0) counted apart -/
def oLo (n0 : Int) (l : List NtM) : Nat := l.countP (fun n => decide (¬ n.2.2.1 = 0 ∧ n.2.2.2 < n0))
/-- new losses on the way, fresh ones of them -/
def nLo (n0 : Int) (l : List NtM) : Nat := lFl n0 l
abbrev vFo (n0 : Int) (v : SV) : Nat := lFl (max (v.1.1 9) n0) v.2.2
def PVo (n0 : Int) (v : SV) : Nat := max (PS v.1 (vU v) (vFo n0 v)) ((v.1.1 5).toNat + oLo n0 v.2.2)
theorem oLo_app {n0 : Int} {l : List NtM} {n : NtM} : oLo n0 (l ++ [n]) = oLo n0 l + if ¬ n.2.2.1 = 0 ∧ n.2.2.2 < n0 then 1 else 0 := by
  unfold oLo
  rw [List.countP_append, List.countP_singleton]
  simp only [decide_eq_true_eq]
theorem oLo_cons {n0 : Int} {l : List NtM} {n : NtM} : oLo n0 (n :: l) = oLo n0 l + if ¬ n.2.2.1 = 0 ∧ n.2.2.2 < n0 then 1 else 0 := by
  unfold oLo
  rw [List.countP_cons]
  simp only [decide_eq_true_eq]
theorem oLo_mid {n0 : Int} {l1 l2 : List NtM} {n : NtM} : oLo n0 (l1 ++ n :: l2) = oLo n0 (l1 ++ l2) + if ¬ n.2.2.1 = 0 ∧ n.2.2.2 < n0 then 1 else 0 := by
  have e : ∀ a b : List NtM, oLo n0 (a ++ b) = oLo n0 a + oLo n0 b := fun a b => List.countP_append
  rw [e, e, oLo_cons]
  omega
/-- acknowledgments, new losses, old losses: all that is on the way -/
theorem aOn_len {n0 : Int} : ∀ l : List NtM, aNl l + lFl n0 l + oLo n0 l = l.length := by
  intro l
  induction l with
  | nil => rfl
  | cons n l ih =>
    rw [aNl_cons, lFl_cons, oLo_cons, List.length_cons]
    by_cases q : n.2.2.1 = 0
    · rw [if_pos q, if_neg (fun z => z.1 q), if_neg (fun z => z.1 q)]
      omega
    · rw [if_neg q]
      by_cases z : n.2.2.2 < n0
      · rw [if_neg (fun w => by have := w.2; omega), if_pos ⟨q, z⟩]
        omega
      · rw [if_pos ⟨q, by omega⟩, if_neg (fun w => z w.2)]
        omega
theorem lFl_max {rc n0 : Int} : ∀ l : List NtM, lFl (max rc n0) l ≤ lFl n0 l := by
  intro l
  induction l with
  | nil => exact Nat.le_refl _
  | cons n l ih =>
    rw [lFl_cons, lFl_cons]
    by_cases q : ¬ n.2.2.1 = 0 ∧ max rc n0 ≤ n.2.2.2
    · rw [if_pos q, if_pos ⟨q.1, by omega⟩]
      omega
    · rw [if_neg q]
      split <;> omega
theorem FI.o {n0 : Int} {v : SV} (h : FI v) : (v.1.1 5).toNat = vU v + nLo n0 v.2.2 + oLo n0 v.2.2 ∧ vU v + vFo n0 v + oLo n0 v.2.2 ≤ (v.1.1 5).toNat := by
  have a := aOn_len (n0 := n0) v.2.2
  have b := lFl_max (rc := v.1.1 9) (n0 := n0) v.2.2
  have h1 := h.1
  unfold nLo
  constructor
  · show _ = v.2.1.length + aNl v.2.2 + _ + _
    omega
  · show v.2.1.length + aNl v.2.2 + lFl (max (v.1.1 9) n0) v.2.2 + _ ≤ _
    omega
theorem pb_half0 {W f U : Nat} : PB (max 1 (W / 2)) f U 0 ≤ PB W (f + 1) U 0 + 14 := by
  have a1 := PB_1 W (f + 1) U 0
  have a2 := PB_2 W (f + 1) U 0
  rw [mB_0] at a1
  refine PB_le ?_ (by omega) (fun u => ?_)
  · rw [mB_0]
    by_cases q : 1 ≤ W
    · have := phB_m (a := max 1 (W / 2)) (b := W) (by omega)
      omega
    · have := phB_m (a := max 1 (W / 2)) (b := 1) (by omega)
      have p1 : phB 1 = 4 := rfl
      omega
  · have := uuB_0 (max 1 (W / 2)) f
    omega
theorem pl_half0 {W K f U : Nat} : PL (max 1 (W / 2)) (max 1 (K / 2)) f U 0 ≤ PL W K (f + 1) U 0 + 14 := by
  have a := pb_half0 (W := K) (f := f) (U := U)
  have b := pb_half0 (W := max W K) (f := f) (U := U)
  have e : max (max 1 (W / 2)) (max 1 (K / 2)) = max 1 (max W K / 2) := by omega
  unfold PL
  rw [e]
  omega
/-- a fresh old loss, where no new one is fresh -/
theorem ps_half0 {s : SdM} {num tk : Int} {U : Nat} (hI : sdB tk s) (h : ¬ num < s.1 9) (h5 : 1 ≤ (s.1 5).toNat) : PS (lostM s num) U 0 ≤ PS s U 0 + 14 := by
  unfold sdB at hI
  obtain ⟨i0, i1, i4, i5⟩ := hI
  have e := lost_f (s := s) (num := num) h
  have e5 := lost_5 (s := s) (num := num)
  have e4 : (lostM s num).1 4 = halfM (s.1 4) := by rw [e]; simp [iup]
  have e11 : (lostM s num).1 11 = s.1 11 := by rw [e]; simp [iup]
  have e12 : (lostM s num).1 12 = halfM (s.1 12) := by rw [e]; simp [iup]
  have f1 : (s.1 5).toNat = ((lostM s num).1 5).toNat + 1 := by omega
  by_cases q : s.1 11 = -1
  · rw [PS_n q, PS_n (e11.trans q), e4, f1, wP_half (by omega)]
    exact pb_half0
  · rw [PS_s q, PS_s (by rw [e11]; exact q), e4, e12, f1, wP_half (by omega)]
    by_cases k : 0 ≤ s.1 12
    · rw [wP_half k]
      exact pl_half0
    · have e2 : wP (halfM (s.1 12)) = max 1 (wP (s.1 12) / 2) := by
        unfold wP halfM
        split <;> omega
      rw [e2]
      exact pl_half0
/-- a sender that wants to send: its potential is above twice the flight -/
theorem ps_2f {s : SdM} {U Lf : Nat} (hw : wantsM s) (h0 : 0 ≤ s.1 5) : 2 * ((s.1 5).toNat + 1) ≤ PS s U Lf + (U + Lf) := by
  have hf : (s.1 5).toNat < wP (s.1 4) := by
    have h2 := hw.2
    unfold wP
    omega
  by_cases q : s.1 11 = -1
  · rw [PS_n q]
    have a := PB_1 (wP (s.1 4)) (s.1 5).toNat U Lf
    have b := phB_2 (mB (wP (s.1 4)) (s.1 5).toNat Lf)
    have c : wP (s.1 4) ≤ mB (wP (s.1 4)) (s.1 5).toNat Lf := by
      unfold mB
      split <;> omega
    omega
  · rw [PS_s q]
    have a := PB_1 (max (wP (s.1 4)) (wP (s.1 12))) (s.1 5).toNat U Lf
    have b := phB_2 (mB (max (wP (s.1 4)) (wP (s.1 12))) (s.1 5).toNat Lf)
    have c : wP (s.1 4) ≤ mB (max (wP (s.1 4)) (wP (s.1 12))) (s.1 5).toNat Lf := by
      unfold mB
      split <;> omega
    unfold PL
    omega
section OLD
variable {n0 now ar tk mi : Int} {k : Nat} {b : Bool} {s : SdM} {o : List Int} {l l1 l2 : List NtM} {n : NtM} {v : SV}
/-- a packet sent -/
theorem pVo_snd1 (h : FI v) (hk : sW v.1) (hw : wantsM v.1) (h0 : n0 ≤ v.1.1 6) : PVo n0 (snd1 now ar k b v) + 1 ≤ PVo n0 v := by
  have hx := (h.o (n0 := n0)).2
  have h5 : 0 ≤ v.1.1 5 := by rw [h.1]; omega
  have p := ps_send (U := vU v) (Lf := vFo n0 v) hk hw h5 (by omega)
  have e9 : (sentM v.1).1 9 = v.1.1 9 := sent_o (by decide) (by decide)
  have t := ps_2f (U := vU v) (Lf := vFo n0 v) hw h5
  have e5 : ((sentM v.1).1 5).toNat = (v.1.1 5).toNat + 1 := by rw [sent_5]; omega
  cases b with
  | true =>
    have e : vU (snd1 now ar k true v) = vU v + 1 := by
      show (v.2.1 ++ [now]).length + aNl v.2.2 = v.2.1.length + aNl v.2.2 + 1
      rw [List.length_append, List.length_singleton]
      omega
    have e2 : vFo n0 (snd1 now ar k true v) = vFo n0 v := by
      show lFl (max ((sentM v.1).1 9) n0) v.2.2 = _
      rw [e9]
    have e3 : ((snd1 now ar k true v).1.1 5).toNat = (v.1.1 5).toNat + 1 := e5
    have e4 : (snd1 now ar k true v).2.2 = v.2.2 := rfl
    unfold PVo
    rw [e, e2, e3, e4]
    have p1 : PS (snd1 now ar k true v).1 (vU v + 1) (vFo n0 v) + 1 ≤ PS v.1 (vU v) (vFo n0 v) := p.1
    omega
  | false =>
    have e : vU (snd1 now ar k false v) = vU v := by
      show v.2.1.length + aNl (v.2.2 ++ [(ar, k, 1, v.1.1 6)]) = _
      rw [aNl_app, if_neg (show ¬ (1 : Int) = 0 by decide)]
      rfl
    have e2 : vFo n0 (snd1 now ar k false v) = vFo n0 v + 1 := by
      show lFl (max ((sentM v.1).1 9) n0) (v.2.2 ++ [(ar, k, 1, v.1.1 6)]) = _
      rw [e9, lFl_app, if_pos (show ¬ (1 : Int) = 0 ∧ max (v.1.1 9) n0 ≤ v.1.1 6 from ⟨by decide, by have := h.2.1; omega⟩)]
    have e3 : ((snd1 now ar k false v).1.1 5).toNat = (v.1.1 5).toNat + 1 := e5
    have e4 : oLo n0 (snd1 now ar k false v).2.2 = oLo n0 v.2.2 := by
      show oLo n0 (v.2.2 ++ [(ar, k, 1, v.1.1 6)]) = _
      rw [oLo_app, if_neg (show ¬ (¬ (1 : Int) = 0 ∧ v.1.1 6 < n0) from fun z => by have := z.2; omega)]
      rfl
    unfold PVo
    rw [e, e2, e3, e4]
    have p1 : PS (snd1 now ar k false v).1 (vU v) (vFo n0 v + 1) + 1 ≤ PS v.1 (vU v) (vFo n0 v) := p.2.1
    omega
/-- a packet finished -/
theorem pVo_fin {du ar : Int} {z : Bool} (hz : z = true → v.2.1 ≠ []) : PVo n0 (finV du ar k z v) = PVo n0 v := by
  cases z with
  | false => rfl
  | true =>
    cases hv : v.2.1 with
    | nil => exact absurd hv (hz rfl)
    | cons x t =>
      rw [fin_t hv]
      have eu : vU (v.1, t, v.2.2 ++ [(ar, k, 0, du - x + v.1.1 2)]) = vU v := by
        show t.length + aNl (v.2.2 ++ [(ar, k, 0, du - x + v.1.1 2)]) = v.2.1.length + aNl v.2.2
        rw [aNl_app, if_pos rfl, hv, List.length_cons]
        omega
      have ef : vFo n0 (v.1, t, v.2.2 ++ [(ar, k, 0, du - x + v.1.1 2)]) = vFo n0 v := by
        show lFl (max (v.1.1 9) n0) (v.2.2 ++ [(ar, k, 0, du - x + v.1.1 2)]) = lFl (max (v.1.1 9) n0) v.2.2
        rw [lFl_app, if_neg (fun z => z.1 rfl)]
        rfl
      have eo : oLo n0 (v.2.2 ++ [((ar, k, 0, du - x + v.1.1 2) : NtM)]) = oLo n0 v.2.2 := by
        rw [oLo_app, if_neg (fun z => z.1 rfl)]
        rfl
      unfold PVo
      rw [eu, ef]
      dsimp only
      rw [eo]
/-- a loss comes in: the first fresh old one may cost 14, a fresh new one 1 -/
theorem pVo_lost (h : FI (s, o, l1 ++ n :: l2)) (hI : sdB tk s) (hk : sW s) (hn : ¬ n.2.2.1 = 0) : PVo n0 (lostM s n.2.2.2, o, l1 ++ l2) ≤ PVo n0 (s, o, l1 ++ n :: l2) + (if n.2.2.2 < s.1 9 then 0 else if n.2.2.2 < n0 then 14 else 1) := by
  have hx := (h.o (n0 := n0)).2
  obtain ⟨h1, h2, h3⟩ := h
  have h1 : s.1 5 = ((o.length + (l1 ++ n :: l2).length : Nat) : Int) := h1
  have h3 : ∀ a ∈ l1 ++ n :: l2, ¬ a.2.2.1 = 0 → a.2.2.2 < s.1 6 := h3
  have hx : o.length + aNl (l1 ++ n :: l2) + lFl (max (s.1 9) n0) (l1 ++ n :: l2) + oLo n0 (l1 ++ n :: l2) ≤ (s.1 5).toNat := hx
  rw [aNl_mid, if_neg hn, lFl_mid, oLo_mid] at hx
  have eu : vU (s, o, l1 ++ n :: l2) = vU (lostM s n.2.2.2, o, l1 ++ l2) := by
    show o.length + aNl (l1 ++ n :: l2) = o.length + aNl (l1 ++ l2)
    rw [aNl_mid, if_neg hn]
    rfl
  have hp : 1 ≤ (s.1 5).toNat := by
    rw [h1, mid_len]
    omega
  have e5 : ((lostM s n.2.2.2).1 5).toNat + 1 = (s.1 5).toNat := by
    rw [lost_5]
    omega
  have bank : ((lostM s n.2.2.2).1 5).toNat + oLo n0 (l1 ++ l2) ≤ (s.1 5).toNat + oLo n0 (l1 ++ n :: l2) := by
    rw [oLo_mid]
    omega
  unfold PVo
  rw [eu]
  dsimp only
  by_cases z : n.2.2.2 < s.1 9
  · rw [if_pos z]
    have ef : vFo n0 (s, o, l1 ++ n :: l2) = vFo n0 (lostM s n.2.2.2, o, l1 ++ l2) := by
      show lFl (max (s.1 9) n0) (l1 ++ n :: l2) = lFl (max ((lostM s n.2.2.2).1 9) n0) (l1 ++ l2)
      rw [lFl_mid, lost_9s z, if_neg (fun w => by have := w.2; omega)]
      rfl
    rw [ef]
    have p := (ps_stale (U := vU (lostM s n.2.2.2, o, l1 ++ l2)) (Lf := vFo n0 (lostM s n.2.2.2, o, l1 ++ l2)) z hp).1
    omega
  · rw [if_neg z]
    have ef2 : vFo n0 (lostM s n.2.2.2, o, l1 ++ l2) = 0 := by
      show lFl (max ((lostM s n.2.2.2).1 9) n0) (l1 ++ l2) = 0
      rw [lost_9f z]
      exact lFl_0 (fun a ha hz => by have := h3 a (mid_mem ha) hz; omega)
    rw [ef2]
    by_cases y : n.2.2.2 < n0
    · rw [if_pos y]
      have ef : vFo n0 (s, o, l1 ++ n :: l2) = lFl (max (s.1 9) n0) (l1 ++ l2) := by
        show lFl (max (s.1 9) n0) (l1 ++ n :: l2) = _
        rw [lFl_mid, if_neg (fun w => by have := w.2; omega)]
        rfl
      rw [ef]
      rw [if_neg (fun w => by have := w.2; omega)] at hx
      cases hf : lFl (max (s.1 9) n0) (l1 ++ l2) with
      | zero =>
        have p := ps_half0 (U := vU (lostM s n.2.2.2, o, l1 ++ l2)) hI z hp
        omega
      | succ F =>
        rw [hf] at hx
        have p := (ps_fresh (U := vU (lostM s n.2.2.2, o, l1 ++ l2)) (Lf := F) hI hk z (by
          show o.length + aNl (l1 ++ l2) + _ ≤ _
          omega)).1
        omega
    · rw [if_neg y]
      have ef : vFo n0 (s, o, l1 ++ n :: l2) = lFl (max (s.1 9) n0) (l1 ++ l2) + 1 := by
        show lFl (max (s.1 9) n0) (l1 ++ n :: l2) = _
        rw [lFl_mid, if_pos ⟨hn, by omega⟩]
      rw [ef]
      rw [if_pos ⟨hn, by omega⟩] at hx
      have p := (ps_fresh (U := vU (lostM s n.2.2.2, o, l1 ++ l2)) (Lf := lFl (max (s.1 9) n0) (l1 ++ l2)) hI hk z (by
        show o.length + aNl (l1 ++ l2) + _ ≤ _
        omega)).1
      omega
/-- what an acknowledgment leaves of the counts -/
theorem ack_uo (hn : n.2.2.1 = 0) : vU (s, o, l1 ++ n :: l2) = vU (ackM s n.2.2.2 mi, o, l1 ++ l2) + 1 ∧ vFo n0 (s, o, l1 ++ n :: l2) = vFo n0 (ackM s n.2.2.2 mi, o, l1 ++ l2) ∧ oLo n0 (l1 ++ n :: l2) = oLo n0 (l1 ++ l2) ∧ nLo n0 (l1 ++ n :: l2) = nLo n0 (l1 ++ l2) := by
  have e9 : (ackM s n.2.2.2 mi).1 9 = s.1 9 := ack_o (by decide) (by decide) (by decide)
  refine ⟨?_, ?_, ?_, ?_⟩
  · show o.length + aNl (l1 ++ n :: l2) = o.length + aNl (l1 ++ l2) + 1
    rw [aNl_mid, if_pos hn]
    omega
  · show lFl (max (s.1 9) n0) (l1 ++ n :: l2) = lFl (max ((ackM s n.2.2.2 mi).1 9) n0) (l1 ++ l2)
    rw [lFl_mid, if_neg (fun w => w.1 hn), e9]
    rfl
  · rw [oLo_mid, if_neg (fun w => w.1 hn)]
    rfl
  · unfold nLo
    rw [lFl_mid, if_neg (fun w => w.1 hn)]
    rfl
/-- an acknowledgment, not negative -/
theorem pVo_ack (h : FI (s, o, l1 ++ n :: l2)) (hI : sdB tk s) (hk : sW s) (hn : n.2.2.1 = 0) (hq : s.1 11 = -1 → 0 ≤ queueM (enterM s n.2.2.2 mi) mi) : PVo n0 (ackM s n.2.2.2 mi, o, l1 ++ l2) ≤ PVo n0 (s, o, l1 ++ n :: l2) + 5 := by
  have hx := (h.o (n0 := n0)).2
  obtain ⟨eu, ef, eo, -⟩ := ack_uo (n0 := n0) (s := s) (o := o) (l1 := l1) (l2 := l2) (mi := mi) hn
  rw [eu, ef] at hx
  have p := ps_ack (d := n.2.2.2) (mi := mi) (U := vU (ackM s n.2.2.2 mi, o, l1 ++ l2)) (Lf := vFo n0 (ackM s n.2.2.2 mi, o, l1 ++ l2)) hI (by dsimp only at hx ⊢; omega) hk hq
  unfold PVo
  rw [eu, ef]
  dsimp only
  rw [ack_5, eo]
  omega
/-- a negative one: at most the new losses on their way and 8 -/
theorem pVo_tok {g : Nat} (h : FI (s, o, l1 ++ n :: l2)) (hI : sdB tk s) (hn : n.2.2.1 = 0) (hs : s.1 11 = -1) (hq : queueM (enterM s n.2.2.2 mi) mi < 0) (hg : - (g : Int) ≤ queueM (enterM s n.2.2.2 mi) mi) (h0 : vFo n0 (ackM s n.2.2.2 mi, o, l1 ++ l2) = 0) : PVo n0 (ackM s n.2.2.2 mi, o, l1 ++ l2) ≤ PVo n0 (s, o, l1 ++ n :: l2) + (nLo n0 (l1 ++ l2) + 8) := by
  have hx := (h.o (n0 := n0)).1
  obtain ⟨eu, ef, eo, en⟩ := ack_uo (n0 := n0) (s := s) (o := o) (l1 := l1) (l2 := l2) (mi := mi) hn
  have h1 : s.1 5 = ((o.length + (l1 ++ n :: l2).length : Nat) : Int) := h.1
  rw [mid_len] at h1
  have hx : (s.1 5).toNat = vU (s, o, l1 ++ n :: l2) + nLo n0 (l1 ++ n :: l2) + oLo n0 (l1 ++ n :: l2) := hx
  rw [eu, en, eo] at hx
  obtain ⟨n1, n2, n3, n4, n5⟩ := neg_w hI hs (by omega) hq hg
  have e11 : (ackM s n.2.2.2 mi).1 11 = s.1 11 := ack_o (by decide) (by decide) (by decide)
  have e5 : (ackM s n.2.2.2 mi).1 5 = s.1 5 - 1 := ack_5
  have f1 : (s.1 5).toNat = ((ackM s n.2.2.2 mi).1 5).toNat + 1 := by omega
  unfold PVo
  rw [eu, ef, h0]
  dsimp only
  rw [PS_n hs, PS_n (e11.trans hs), f1, eo]
  generalize vU (ackM s n.2.2.2 mi, o, l1 ++ l2) = U at *
  generalize ((ackM s n.2.2.2 mi).1 5).toNat = f at *
  have a1 := PB_1 (wP (s.1 4)) (f + 1) (U + 1) 0
  rw [mB_0] at a1
  have key : PB (wP ((ackM s n.2.2.2 mi).1 4)) f U 0 ≤ max (PB (wP (s.1 4)) (f + 1) (U + 1) 0) (f + 1 + oLo n0 (l1 ++ l2)) + (nLo n0 (l1 ++ l2) + 8) := by
    refine PB_le ?_ (by omega) (fun u => ?_)
    · rw [mB_0]
      by_cases hv : wP ((ackM s n.2.2.2 mi).1 4) ≤ wP (s.1 4)
      · have := phB_m hv
        omega
      · have := phB_c (wP ((ackM s n.2.2.2 mi).1 4))
        omega
    · have := uuB_0 (wP ((ackM s n.2.2.2 mi).1 4)) f
      omega
  omega
/-- a slow-down's end, its begin -/
theorem pVo_ends (hk : sW s) : PVo n0 (endsM s tk, o, l) ≤ PVo n0 (s, o, l) := by
  have e9 : (endsM s tk).1 9 = s.1 9 := ends_o (by decide) (by decide) (by decide)
  have e5 : (endsM s tk).1 5 = s.1 5 := ends_o (by decide) (by decide) (by decide)
  have p := (ps_ends (tk := tk) (U := vU (s, o, l)) (Lf := vFo n0 (s, o, l)) hk).1
  unfold PVo
  have ef : vFo n0 (endsM s tk, o, l) = vFo n0 (s, o, l) := by
    show lFl (max ((endsM s tk).1 9) n0) l = _
    rw [e9]
  have eu : vU (endsM s tk, o, l) = vU (s, o, l) := rfl
  rw [ef, eu]
  dsimp only at p ⊢
  rw [e5]
  omega
theorem pVo_begins {iv t2 : Int} (hI : sdB t2 s) (ht : 0 ≤ tk) (hk : sW s) : PVo n0 (beginsM s tk iv, o, l) ≤ PVo n0 (s, o, l) + bgN s tk iv := by
  have e9 : (beginsM s tk iv).1 9 = s.1 9 := begins_o (by decide) (by decide) (by decide)
  have e5 : (beginsM s tk iv).1 5 = s.1 5 := begins_o (by decide) (by decide) (by decide)
  have p := (ps_begins (tk := tk) (iv := iv) (U := vU (s, o, l)) (Lf := vFo n0 (s, o, l)) hI ht hk).1
  unfold PVo
  have ef : vFo n0 (beginsM s tk iv, o, l) = vFo n0 (s, o, l) := by
    show lFl (max ((beginsM s tk iv).1 9) n0) l = _
    rw [e9]
  have eu : vU (beginsM s tk iv, o, l) = vU (s, o, l) := rfl
  rw [ef, eu]
  dsimp only at p ⊢
  rw [e5]
  omega
/-- a negative one while a new fresh loss is on its way: 5; where E is zero: as ever -/
theorem pVo_of_ps {c : Nat} (hn : n.2.2.1 = 0) (h5 : 0 ≤ s.1 5) (h : PS (ackM s n.2.2.2 mi) (vU (ackM s n.2.2.2 mi, o, l1 ++ l2)) (vFo n0 (ackM s n.2.2.2 mi, o, l1 ++ l2)) ≤ PS s (vU (ackM s n.2.2.2 mi, o, l1 ++ l2) + 1) (vFo n0 (ackM s n.2.2.2 mi, o, l1 ++ l2)) + c) : PVo n0 (ackM s n.2.2.2 mi, o, l1 ++ l2) ≤ PVo n0 (s, o, l1 ++ n :: l2) + c := by
  obtain ⟨eu, ef, eo, -⟩ := ack_uo (n0 := n0) (s := s) (o := o) (l1 := l1) (l2 := l2) (mi := mi) hn
  unfold PVo
  rw [eu, ef]
  dsimp only
  rw [ack_5, eo]
  omega
end OLD
/-- the latest ones and the acknowledgments on their way alone bound how deep a negative one is -/
def LQ3 (lo1 hi1 : Int) (s : SdM) (l : List NtM) : Prop := (∀ x ∈ s.2.2, lo1 ≤ x) ∧ ∀ n ∈ l, isA n → lo1 ≤ n.2.2.2 ∧ n.2.2.2 ≤ hi1
section LQS
variable {lo1 hi1 now : Int} {s : SdM} {l l1 l2 : List NtM} {n : NtM}
theorem LQ3.q (h : LQ3 lo1 hi1 s (l1 ++ n :: l2)) (hn : isA n) : lo1 - hi1 ≤ queueM (enterM s n.2.2.2 (now / 200)) (now / 200) := by
  have hd := h.2 n (List.mem_append_right _ List.mem_cons_self) hn
  have p := (q_range (s := s) (d := n.2.2.2) (mi := now / 200) (lo := lo1) (fun x hx => by
    rcases List.mem_cons.mp (List.mem_of_mem_take hx) with q | q
    · rw [q]; omega
    · exact h.1 x q)).1
  omega
theorem LQ3.ack (h : LQ3 lo1 hi1 s (l1 ++ n :: l2)) (hn : isA n) : LQ3 lo1 hi1 (ackM s n.2.2.2 (now / 200)) (l1 ++ l2) := by
  have hd := h.2 n (List.mem_append_right _ List.mem_cons_self) hn
  refine ⟨fun x hx => ?_, fun a ha => h.2 a (mid_mem ha)⟩
  have hx : x ∈ (n.2.2.2 :: s.2.2).take 4 := hx
  rcases List.mem_cons.mp (List.mem_of_mem_take hx) with q | q
  · rw [q]; omega
  · exact h.1 x q
theorem LQ3.lost {num : Int} (h : LQ3 lo1 hi1 s (l1 ++ n :: l2)) : LQ3 lo1 hi1 (lostM s num) (l1 ++ l2) := ⟨h.1, fun a ha => h.2 a (mid_mem ha)⟩
theorem LQ3.same {s2 : SdM} (h : LQ3 lo1 hi1 s l) (e : s2.2.2 = s.2.2) : LQ3 lo1 hi1 s2 l := ⟨by rw [e]; exact h.1, h.2⟩
theorem LQ3.app (h : LQ3 lo1 hi1 s l) (hn : isA n → lo1 ≤ n.2.2.2 ∧ n.2.2.2 ≤ hi1) : LQ3 lo1 hi1 s (l ++ [n]) := by
  refine ⟨h.1, fun a ha hA => ?_⟩
  rcases List.mem_append.mp ha with q | q
  · exact h.2 a q hA
  · rw [List.mem_singleton] at q
    rw [q] at hA ⊢
    exact hn hA
theorem LQ3.ends (h : LQ3 lo1 hi1 s l) : LQ3 lo1 hi1 (endsM s now) l := by
  refine h.same ?_
  unfold endsM
  split
  · rfl
  · split <;> rfl
theorem LQ3.begins {iv : Int} (h : LQ3 lo1 hi1 s l) : LQ3 lo1 hi1 (beginsM s now iv) l := by
  refine h.same ?_
  unfold beginsM
  split <;> rfl
end LQS
