/-! Bounds, mode H: an acknowledgment by the level (256ths): 3 from 32 packets on; a negative one at most the flight and 8 -/
theorem pb_ack3b {W V f U Lf : Nat} (h32 : 32 ≤ max W (f + 1)) (hV : V ≤ max W (gB W)) : PB V f U Lf ≤ PB W (f + 1) (U + 1) Lf + 3 := by
  have g := gB_c W
  by_cases h9 : 9 ≤ W
  · exact pb_ack3 h9 (by omega)
  · have hV9 : V ≤ 9 := by omega
    have hf : 31 ≤ f := by omega
    have a1 := PB_1 W (f + 1) (U + 1) Lf
    have a2 := PB_2 W (f + 1) (U + 1) Lf
    by_cases hl : Lf = 0
    · subst hl
      have q := phB_c V
      refine PB_le ?_ (by omega) ?_
      · rw [mB_0]
        omega
      · intro u
        have u2 := uuB_0 V f
        omega
    · rw [mB_1 (by omega)] at a1
      have w := phB_c (max W (f + 1))
      have q := phB_c (max V f)
      refine PB_le ?_ (by omega) ?_
      · rw [mB_1 (by omega)]
        omega
      · intro u
        have u2 := uuB_1 V f (Lf := Lf) (by omega)
        omega
theorem pl_ack3 {W K f U Lf : Nat} (h32 : 32 ≤ max K (f + 1)) : PL W K f U Lf ≤ PL W K (f + 1) (U + 1) Lf + 3 := by
  have a := pb_ack3b (W := K) (V := K) (f := f) (U := U) (Lf := Lf) h32 (by omega)
  have b := pb_ack3b (W := max W K) (V := max W K) (f := f) (U := U) (Lf := Lf) (by omega) (by omega)
  unfold PL
  omega
theorem ps_ack3 {s : SdM} {d mi tk : Int} {U Lf : Nat} (hI : sdB tk s) (h5 : 1 ≤ s.1 5) (hq : s.1 11 = -1 → 0 ≤ queueM (enterM s d mi) mi) (hz : 8192 ≤ lvS s) : PS (ackM s d mi) U Lf ≤ PS s (U + 1) Lf + 3 := by
  have hI' := hI
  unfold sdB at hI'
  obtain ⟨i0, i1, i4, i5⟩ := hI'
  have e11 : (ackM s d mi).1 11 = s.1 11 := ack_o (by decide) (by decide) (by decide)
  have e5 : (ackM s d mi).1 5 = s.1 5 - 1 := ack_5
  have f1 : (s.1 5).toNat = ((ackM s d mi).1 5).toNat + 1 := by omega
  unfold lvS at hz
  by_cases q : s.1 11 = -1
  · have st := ack_4 (d := d) (mi := mi) hI q (Int.le_refl 0) (by have := hq q; omega)
    rw [mW_n q] at hz
    rw [PS_n q, PS_n (e11.trans q), f1]
    refine pb_ack3b ?_ ?_
    · rw [← f1]
      unfold wP
      omega
    · have gg := grow_g (w := s.1 4) (v := (ackM s d mi).1 4) i4.1 (by
        rcases st.2.1 with z | z
        · exact Or.inl z
        · exact Or.inr (by have := z.2; omega))
      exact gg
  · have e4 : (ackM s d mi).1 4 = s.1 4 := ack_4s q
    have e12 : (ackM s d mi).1 12 = s.1 12 := ack_o (by decide) (by decide) (by decide)
    rw [mW_s q] at hz
    rw [PS_s q, PS_s (by rw [e11]; exact q), f1, e4, e12]
    refine pl_ack3 ?_
    rw [← f1]
    unfold wP
    omega
/-- how far an acknowledgment raises the level -/
theorem lvS_ack {s : SdM} {d mi tk : Int} (hI : sdB tk s) (hq : s.1 11 = -1 → 0 ≤ queueM (enterM s d mi) mi) : lvS (ackM s d mi) ≤ lvS s + 512 ∧ (8192 ≤ lvS s → lvS (ackM s d mi) ≤ lvS s + 65) := by
  have hI' := hI
  unfold sdB at hI'
  obtain ⟨i0, i1, i4, i5⟩ := hI'
  have e5 : (ackM s d mi).1 5 = s.1 5 - 1 := ack_5
  unfold lvS
  rw [e5]
  by_cases q : s.1 11 = -1
  · have st := ack_4 (d := d) (mi := mi) hI q (Int.le_refl 0) (by have := hq q; omega)
    rw [mW_n q, mW_ackn q]
    generalize (ackM s d mi).1 4 = v at *
    have hw : 256 ≤ s.1 4 := i4.1
    generalize s.1 4 = w at *
    generalize s.1 5 = F at *
    rcases st.2.1 with z | ⟨z1, z2⟩
    · omega
    · refine ⟨by omega, fun h8 => ?_⟩
      apply Decidable.byContradiction
      intro y
      have y1 : max w (256 * F) + 65 < v := by omega
      by_cases w2 : 8066 ≤ w
      · have e1 : (66 : Int) * w ≤ (v - w) * w := Int.mul_le_mul_of_nonneg_right (by omega) (by omega)
        omega
      · -- v > 8257, w below 8066
        have e1 : (8258 - w) * w ≤ (v - w) * w := Int.mul_le_mul_of_nonneg_right (by omega) (by omega)
        have e2 : 0 ≤ (w - 256) * (8066 - w) := Int.mul_nonneg (by omega) (by omega)
        have e3 : (w - 256) * (8066 - w) = (8258 - w) * w + 64 * w - 2064896 := by
          rw [Int.sub_mul, Int.mul_sub, Int.sub_mul, Int.mul_comm w 8066]
          omega
        omega
  · rw [mW_acks q]
    omega
theorem lvS_neg {s : SdM} {d mi tk : Int} {gd : Nat} (hI : sdB tk s) (hn : s.1 11 = -1) (hg : - (gd : Int) ≤ queueM (enterM s d mi) mi) : lvS (ackM s d mi) ≤ lvS s + 512 := by
  have st := ack_4 (d := d) (mi := mi) (g := gd) hI hn (by omega) hg
  have e5 : (ackM s d mi).1 5 = s.1 5 - 1 := ack_5
  unfold lvS
  rw [e5, mW_n hn, mW_ackn hn]
  rcases st.2.1 with z | ⟨z1, z2⟩ <;> omega
section HLEV
variable {n0 tk mi : Int} {s : SdM} {o : List Int} {l1 l2 : List NtM} {n : NtM}
theorem pVo_ack3 (h : FI (s, o, l1 ++ n :: l2)) (hI : sdB tk s) (hn : n.2.2.1 = 0) (hq : s.1 11 = -1 → 0 ≤ queueM (enterM s n.2.2.2 mi) mi) (hz : 8192 ≤ lvS s) : PVo n0 (ackM s n.2.2.2 mi, o, l1 ++ l2) ≤ PVo n0 (s, o, l1 ++ n :: l2) + 3 := by
  obtain ⟨eu, ef, eo, -⟩ := ack_uo (n0 := n0) (s := s) (o := o) (l1 := l1) (l2 := l2) (mi := mi) hn
  have h1 : s.1 5 = ((o.length + (l1 ++ n :: l2).length : Nat) : Int) := h.1
  rw [mid_len] at h1
  have p := ps_ack3 (d := n.2.2.2) (mi := mi) (U := vU (ackM s n.2.2.2 mi, o, l1 ++ l2)) (Lf := vFo n0 (ackM s n.2.2.2 mi, o, l1 ++ l2)) hI (by omega) hq hz
  unfold PVo
  rw [eu, ef]
  dsimp only
  rw [ack_5, eo]
  omega
/-- a negative one: at most the flight and 8 -/
theorem pVo_negf {gd : Nat} (h : FI (s, o, l1 ++ n :: l2)) (hI : sdB tk s) (hn : n.2.2.1 = 0) (hs : s.1 11 = -1) (hq : queueM (enterM s n.2.2.2 mi) mi < 0) (hg : - (gd : Int) ≤ queueM (enterM s n.2.2.2 mi) mi) : PVo n0 (ackM s n.2.2.2 mi, o, l1 ++ l2) ≤ PVo n0 (s, o, l1 ++ n :: l2) + ((s.1 5).toNat + 8) := by
  have hx := (h.o (n0 := n0))
  obtain ⟨eu, ef, eo, en⟩ := ack_uo (n0 := n0) (s := s) (o := o) (l1 := l1) (l2 := l2) (mi := mi) hn
  have h1 : s.1 5 = ((o.length + (l1 ++ n :: l2).length : Nat) : Int) := h.1
  rw [mid_len] at h1
  have hx1 : (s.1 5).toNat = vU (s, o, l1 ++ n :: l2) + nLo n0 (l1 ++ n :: l2) + oLo n0 (l1 ++ n :: l2) := hx.1
  have hx2 : vU (s, o, l1 ++ n :: l2) + vFo n0 (s, o, l1 ++ n :: l2) + oLo n0 (l1 ++ n :: l2) ≤ (s.1 5).toNat := hx.2
  by_cases h0 : vFo n0 (ackM s n.2.2.2 mi, o, l1 ++ l2) = 0
  · have a := pVo_tok (n0 := n0) h hI hn hs hq hg h0
    rw [en] at hx1
    omega
  · rw [eu, ef] at hx2
    have := pVo_of_ps (n0 := n0) (s := s) (o := o) (l1 := l1) (l2 := l2) (mi := mi) (c := 5) hn (by omega) ((ps_negC (U := vU (ackM s n.2.2.2 mi, o, l1 ++ l2)) (Lf := vFo n0 (ackM s n.2.2.2 mi, o, l1 ++ l2)) hI hs (by omega) (by omega) hq hg).2.2.1 (by omega))
    omega
end HLEV
