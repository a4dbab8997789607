/-! Bounds: acknowledgments and J; what a negative one costs -/
theorem neg_w {s : SdM} {d mi tk : Int} {g : Nat} (hI : sdB tk s) (hn : s.1 11 = -1) (h5 : 1 ≤ s.1 5) (hq : queueM (enterM s d mi) mi < 0) (hg : - (g : Int) ≤ queueM (enterM s d mi) mi) : s.1 4 ≤ (ackM s d mi).1 4 ∧ wP (s.1 4) ≤ wP ((ackM s d mi).1 4) ∧ wP ((ackM s d mi).1 4) ≤ max (wP (s.1 4)) (((ackM s d mi).1 5).toNat + 3) ∧ ((ackM s d mi).1 4 - s.1 4) * s.1 4 ≤ 524288 * (1 + (g : Int)) ∧ ((wP ((ackM s d mi).1 4) : Int) - wP (s.1 4) - 1) * wP (s.1 4) ≤ 8 * (1 + (g : Int)) := by
  have hI' := hI
  unfold sdB at hI'
  obtain ⟨i0, i1, i4, i5⟩ := hI'
  have e5 : (ackM s d mi).1 5 = s.1 5 - 1 := ack_5
  have st := ack_4 (d := d) (mi := mi) (g := g) hI hn (by omega) hg
  have hV := st.2.2 hq
  have hgw : ((ackM s d mi).1 4 - s.1 4) * s.1 4 ≤ 524288 * (1 + (g : Int)) := by
    rcases st.2.1 with y | y
    · have : ((ackM s d mi).1 4 - s.1 4) * s.1 4 ≤ 0 := Int.mul_nonpos_of_nonpos_of_nonneg (by omega) (by omega)
      omega
    · exact y.2
  refine ⟨hV, by unfold wP; omega, ?_, hgw, ?_⟩
  · rcases st.2.1 with z | z
    · have : wP ((ackM s d mi).1 4) ≤ wP (s.1 4) := by unfold wP; omega
      omega
    · have : wP ((ackM s d mi).1 4) ≤ ((ackM s d mi).1 5).toNat + 3 := by unfold wP; omega
      omega
  · have a1 : (wP (s.1 4) : Int) = s.1 4 / 256 := by unfold wP; omega
    have a2 : (wP ((ackM s d mi).1 4) : Int) = (ackM s d mi).1 4 / 256 := by unfold wP; omega
    rw [a1, a2]
    by_cases z : (ackM s d mi).1 4 / 256 - s.1 4 / 256 - 1 ≤ 0
    · have : ((ackM s d mi).1 4 / 256 - s.1 4 / 256 - 1) * (s.1 4 / 256) ≤ 0 := Int.mul_nonpos_of_nonpos_of_nonneg z (by omega)
      omega
    · generalize hvv : (ackM s d mi).1 4 = v at *
      generalize hww : s.1 4 = w at *
      have b1 : 256 * (v / 256 - w / 256 - 1) ≤ v - w := by omega
      have b2 : 256 * (w / 256) ≤ w := by omega
      have c1 : (256 * (v / 256 - w / 256 - 1)) * (256 * (w / 256)) ≤ (v - w) * (256 * (w / 256)) := Int.mul_le_mul_of_nonneg_right b1 (by omega)
      have c2 : (v - w) * (256 * (w / 256)) ≤ (v - w) * w := Int.mul_le_mul_of_nonneg_left b2 (by omega)
      have c3 : (256 * (v / 256 - w / 256 - 1)) * (256 * (w / 256)) = 65536 * ((v / 256 - w / 256 - 1) * (w / 256)) := by
        rw [Int.mul_assoc, ← Int.mul_assoc (v / 256 - w / 256 - 1) 256 (w / 256), Int.mul_comm (v / 256 - w / 256 - 1) 256, Int.mul_assoc 256, ← Int.mul_assoc 256 256]
        rfl
      omega
section JIA
variable {R tk now mi : Int} {s : SdM} {o : List Int} {l1 l2 : List NtM} {n : NtM} {c : Nat} {yt : Int}
theorem ack_uf (hn : isA n) : vU (s, o, l1 ++ n :: l2) = vU (ackM s n.2.2.2 mi, o, l1 ++ l2) + 1 ∧ vF (s, o, l1 ++ n :: l2) = vF (ackM s n.2.2.2 mi, o, l1 ++ l2) := by
  have hn : n.2.2.1 = 0 := hn
  constructor
  · show o.length + aNl (l1 ++ n :: l2) = o.length + aNl (l1 ++ l2) + 1
    rw [aNl_mid, if_pos hn]
    omega
  · have e9 : (ackM s n.2.2.2 mi).1 9 = s.1 9 := ack_o (by decide) (by decide) (by decide)
    show lFl (s.1 9) (l1 ++ n :: l2) = lFl ((ackM s n.2.2.2 mi).1 9) (l1 ++ l2)
    rw [lFl_mid, if_neg (fun w => w.1 hn), e9]
    rfl
/-- an acknowledgment in a slow-down -/
theorem JI.acks (hs : s.1 11 ≠ -1) {c2 : Nat} {yt2 : Int} : JI R (ackM s n.2.2.2 mi, o, l1 ++ l2) c2 yt2 := by
  intro z
  have z : (ackM s n.2.2.2 mi).1 11 = -1 := z
  rw [ack_o (by decide) (by decide) (by decide)] at z
  exact absurd z hs
/-- one that is not negative -/
theorem JI.ackp (h : JI R (s, o, l1 ++ n :: l2) c yt) (hF : FI (s, o, l1 ++ n :: l2)) (hI : sdB tk s) (hn : isA n) (hs : s.1 11 = -1) (hq : queueM (enterM s n.2.2.2 mi) mi ≤ 999) (hl : lsB (l1 ++ l2) (now + R)) : JI R (ackM s n.2.2.2 mi, o, l1 ++ l2) (c + 1) (if c = 0 then now else yt) := by
  intro _
  have hF1 := fl_mid hF
  have e5 : (ackM s n.2.2.2 mi).1 5 = s.1 5 - 1 := ack_5
  have e11 : (ackM s n.2.2.2 mi).1 11 = s.1 11 := ack_o (by decide) (by decide) (by decide)
  have f1 : (s.1 5).toNat = ((ackM s n.2.2.2 mi).1 5).toNat + 1 := by omega
  obtain ⟨eu, ef⟩ := ack_uf (s := s) (o := o) (l1 := l1) (l2 := l2) (mi := mi) hn
  have hd := ack_4d (d := n.2.2.2) (mi := mi) (q := 998) hI hs (by decide) (by omega)
  right
  refine ⟨by omega, ?_, ?_⟩
  · rcases h hs with ⟨h1, h2⟩ | ⟨h1, h2, h3⟩
    · rw [if_pos h1]
      exact hl
    · rw [if_neg (by omega)]
      exact h2.sub (fun a ha => mid_mem ha)
  · generalize hm : ((ackM s n.2.2.2 mi).1 5).toNat = m at f1
    generalize hv : (ackM s n.2.2.2 mi).1 4 = v at hd
    have hcc : ((c + 1 : Nat) : Int) * 1048576 * 999 = (c : Int) * 1048576 * 999 + 1048576 * 999 := by omega
    have hle : (m - 1 : Nat) ≤ m := by omega
    have fromJ : JV (s, o, l1 ++ n :: l2) → JV (ackM s n.2.2.2 mi, o, l1 ++ l2) ∨ JD (ackM s n.2.2.2 mi) (vF (ackM s n.2.2.2 mi, o, l1 ++ l2)) (c + 1) := by
      intro hj
      unfold JV JS JB at hj
      rw [eu, ef] at hj
      have hj : (s.1 5).toNat ≤ vU (ackM s n.2.2.2 mi, o, l1 ++ l2) + 1 + 2 ∨ (s.1 5).toNat ≤ eW s.1 ∨ (vF (ackM s n.2.2.2 mi, o, l1 ++ l2) = 0 ∧ (s.1 5).toNat ≤ 2 * eW s.1 + 1) := hj
      have hw : eW s.1 = wP (s.1 4) := if_pos hs
      rw [f1, hw] at hj
      have hI2 := hI
      unfold sdB at hI2
      have hwp : 256 * (wP (s.1 4) : Int) ≤ s.1 4 := by unfold wP; omega
      rcases hj with j | j
      · left
        unfold JV JS JB
        left
        show ((ackM s n.2.2.2 mi).1 5).toNat ≤ vU (ackM s n.2.2.2 mi, o, l1 ++ l2) + 2
        omega
      · right
        unfold JD
        rw [hm, hv]
        by_cases hlf : vF (ackM s n.2.2.2 mi, o, l1 ++ l2) = 0
        · left
          refine ⟨hlf, ?_⟩
          have := sq_mono (a := 128 * ((m - 1 : Nat) : Int)) (b := s.1 4) (by omega) (by omega)
          omega
        · right
          refine ⟨by omega, ?_⟩
          have := sq_mono (a := 256 * ((m - 1 : Nat) : Int)) (b := s.1 4) (by omega) (by omega)
          omega
    rcases h hs with ⟨h1, h2⟩ | ⟨h1, h2, h3⟩
    · exact fromJ h2
    · rcases h3 with h3 | h3
      · exact fromJ h3
      · right
        have h3 : JD s (vF (s, o, l1 ++ n :: l2)) c := h3
        unfold JD at h3 ⊢
        rw [ef, f1] at h3
        rw [hm, hv]
        rcases h3 with ⟨d1, d2⟩ | ⟨d1, d2⟩
        · left
          have := sq_mono (a := 128 * ((m - 1 : Nat) : Int)) (b := 128 * ((m + 1 - 1 : Nat) : Int)) (by omega) (by omega)
          exact ⟨d1, by omega⟩
        · right
          have := sq_mono (a := 256 * ((m - 1 : Nat) : Int)) (b := 256 * ((m + 1 - 1 : Nat) : Int)) (by omega) (by omega)
          exact ⟨d1, by omega⟩
/-- a negative one -/
theorem JI.ackn (h : JI R (s, o, l1 ++ n :: l2) c yt) (hF : FI (s, o, l1 ++ n :: l2)) (hI : sdB tk s) (hn : isA n) (hs : s.1 11 = -1) (hq : queueM (enterM s n.2.2.2 mi) mi < 0) : JI R (ackM s n.2.2.2 mi, o, l1 ++ l2) c yt := by
  intro _
  have hF1 := fl_mid hF
  have e5 : (ackM s n.2.2.2 mi).1 5 = s.1 5 - 1 := ack_5
  have e11 : (ackM s n.2.2.2 mi).1 11 = s.1 11 := ack_o (by decide) (by decide) (by decide)
  have f1 : (s.1 5).toNat = ((ackM s n.2.2.2 mi).1 5).toNat + 1 := by omega
  obtain ⟨eu, ef⟩ := ack_uf (s := s) (o := o) (l1 := l1) (l2 := l2) (mi := mi) hn
  obtain ⟨g, hg⟩ : ∃ g : Nat, - (g : Int) ≤ queueM (enterM s n.2.2.2 mi) mi := ⟨(- queueM (enterM s n.2.2.2 mi) mi).toNat, by omega⟩
  have nw := neg_w (mi := mi) hI hs (by omega) hq hg
  have w1 : eW s.1 = wP (s.1 4) := if_pos hs
  have w2 : eW (ackM s n.2.2.2 mi).1 = wP ((ackM s n.2.2.2 mi).1 4) := if_pos (e11.trans hs)
  have fromJ : JV (s, o, l1 ++ n :: l2) → JV (ackM s n.2.2.2 mi, o, l1 ++ l2) := by
    intro hj
    unfold JV JS at hj ⊢
    rw [eu, ef] at hj
    have hj : JB (eW s.1) (s.1 5).toNat (vU (ackM s n.2.2.2 mi, o, l1 ++ l2) + 1) (vF (ackM s n.2.2.2 mi, o, l1 ++ l2)) := hj
    show JB (eW (ackM s n.2.2.2 mi).1) ((ackM s n.2.2.2 mi).1 5).toNat _ _
    rw [w1, f1] at hj
    rw [w2]
    exact hj.ack nw.2.1
  rcases h hs with ⟨h1, h2⟩ | ⟨h1, h2, h3⟩
  · exact Or.inl ⟨h1, fromJ h2⟩
  · refine Or.inr ⟨h1, h2.sub (fun a ha => mid_mem ha), ?_⟩
    rcases h3 with h3 | h3
    · exact Or.inl (fromJ h3)
    · right
      have hI2 := hI
      unfold sdB at hI2
      generalize hm : ((ackM s n.2.2.2 mi).1 5).toNat = m at f1
      generalize hv : (ackM s n.2.2.2 mi).1 4 = v at nw
      have a := sq_mono (a := s.1 4) (b := v) (by omega) nw.1
      have h3 : JD s (vF (s, o, l1 ++ n :: l2)) c := h3
      unfold JD at h3 ⊢
      rw [ef, f1] at h3
      rw [hm, hv]
      rcases h3 with ⟨d1, d2⟩ | ⟨d1, d2⟩
      · left
        have := sq_mono (a := 128 * ((m - 1 : Nat) : Int)) (b := 128 * ((m + 1 - 1 : Nat) : Int)) (by omega) (by omega)
        exact ⟨d1, by omega⟩
      · right
        have := sq_mono (a := 256 * ((m - 1 : Nat) : Int)) (b := 256 * ((m + 1 - 1 : Nat) : Int)) (by omega) (by omega)
        exact ⟨d1, by omega⟩
/-- what a negative one costs -/
theorem pV_neg (hF : FI (s, o, l1 ++ n :: l2)) (hI : sdB tk s) (hn : isA n) (hs : s.1 11 = -1) (hq : queueM (enterM s n.2.2.2 mi) mi < 0) {g : Nat} (hg : - (g : Int) ≤ queueM (enterM s n.2.2.2 mi) mi) :
    (JV (s, o, l1 ++ n :: l2) → 5 * PV (ackM s n.2.2.2 mi, o, l1 ++ l2) ≤ 5 * PV (s, o, l1 ++ n :: l2) + 25 + (g + 200) ∧ 5 * PV (ackM s n.2.2.2 mi, o, l1 ++ l2) ≤ 5 * PV (s, o, l1 ++ n :: l2) + 25 + (2 * g / 5 + 500)) ∧ (1 ≤ vF (s, o, l1 ++ n :: l2) → 5 * PV (ackM s n.2.2.2 mi, o, l1 ++ l2) ≤ 5 * PV (s, o, l1 ++ n :: l2) + 25) ∧ (¬ JV (s, o, l1 ++ n :: l2) → JD s (vF (s, o, l1 ++ n :: l2)) c → 700 ≤ g → (c ≤ 1 → 5 * PV (ackM s n.2.2.2 mi, o, l1 ++ l2) ≤ 5 * PV (s, o, l1 ++ n :: l2) + 25 + (g + 800)) ∧ (c ≤ 2 → 5 * PV (ackM s n.2.2.2 mi, o, l1 ++ l2) ≤ 5 * PV (s, o, l1 ++ n :: l2) + 25 + (g + 1260))) := by
  have hF1 := fl_mid hF
  have hx := hF.x
  have e5 : (ackM s n.2.2.2 mi).1 5 = s.1 5 - 1 := ack_5
  have e11 : (ackM s n.2.2.2 mi).1 11 = s.1 11 := ack_o (by decide) (by decide) (by decide)
  have f1 : (s.1 5).toNat = ((ackM s n.2.2.2 mi).1 5).toNat + 1 := by omega
  obtain ⟨eu, ef⟩ := ack_uf (s := s) (o := o) (l1 := l1) (l2 := l2) (mi := mi) hn
  have nw := neg_w (mi := mi) hI hs (by omega) hq hg
  have w1 : eW s.1 = wP (s.1 4) := if_pos hs
  have hI2 := hI
  unfold sdB at hI2
  have hW1 : 1 ≤ wP (s.1 4) := wP_1 hI2.2.2.1.1
  have p1 : PV (s, o, l1 ++ n :: l2) = PB (wP (s.1 4)) (((ackM s n.2.2.2 mi).1 5).toNat + 1) (vU (ackM s n.2.2.2 mi, o, l1 ++ l2) + 1) (vF (ackM s n.2.2.2 mi, o, l1 ++ l2)) := by
    unfold PV
    rw [eu, ef]
    show PS s _ _ = _
    rw [PS_n hs, f1]
  have p2 : PV (ackM s n.2.2.2 mi, o, l1 ++ l2) = PB (wP ((ackM s n.2.2.2 mi).1 4)) ((ackM s n.2.2.2 mi).1 5).toNat (vU (ackM s n.2.2.2 mi, o, l1 ++ l2)) (vF (ackM s n.2.2.2 mi, o, l1 ++ l2)) := by
    unfold PV
    show PS (ackM s n.2.2.2 mi) _ _ = _
    rw [PS_n (e11.trans hs)]
  have hx : (vU (ackM s n.2.2.2 mi, o, l1 ++ l2) + 1) + vF (ackM s n.2.2.2 mi, o, l1 ++ l2) ≤ ((ackM s n.2.2.2 mi).1 5).toNat + 1 := by
    rw [eu, ef] at hx
    have hx : (vU (ackM s n.2.2.2 mi, o, l1 ++ l2) + 1) + vF (ackM s n.2.2.2 mi, o, l1 ++ l2) ≤ (s.1 5).toNat := hx
    omega
  have hjv : JV (s, o, l1 ++ n :: l2) ↔ JB (wP (s.1 4)) (((ackM s n.2.2.2 mi).1 5).toNat + 1) (vU (ackM s n.2.2.2 mi, o, l1 ++ l2) + 1) (vF (ackM s n.2.2.2 mi, o, l1 ++ l2)) := by
    unfold JV
    rw [eu, ef]
    show JS s _ _ ↔ _
    unfold JS
    rw [w1, f1]
  rw [p1, p2, hjv, ef, ← f1]
  rw [← f1] at hx
  have f2 : ((ackM s n.2.2.2 mi).1 5).toNat + 1 = (s.1 5).toNat := f1.symm
  refine ⟨fun hj => ⟨?_, ?_⟩, fun hl => ?_, fun hj hD hg7 => ⟨fun hc => ?_, fun hc => ?_⟩⟩
  · rw [← f2] at hj hx ⊢
    exact pb_neg hW1 hx hj nw.2.1 nw.2.2.1 nw.2.2.2.2
  · rw [← f2] at hj hx ⊢
    exact pb_neg2 hW1 hx hj nw.2.1 nw.2.2.1 nw.2.2.2.2
  · rw [← f2] at hx ⊢
    have := pb_negF hl hx nw.2.1 nw.2.2.1
    omega
  all_goals
    rw [← f2] at hj hx ⊢
    by_cases hl : vF (ackM s n.2.2.2 mi, o, l1 ++ l2) = 0
    · unfold JD at hD
      rw [hl] at hj hx hD ⊢
      unfold JB at hj
      have hf : 2 * wP (s.1 4) + 1 < ((ackM s n.2.2.2 mi).1 5).toNat + 1 := by omega
      have hV3 : wP ((ackM s n.2.2.2 mi).1 4) ≤ ((ackM s n.2.2.2 mi).1 5).toNat + 3 := by
        have := nw.2.2.1
        omega
      have hDD : (128 * (((ackM s n.2.2.2 mi).1 5).toNat : Int)) * (128 * (((ackM s n.2.2.2 mi).1 5).toNat : Int)) ≤ s.1 4 * s.1 4 + c * 1048576 * 999 := by
        rcases hD with ⟨-, d2⟩ | ⟨d1, -⟩
        · rw [f1] at d2
          exact d2
        · omega
      first
        | exact pb_negD hI2.2.2.1.1 nw.1 (by omega) hf hV3 nw.2.2.2.1 hDD hg7 (Or.inl ⟨hc, rfl⟩)
        | exact pb_negD hI2.2.2.1.1 nw.1 (by omega) hf hV3 nw.2.2.2.1 hDD hg7 (Or.inr ⟨hc, rfl⟩)
    · have := pb_negF (by omega) hx nw.2.1 nw.2.2.1
      omega
end JIA
