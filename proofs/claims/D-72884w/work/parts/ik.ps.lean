/-! Bounds: a sender's potential, step by step of M -/
def eW (sv : Nat → Int) : Nat := if sv 11 = -1 then wP (sv 4) else max (wP (sv 4)) (wP (sv 12))
def PS (s : SdM) (U Lf : Nat) : Nat := if s.1 11 = -1 then PB (wP (s.1 4)) (s.1 5).toNat U Lf else PL (wP (s.1 4)) (wP (s.1 12)) (s.1 5).toNat U Lf
def JS (s : SdM) (U Lf : Nat) : Prop := JB (eW s.1) (s.1 5).toNat U Lf
/-- in a slow-down the window is at most two packets -/
def sW (s : SdM) : Prop := s.1 11 ≠ -1 → s.1 4 ≤ 512 ∧ 256 ≤ s.1 12
/-- what is needed of a sender's fields -/
def sdB (_ : Int) (s : SdM) : Prop := (1 ≤ s.1 0 ∧ s.1 0 ≤ 200) ∧ (1 ≤ s.1 1 ∧ s.1 1 ≤ 8) ∧ (256 ≤ s.1 4 ∧ 0 ≤ s.1 4) ∧ (0 ≤ s.1 5 ∧ -1 ≤ s.1 5)
theorem PS_n {s : SdM} {U Lf : Nat} (h : s.1 11 = -1) : PS s U Lf = PB (wP (s.1 4)) (s.1 5).toNat U Lf := if_pos h
theorem PS_s {s : SdM} {U Lf : Nat} (h : s.1 11 ≠ -1) : PS s U Lf = PL (wP (s.1 4)) (wP (s.1 12)) (s.1 5).toNat U Lf := if_neg h
theorem wP_1 {w : Int} (h : 256 ≤ w) : 1 ≤ wP w := by
  unfold wP
  omega
theorem wP_half {w : Int} (h : 0 ≤ w) : wP (halfM w) = max 1 (wP w / 2) := by
  unfold wP halfM
  split <;> omega
theorem ack0_0 {sv : Nat → Int} {k : Nat} (h : k ≠ 5) (h2 : k ≠ 7) : ack0M sv k = sv k := by
  unfold ack0M iup
  rw [if_neg h2, if_neg h]
theorem ack0_5 {sv : Nat → Int} : ack0M sv 5 = sv 5 - 1 := by
  unfold ack0M iup
  rw [if_neg (by decide), if_pos rfl]
theorem steer_o {sv : Nat → Int} {off : Int} {k : Nat} (h : k ≠ 4) : steerM sv off k = sv k := by
  unfold steerM iup
  rw [if_neg h]
/-- the parts of a sender that an acknowledgment leaves -/
theorem ack_o {s : SdM} {d mi : Int} {k : Nat} (h4 : k ≠ 4) (h5 : k ≠ 5) (h7 : k ≠ 7) : (ackM s d mi).1 k = s.1 k := by
  unfold ackM
  dsimp only
  split
  · rw [steer_o h4, ack0_0 h5 h7]
  · exact ack0_0 h5 h7
theorem ack_5 {s : SdM} {d mi : Int} : (ackM s d mi).1 5 = s.1 5 - 1 := by
  unfold ackM
  dsimp only
  split
  · rw [steer_o (by decide), ack0_5]
  · exact ack0_5
theorem ack_4s {s : SdM} {d mi : Int} (h : s.1 11 ≠ -1) : (ackM s d mi).1 4 = s.1 4 := by
  unfold ackM
  dsimp only
  rw [if_neg h, ack0_0 (by decide) (by decide)]
/-- the window behind an acknowledgment, queueing at least -g -/
theorem ack_4 {s : SdM} {d mi tk : Int} {g : Int} (hI : sdB tk s) (hn : s.1 11 = -1) (hg : 0 ≤ g) (hq : - g ≤ queueM (enterM s d mi) mi) : 256 ≤ (ackM s d mi).1 4 ∧ ((ackM s d mi).1 4 ≤ s.1 4 ∨ ((ackM s d mi).1 4 ≤ 256 * (s.1 5 + 2) ∧ ((ackM s d mi).1 4 - s.1 4) * s.1 4 ≤ 524288 * (1 + g))) ∧ (queueM (enterM s d mi) mi < 0 → s.1 4 ≤ (ackM s d mi).1 4) := by
  unfold sdB at hI
  obtain ⟨i0, i1, i4, i5⟩ := hI
  have e : (ackM s d mi).1 4 = steerM (ack0M s.1) (s.1 0 - queueM (enterM s d mi) mi) 4 := by
    unfold ackM
    dsimp only
    rw [if_pos hn]
  have hm : s.1 0 + g ≤ s.1 0 * (1 + g) := by
    have : 1 * g ≤ s.1 0 * g := Int.mul_le_mul_of_nonneg_right i0.1 hg
    rw [Int.mul_add]
    omega
  have st := steer_w (sv := ack0M s.1) (off := s.1 0 - queueM (enterM s d mi) mi) (K := 1 + g) (by rw [ack0_0 (by decide) (by decide)]; omega) (by rw [ack0_0 (by decide) (by decide)]; omega) (by rw [ack0_0 (by decide) (by decide)]; omega) (by omega) (by rw [ack0_0 (by decide) (by decide)]; omega)
  rw [ack0_0 (k := 4) (by decide) (by decide), ack0_5] at st
  rw [e]
  refine ⟨st.1, ?_, fun hneg => ?_⟩
  · rcases st.2 with z | z
    · exact Or.inl z
    · exact Or.inr ⟨by omega, z.2⟩
  · have e4 : ack0M s.1 4 = s.1 4 := ack0_0 (by decide) (by decide)
    have hnx : ack0M s.1 4 ≤ nextM (ack0M s.1) (s.1 0 - queueM (enterM s d mi) mi) := by
      unfold nextM
      rw [ack0_0 (k := 0) (by decide) (by decide), ack0_0 (k := 1) (by decide) (by decide)]
      have a1 : 0 ≤ s.1 1 * 65536 * (s.1 0 - queueM (enterM s d mi) mi) := Int.mul_nonneg (by omega) (by omega)
      have a2 : 0 ≤ s.1 0 * ack0M s.1 4 := Int.mul_nonneg (by omega) (by omega)
      have a3 : 0 ≤ (s.1 1 * 65536 * (s.1 0 - queueM (enterM s d mi) mi)).tdiv (s.1 0 * ack0M s.1 4) := by
        rw [Int.tdiv_eq_ediv_of_nonneg a1]
        exact Int.ediv_nonneg a1 a2
      omega
    have hs : ack0M s.1 4 ≤ stepW (ack0M s.1) (s.1 0 - queueM (enterM s d mi) mi) := by
      unfold stepW topM
      repeat' split
      all_goals omega
    have e2 : steerM (ack0M s.1) (s.1 0 - queueM (enterM s d mi) mi) 4 = if stepW (ack0M s.1) (s.1 0 - queueM (enterM s d mi) mi) < 256 then 256 else stepW (ack0M s.1) (s.1 0 - queueM (enterM s d mi) mi) := by
      unfold steerM iup
      rw [if_pos rfl]
    rw [e2, if_neg (by omega)]
    omega
/-- an acknowledgment: in a slow-down, or with queueing not below zero -/
theorem ps_ack {s : SdM} {d mi tk : Int} {U Lf : Nat} (hI : sdB tk s) (hx : (U + 1) + Lf ≤ (s.1 5).toNat) (hk : sW s) (hq : s.1 11 = -1 → 0 ≤ queueM (enterM s d mi) mi) : PS (ackM s d mi) U Lf ≤ PS s (U + 1) Lf + 5 := by
  have hI' := hI
  unfold sdB at hI'
  obtain ⟨i0, i1, i4, i5⟩ := hI'
  have e11 : (ackM s d mi).1 11 = s.1 11 := ack_o (by decide) (by decide) (by decide)
  have e5 : (ackM s d mi).1 5 = s.1 5 - 1 := ack_5
  have f1 : (s.1 5).toNat = ((ackM s d mi).1 5).toNat + 1 := by omega
  by_cases q : s.1 11 = -1
  · have st := ack_4 (d := d) (mi := mi) hI q (Int.le_refl 0) (by have := hq q; omega)
    rw [PS_n q, PS_n (e11.trans q), f1]
    rw [f1] at hx
    refine pb_ack (wP_1 i4.1) hx ?_ ?_ (wP_1 st.1)
    · rcases st.2.1 with z | z
      · have : wP ((ackM s d mi).1 4) ≤ wP (s.1 4) := by unfold wP; omega
        omega
      · have : wP ((ackM s d mi).1 4) ≤ ((ackM s d mi).1 5).toNat + 3 := by unfold wP; omega
        omega
    · refine grow_g i4.1 ?_
      rcases st.2.1 with z | z
      · exact Or.inl z
      · exact Or.inr (by have := z.2; omega)
  · have hk := hk q
    have e4 : (ackM s d mi).1 4 = s.1 4 := ack_4s q
    have e12 : (ackM s d mi).1 12 = s.1 12 := ack_o (by decide) (by decide) (by decide)
    rw [PS_s q, PS_s (by rw [e11]; exact q), f1, e4, e12]
    rw [f1] at hx
    exact pl_ack (wP_1 hk.2) hx
/-- an acknowledgment with queueing below zero, not below -g -/
theorem ps_neg {s : SdM} {d mi tk : Int} {U Lf g : Nat} (hI : sdB tk s) (hx : (U + 1) + Lf ≤ (s.1 5).toNat) (hn : s.1 11 = -1) (hj : JS s (U + 1) Lf) (hq : queueM (enterM s d mi) mi < 0) (hg : - (g : Int) ≤ queueM (enterM s d mi) mi) : 5 * PS (ackM s d mi) U Lf ≤ 5 * PS s (U + 1) Lf + 25 + (g + 200) ∧ JS (ackM s d mi) U Lf := by
  have hI' := hI
  unfold sdB at hI'
  obtain ⟨i0, i1, i4, i5⟩ := hI'
  have e11 : (ackM s d mi).1 11 = s.1 11 := ack_o (by decide) (by decide) (by decide)
  have e5 : (ackM s d mi).1 5 = s.1 5 - 1 := ack_5
  have f1 : (s.1 5).toNat = ((ackM s d mi).1 5).toNat + 1 := by omega
  have st := ack_4 (d := d) (mi := mi) (g := g) hI hn (by omega) hg
  have hV := st.2.2 hq
  have w1 : eW s.1 = wP (s.1 4) := if_pos hn
  have w2 : eW (ackM s d mi).1 = wP ((ackM s d mi).1 4) := if_pos (e11.trans hn)
  unfold JS at hj ⊢
  rw [w1, f1] at hj
  rw [w2]
  have hwv : wP (s.1 4) ≤ wP ((ackM s d mi).1 4) := by unfold wP; omega
  refine ⟨?_, hj.ack hwv⟩
  rw [PS_n hn, PS_n (e11.trans hn), f1]
  rw [f1] at hx
  refine pb_neg (wP_1 i4.1) hx hj hwv ?_ ?_
  · rcases st.2.1 with z | z
    · have : wP ((ackM s d mi).1 4) ≤ wP (s.1 4) := by unfold wP; omega
      omega
    · have : wP ((ackM s d mi).1 4) ≤ ((ackM s d mi).1 5).toNat + 3 := by unfold wP; omega
      omega
  · have a1 : (wP (s.1 4) : Int) = s.1 4 / 256 := by unfold wP; omega
    have a2 : (wP ((ackM s d mi).1 4) : Int) = (ackM s d mi).1 4 / 256 := by unfold wP; omega
    rw [a1, a2]
    by_cases z : (ackM s d mi).1 4 / 256 - s.1 4 / 256 - 1 ≤ 0
    · have : ((ackM s d mi).1 4 / 256 - s.1 4 / 256 - 1) * (s.1 4 / 256) ≤ 0 := Int.mul_nonpos_of_nonpos_of_nonneg z (by omega)
      omega
    · have hgw : ((ackM s d mi).1 4 - s.1 4) * s.1 4 ≤ 524288 * (1 + (g : Int)) := by
        rcases st.2.1 with y | y
        · omega
        · exact y.2
      generalize hvv : (ackM s d mi).1 4 = v at *
      generalize hww : s.1 4 = w at *
      have b1 : 256 * (v / 256 - w / 256 - 1) ≤ v - w := by omega
      have b2 : 256 * (w / 256) ≤ w := by omega
      have c1 : (256 * (v / 256 - w / 256 - 1)) * (256 * (w / 256)) ≤ (v - w) * (256 * (w / 256)) := Int.mul_le_mul_of_nonneg_right b1 (by omega)
      have c2 : (v - w) * (256 * (w / 256)) ≤ (v - w) * w := Int.mul_le_mul_of_nonneg_left b2 (by omega)
      have c3 : (256 * (v / 256 - w / 256 - 1)) * (256 * (w / 256)) = 65536 * ((v / 256 - w / 256 - 1) * (w / 256)) := by
        rw [Int.mul_assoc, ← Int.mul_assoc (v / 256 - w / 256 - 1) 256 (w / 256), Int.mul_comm (v / 256 - w / 256 - 1) 256, Int.mul_assoc 256, ← Int.mul_assoc 256 256]
        rfl
      omega
theorem lost_5 {s : SdM} {num : Int} : (lostM s num).1 5 = s.1 5 - 1 := by
  unfold lostM
  dsimp only
  split <;> simp [iup]
theorem lost_s {s : SdM} {num : Int} (h : num < s.1 9) : (lostM s num).1 = iup (iup s.1 5 (s.1 5 - 1)) 8 (s.1 8 + 1) := by
  unfold lostM
  dsimp only
  rw [if_pos h]
theorem lost_f {s : SdM} {num : Int} (h : ¬ num < s.1 9) : (lostM s num).1 = iup (iup (iup (iup (iup s.1 5 (s.1 5 - 1)) 8 (s.1 8 + 1)) 4 (halfM (s.1 4))) 12 (halfM (s.1 12))) 9 (s.1 6) := by
  unfold lostM
  dsimp only
  rw [if_neg h]
theorem ps_stale {s : SdM} {num : Int} {U Lf : Nat} (h : num < s.1 9) (hx : 1 ≤ (s.1 5).toNat) : PS (lostM s num) U Lf ≤ PS s U Lf ∧ (JS s U Lf → JS (lostM s num) U Lf) ∧ (sW s → sW (lostM s num)) := by
  have e := lost_s (s := s) (num := num) h
  have e5 := lost_5 (s := s) (num := num)
  have e4 : (lostM s num).1 4 = s.1 4 := by rw [e]; simp [iup]
  have e11 : (lostM s num).1 11 = s.1 11 := by rw [e]; simp [iup]
  have e12 : (lostM s num).1 12 = s.1 12 := by rw [e]; simp [iup]
  have f1 : (s.1 5).toNat = ((lostM s num).1 5).toNat + 1 := by omega
  refine ⟨?_, ?_, ?_⟩
  · by_cases q : s.1 11 = -1
    · rw [PS_n q, PS_n (e11.trans q), e4, f1]
      exact pb_stale
    · rw [PS_s q, PS_s (by rw [e11]; exact q), e4, e12, f1]
      exact pl_stale
  · intro hj
    unfold JS at hj ⊢
    rw [f1] at hj
    have w : eW (lostM s num).1 = eW s.1 := by
      unfold eW
      rw [e4, e11, e12]
    rw [w]
    exact hj.stale
  · intro hs
    unfold sW at hs ⊢
    rw [e4, e11, e12]
    exact hs
theorem ps_fresh {s : SdM} {num tk : Int} {U Lf : Nat} (hI : sdB tk s) (hk : sW s) (h : ¬ num < s.1 9) (hx : U + (Lf + 1) ≤ (s.1 5).toNat) : PS (lostM s num) U 0 ≤ PS s U (Lf + 1) + 1 ∧ (JS s U (Lf + 1) → JS (lostM s num) U 0) ∧ sW (lostM s num) := by
  have hI' := hI
  unfold sdB at hI'
  obtain ⟨i0, i1, i4, i5⟩ := hI'
  have e := lost_f (s := s) (num := num) h
  have e5 := lost_5 (s := s) (num := num)
  have e4 : (lostM s num).1 4 = halfM (s.1 4) := by rw [e]; simp [iup]
  have e11 : (lostM s num).1 11 = s.1 11 := by rw [e]; simp [iup]
  have e12 : (lostM s num).1 12 = halfM (s.1 12) := by rw [e]; simp [iup]
  have f1 : (s.1 5).toNat = ((lostM s num).1 5).toNat + 1 := by omega
  rw [f1] at hx
  have w1 := wP_1 i4.1
  refine ⟨?_, ?_, ?_⟩
  · by_cases q : s.1 11 = -1
    · rw [PS_n q, PS_n (e11.trans q), e4, f1, wP_half (by omega)]
      exact pb_fresh w1 hx
    · have hk := hk q
      rw [PS_s q, PS_s (by rw [e11]; exact q), e4, e12, f1, wP_half (by omega), wP_half (by omega)]
      exact pl_fresh (wP_1 hk.2) hx
  · intro hj
    unfold JS at hj ⊢
    rw [f1] at hj
    have w : eW (lostM s num).1 = max 1 (eW s.1 / 2) := by
      unfold eW
      rw [e4, e11, e12]
      by_cases q : s.1 11 = -1
      · rw [if_pos q, if_pos q]
        exact wP_half (by omega)
      · have hk := hk q
        rw [if_neg q, if_neg q, wP_half (by omega), wP_half (by omega)]
        omega
    rw [w]
    exact hj.fresh (by
      unfold eW
      split <;> omega)
  · intro z
    rw [e11] at z
    have hk := hk z
    rw [e4, e12]
    unfold halfM
    constructor
    · split <;> omega
    · split <;> omega
theorem ps_send {s : SdM} {U Lf : Nat} (hk : sW s) (hw : wantsM s) (h0 : 0 ≤ s.1 5) (hx : U + Lf ≤ (s.1 5).toNat) : PS (sentM s) (U + 1) Lf + 1 ≤ PS s U Lf ∧ PS (sentM s) U (Lf + 1) + 1 ≤ PS s U Lf ∧ (∀ U2 Lf2, JS (sentM s) U2 Lf2) ∧ sW (sentM s) := by
  have e4 : (sentM s).1 4 = s.1 4 := sent_o (by decide) (by decide)
  have e11 : (sentM s).1 11 = s.1 11 := sent_o (by decide) (by decide)
  have e12 : (sentM s).1 12 = s.1 12 := sent_o (by decide) (by decide)
  have f1 : ((sentM s).1 5).toNat = (s.1 5).toNat + 1 := by rw [sent_5]; omega
  have hf : (s.1 5).toNat < wP (s.1 4) := by
    have h2 := hw.2
    unfold wP
    omega
  have hs : sW (sentM s) := by
    intro z
    rw [e11] at z
    rw [e4, e12]
    exact hk z
  have hJ : ∀ U2 Lf2, JS (sentM s) U2 Lf2 := by
    intro U2 Lf2
    unfold JS
    rw [f1]
    refine JB.send ?_
    unfold eW
    rw [e4, e11, e12]
    split <;> omega
  by_cases q : s.1 11 = -1
  · rw [PS_n q, PS_n (e11.trans q), PS_n (e11.trans q), e4, f1]
    exact ⟨pb_sendE hf hx, pb_sendL hf hx, hJ, hs⟩
  · have hk2 := hk q
    have w2 : wP (s.1 4) ≤ 2 := by unfold wP; omega
    rw [PS_s q, PS_s (by rw [e11]; exact q), PS_s (by rw [e11]; exact q), e4, e12, f1]
    exact ⟨pl_sendE w2 (wP_1 hk2.2) hf hx, pl_sendL w2 (wP_1 hk2.2) hf hx, hJ, hs⟩
theorem ends_o {s : SdM} {tk : Int} {k : Nat} (h4 : k ≠ 4) (h10 : k ≠ 10) (h11 : k ≠ 11) : (endsM s tk).1 k = s.1 k := by
  unfold endsM
  split
  · rfl
  · split
    · rfl
    · show iup (iup (iup s.1 4 (s.1 12)) 11 (-1)) 10 tk k = _
      unfold iup
      rw [if_neg h10, if_neg h11, if_neg h4]
theorem begins_o {s : SdM} {tk iv : Int} {k : Nat} (h4 : k ≠ 4) (h12 : k ≠ 12) (h11 : k ≠ 11) : (beginsM s tk iv).1 k = s.1 k := by
  unfold beginsM
  split
  · show iup (iup (iup s.1 12 (s.1 4)) 4 512) 11 (tk + 60) k = _
    unfold iup
    rw [if_neg h11, if_neg h4, if_neg h12]
  · rfl
/-- a slow-down's end -/
theorem ps_ends {s : SdM} {tk : Int} {U Lf : Nat} (hk : sW s) : PS (endsM s tk) U Lf ≤ PS s U Lf ∧ sW (endsM s tk) := by
  unfold endsM
  by_cases q : s.1 11 = -1
  · rw [if_pos q]
    exact ⟨Nat.le_refl _, hk⟩
  · rw [if_neg q]
    by_cases q2 : tk < s.1 11
    · rw [if_pos q2]
      exact ⟨Nat.le_refl _, hk⟩
    · rw [if_neg q2]
      have e11 : (iup (iup (iup s.1 4 (s.1 12)) 11 (-1)) 10 tk) 11 = -1 := by simp [iup]
      have e4 : (iup (iup (iup s.1 4 (s.1 12)) 11 (-1)) 10 tk) 4 = s.1 12 := by simp [iup]
      have e5 : (iup (iup (iup s.1 4 (s.1 12)) 11 (-1)) 10 tk) 5 = s.1 5 := by simp [iup]
      refine ⟨?_, fun z => absurd e11 z⟩
      rw [PS_n e11, PS_s q]
      dsimp only
      rw [e4, e5]
      exact pl_end
def bgN (s : SdM) (tk iv : Int) : Nat := if 0 < iv ∧ s.1 3 ≠ 0 ∧ s.1 11 = -1 ∧ iv ≤ tk - s.1 10 then 1 else 0
theorem ps_begins {s : SdM} {tk iv t2 : Int} {U Lf : Nat} (hI : sdB t2 s) (ht : 0 ≤ tk) (hk : sW s) : PS (beginsM s tk iv) U Lf ≤ PS s U Lf + bgN s tk iv ∧ sW (beginsM s tk iv) ∧ (JS s U Lf → JS (beginsM s tk iv) U Lf) := by
  unfold sdB at hI
  obtain ⟨-, -, i4, i5⟩ := hI
  unfold beginsM bgN
  by_cases q : 0 < iv ∧ s.1 3 ≠ 0 ∧ s.1 11 = -1 ∧ iv ≤ tk - s.1 10
  · rw [if_pos q, if_pos q]
    have e11 : (iup (iup (iup s.1 12 (s.1 4)) 4 512) 11 (tk + 60)) 11 = tk + 60 := by simp [iup]
    have e4 : (iup (iup (iup s.1 12 (s.1 4)) 4 512) 11 (tk + 60)) 4 = 512 := by simp [iup]
    have e12 : (iup (iup (iup s.1 12 (s.1 4)) 4 512) 11 (tk + 60)) 12 = s.1 4 := by simp [iup]
    have e5 : (iup (iup (iup s.1 12 (s.1 4)) 4 512) 11 (tk + 60)) 5 = s.1 5 := by simp [iup]
    have z : ¬ (iup (iup (iup s.1 12 (s.1 4)) 4 512) 11 (tk + 60)) 11 = -1 := by omega
    have w1 := wP_1 i4.1
    refine ⟨?_, fun _ => ⟨by dsimp only; omega, by dsimp only; omega⟩, fun hj => ?_⟩
    · rw [PS_s z, PS_n q.2.2.1]
      dsimp only
      rw [e4, e12, e5]
      have e : wP 512 = 2 := rfl
      rw [e]
      refine Nat.le_trans (pl_begin w1) ?_
      split <;> omega
    · unfold JS at hj ⊢
      have v1 : eW s.1 = wP (s.1 4) := if_pos q.2.2.1
      have v2 : eW (iup (iup (iup s.1 12 (s.1 4)) 4 512) 11 (tk + 60)) = max (wP 512) (wP (s.1 4)) := by
        unfold eW
        rw [if_neg z, e4, e12]
      rw [v1] at hj
      dsimp only
      rw [v2, e5]
      unfold JB at hj ⊢
      omega
  · rw [if_neg q, if_neg q]
    exact ⟨Nat.le_refl _, hk, fun hj => hj⟩
