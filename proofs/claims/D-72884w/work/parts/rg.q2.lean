/-! Bounds, trials: packets that may be sent in a window not longer than the way to the server and back (512 a packet): what is lost in it does not come in in it. p: packets sent in it that are in the queue or lost; Lo: fresh losses from before -/
def qN (w F : Int) (Lf Lo : Nat) : Int := if Lf = 0 then max (2 * max w 4096) F else if Lo = 0 then 2 * max (max w 4096) F else max (2 * max (max w 4096) F - 512 * (Lo : Int)) (max (max w 4096) F)
def q2 (w F : Int) (p Lf Lo : Nat) : Int := max 0 (qN w F Lf Lo - 512 * (p : Int))
theorem qN_c (w F : Int) (Lf Lo : Nat) : (Lf = 0 ∧ qN w F Lf Lo = max (2 * max w 4096) F) ∨ (1 ≤ Lf ∧ Lo = 0 ∧ qN w F Lf Lo = 2 * max (max w 4096) F) ∨ (1 ≤ Lf ∧ 1 ≤ Lo ∧ qN w F Lf Lo = max (2 * max (max w 4096) F - 512 * (Lo : Int)) (max (max w 4096) F)) := by
  unfold qN
  by_cases h : Lf = 0
  · rw [if_pos h]
    exact Or.inl ⟨h, rfl⟩
  · rw [if_neg h]
    by_cases h2 : Lo = 0
    · rw [if_pos h2]
      exact Or.inr (Or.inl ⟨by omega, h2, rfl⟩)
    · rw [if_neg h2]
      exact Or.inr (Or.inr ⟨by omega, by omega, rfl⟩)
section Q2
variable {w v F : Int} {p Lf Lf2 Lo U : Nat}
theorem q_F : max 0 (F - 512 * (p : Int)) ≤ q2 w F p Lf Lo := by
  have a := qN_c w F Lf Lo
  unfold q2
  omega
theorem q_0 : 0 ≤ q2 w F p Lf Lo := by
  unfold q2
  omega
/-- packets sent -/
theorem q_send (h : F + 256 ≤ max w 4096) (hx : 256 * ((p : Int) + (Lo : Int)) ≤ F) (hl : Lf ≤ Lf2) (ho : Lo ≤ Lf) : q2 w (F + 256) (p + 1) Lf2 Lo + 512 ≤ q2 w F p Lf Lo := by
  have a := qN_c w F Lf Lo
  have b := qN_c w (F + 256) Lf2 Lo
  unfold q2
  push_cast
  omega
theorem q_stale : q2 w (F - 256) p Lf Lo ≤ q2 w F p Lf Lo := by
  have a := qN_c w F Lf Lo
  have b := qN_c w (F - 256) Lf Lo
  unfold q2
  omega
/-- a halving -/
theorem q_fresh (hw : 256 ≤ w) (hl : 1 ≤ Lf) (hx : 256 * ((Lo + 1 : Nat) : Int) ≤ F) : q2 (halfM w) (F - 256) p 0 0 ≤ q2 w F p Lf (Lo + 1) + (if w < 8192 then 4096 else 0) := by
  have hh : halfM w ≤ max 256 (w / 2) := by
    unfold halfM
    split <;> omega
  have a := qN_c w F Lf (Lo + 1)
  have b := qN_c (halfM w) (F - 256) 0 0
  unfold q2
  generalize halfM w = w2 at *
  generalize qN w F Lf (Lo + 1) = Q1 at *
  generalize qN w2 (F - 256) 0 0 = Q2 at *
  have a2 : Q1 = max (2 * max (max w 4096) F - 512 * ((Lo : Int) + 1)) (max (max w 4096) F) := by
    rcases a with ⟨x, -⟩ | ⟨-, x, -⟩ | ⟨-, -, x⟩
    · omega
    · omega
    · omega
  have b2 : Q2 = max (2 * max w2 4096) (F - 256) := by
    rcases b with ⟨-, x⟩ | ⟨x, -⟩ | ⟨x, -⟩
    · exact x
    · omega
    · omega
  clear a b
  by_cases h8 : w < 8192
  · rw [if_pos h8]
    omega
  · rw [if_neg h8]
    omega
/-- acknowledgments -/
theorem q_ack {g : Int} (hg : 0 ≤ g) (h : max v 4096 ≤ max w 4096 + g) : q2 v (F - 256) p Lf Lo ≤ q2 w F p Lf Lo + 2 * g := by
  have a := qN_c w F Lf Lo
  have b := qN_c v (F - 256) Lf Lo
  unfold q2
  omega
/-- negative ones -/
theorem q_negF (hl : 1 ≤ Lf) (h : v ≤ max w (F + 512)) : q2 v (F - 256) p Lf Lo ≤ q2 w F p Lf Lo + 1024 := by
  have a := qN_c w F Lf Lo
  have b := qN_c v (F - 256) Lf Lo
  unfold q2
  omega
theorem q_low (hF : 8192 ≤ F - 256) (h0 : Lf = 0 → 2 * v ≤ F - 256) (h1 : 1 ≤ Lf → v ≤ F - 256) : q2 v (F - 256) p Lf Lo ≤ q2 w F p Lf Lo := by
  have a := qN_c w F Lf Lo
  have b := qN_c v (F - 256) Lf Lo
  unfold q2
  omega
/-- against the flight alone -/
theorem q_deep (hF : 8192 ≤ F) : q2 v (F - 256) p 0 Lo ≤ max 0 (F - 512 * (p : Int)) + max 0 (2 * v - F) := by
  have b := qN_c v (F - 256) 0 Lo
  unfold q2
  omega
/-- at the window's start: against the other potential -/
theorem q_start (h : Lo = Lf) (hx : 256 * ((U : Int) + (Lf : Int)) ≤ F) : q2 w F 0 Lf Lo ≤ pR w F U Lf + 256 * (U : Int) := by
  subst h
  have a := qN_c w F Lo Lo
  have b := rM_c w F Lo
  unfold q2 pR
  push_cast
  omega
theorem q_lev : q2 w F p Lf Lo ≤ 2 * max (max w F) 4096 := by
  have a := qN_c w F Lf Lo
  unfold q2
  omega
end Q2
/-! over the steps of a sender -/
def qS (s : SdM) (p Lf Lo : Nat) : Int := q2 (mW s) (256 * s.1 5) p Lf Lo
section QS
variable {s : SdM} {d mi tk num X D t : Int} {p Lf Lf2 Lo g U : Nat}
theorem qs_stale (h : num < s.1 9) : qS (lostM s num) p Lf Lo ≤ qS s p Lf Lo := by
  unfold qS
  rw [mW_st h, lost_5]
  have e : 256 * (s.1 5 - 1) = 256 * s.1 5 - 256 := by omega
  rw [e]
  exact q_stale
theorem qs_fresh (hI : sdB tk s) (hk : sW s) (h : ¬ num < s.1 9) (hl : 1 ≤ Lf) (hx : Lo + 1 ≤ (s.1 5).toNat) : qS (lostM s num) p 0 0 ≤ qS s p Lf (Lo + 1) + (if mW s < 8192 then 4096 else 0) := by
  have hm := mW_256 hI hk
  unfold qS
  rw [mW_fr h, lost_5]
  have e : 256 * (s.1 5 - 1) = 256 * s.1 5 - 256 := by omega
  rw [e]
  exact q_fresh hm hl (by push_cast; omega)
theorem qs_send (hk : sW s) (hw : wantsM s) (h0 : 0 ≤ s.1 5) (hx : p + Lo ≤ (s.1 5).toNat) (hl : Lf ≤ Lf2) (ho : Lo ≤ Lf) : qS (sentM s) (p + 1) Lf2 Lo + 512 ≤ qS s p Lf Lo := by
  have e4 : (sentM s).1 4 = s.1 4 := sent_o (by decide) (by decide)
  have e11 : (sentM s).1 11 = s.1 11 := sent_o (by decide) (by decide)
  have e12 : (sentM s).1 12 = s.1 12 := sent_o (by decide) (by decide)
  have em : mW (sentM s) = mW s := by unfold mW; rw [e11, e4, e12]
  have h2 := hw.2
  have hf : 256 * s.1 5 + 256 ≤ max (mW s) 512 := by
    by_cases q : s.1 11 = -1
    · rw [mW_n q]
      omega
    · have := (hk q).1
      omega
  unfold qS
  rw [em, sent_5]
  have e : 256 * (s.1 5 + 1) = 256 * s.1 5 + 256 := by omega
  rw [e]
  exact q_send (by omega) (by omega) hl ho
theorem qs_ends : qS (endsM s tk) p Lf Lo = qS s p Lf Lo := by
  have e5 : (endsM s tk).1 5 = s.1 5 := ends_o (by decide) (by decide) (by decide)
  unfold qS
  rw [mW_ends, e5]
theorem qs_begins {iv : Int} (h0 : 0 ≤ tk) : qS (beginsM s tk iv) p Lf Lo = qS s p Lf Lo := by
  have e5 : (beginsM s tk iv).1 5 = s.1 5 := begins_o (by decide) (by decide) (by decide)
  unfold qS
  rw [mW_begins h0, e5]
theorem qs_F (s : SdM) (p Lf Lo : Nat) : max 0 (256 * s.1 5 - 512 * (p : Int)) ≤ qS s p Lf Lo := q_F
/-- not negative -/
theorem qs_ack (hI : sdB tk s) (hk : sW s) (hq : s.1 11 = -1 → 0 ≤ queueM (enterM s d mi) mi) (hX : 40000 ≤ X) : (qS (ackM s d mi) p Lf Lo ≤ qS s p Lf Lo + 256 ∧ dvL X D (lvS (ackM s d mi)) ≤ dvL X D (lvS s)) ∨ (qS (ackM s d mi) p Lf Lo ≤ qS s p Lf Lo + 128 ∧ dvL X D (lvS (ackM s d mi)) ≤ dvL X D (lvS s) + 14) := by
  have e : 256 * (s.1 5 - 1) = 256 * s.1 5 - 256 := by omega
  by_cases q : s.1 11 = -1
  · have st := ack_4 (d := d) (mi := mi) hI q (Int.le_refl 0) (by have := hq q; omega)
    have hI2 := hI
    unfold sdB at hI2
    have hg : (ackM s d mi).1 4 ≤ s.1 4 ∨ ((ackM s d mi).1 4 - s.1 4) * s.1 4 ≤ 524288 := by
      rcases st.2.1 with z | z
      · exact Or.inl z
      · exact Or.inr (by have := z.2; omega)
    unfold qS lvS
    rw [mW_n q, mW_ackn q, ack_5, e]
    generalize (ackM s d mi).1 4 = v at *
    generalize s.1 4 = w at *
    have hw : 256 ≤ w := hI2.2.2.1.1
    have key : max v 4096 ≤ max w 4096 + 128 := by
      rcases hg with z | z
      · omega
      · by_cases y : 4096 ≤ w
        · have : v - w ≤ 128 := by
            apply Decidable.byContradiction
            intro z2
            have e1 : (129 : Int) * w ≤ (v - w) * w := Int.mul_le_mul_of_nonneg_right (by omega) (by omega)
            omega
          omega
        · apply Decidable.byContradiction
          intro z2
          have z3 : 4224 < v := by omega
          by_cases y2 : 2048 ≤ w
          · have e1 : (4225 - w) * w ≤ (v - w) * w := Int.mul_le_mul_of_nonneg_right (by omega) (by omega)
            have e2 : (4225 - w) * w = 4225 * w - w * w := Int.sub_mul _ _ _
            have e3 : w * w ≤ 4096 * w := Int.mul_le_mul_of_nonneg_right (by omega) (by omega)
            have e4 : 0 ≤ (w - 2048) * (4096 - w) := Int.mul_nonneg (by omega) (by omega)
            have e5 : (w - 2048) * (4096 - w) = w * 4096 - w * w - (2048 * 4096 - 2048 * w) := by rw [Int.sub_mul, Int.mul_sub, Int.mul_sub]
            omega
          · have e1 : (2177 : Int) * w ≤ (v - w) * w := Int.mul_le_mul_of_nonneg_right (by omega) (by omega)
            have e6 : (v - 2048) * w ≤ (v - w) * w := Int.mul_le_mul_of_nonneg_right (by omega) (by omega)
            have e7 : (4225 - w) * w ≤ (v - w) * w := Int.mul_le_mul_of_nonneg_right (by omega) (by omega)
            have e8 : (4225 - w) * w = 4225 * w - w * w := Int.sub_mul _ _ _
            have e9 : 0 ≤ (w - 256) * (2048 - w) := Int.mul_nonneg (by omega) (by omega)
            have e10 : (w - 256) * (2048 - w) = w * 2048 - w * w - (256 * 2048 - 256 * w) := by rw [Int.sub_mul, Int.mul_sub, Int.mul_sub]
            omega
    obtain ⟨g1, g2⟩ := grow_dv (X := X) (D := D) (F := 256 * s.1 5) hw hX hg
    by_cases y : dvL X D (max w (256 * s.1 5)) < dvL X D (max v (256 * s.1 5 - 256))
    · right
      have w8 := g2 y
      refine ⟨?_, g1⟩
      have hv : v ≤ w + 64 := by
        rcases hg with z | z
        · omega
        · apply Decidable.byContradiction
          intro z2
          have e1 : (65 : Int) * w ≤ (v - w) * w := Int.mul_le_mul_of_nonneg_right (by omega) (by omega)
          omega
      have := q_ack (w := w) (v := v) (F := 256 * s.1 5) (p := p) (Lf := Lf) (Lo := Lo) (g := 64) (by decide) (by omega)
      omega
    · have := q_ack (w := w) (v := v) (F := 256 * s.1 5) (p := p) (Lf := Lf) (Lo := Lo) (g := 128) (by decide) key
      exact Or.inl ⟨by omega, by omega⟩
  · left
    unfold qS lvS
    rw [mW_acks q, ack_5, e]
    have r1 := q_ack (w := mW s) (v := mW s) (F := 256 * s.1 5) (p := p) (Lf := Lf) (Lo := Lo) (g := 0) (by decide) (by omega)
    refine ⟨by omega, ?_⟩
    unfold dvL
    omega
theorem qs_neg {K : Int} {c0 : Int → Int} (hP : NC0 K X D c0) (hI : sdB tk s) (hk : sW s) (hn : s.1 11 = -1) (h5 : 1 ≤ s.1 5) (hq : queueM (enterM s d mi) mi < 0) (hg : - (g : Int) ≤ queueM (enterM s d mi) mi) (hgK : 1 + (g : Int) ≤ K) :
    (1 ≤ Lf → qS (ackM s d mi) p Lf Lo ≤ qS s p Lf Lo + 1024) ∧
    (dpF (ackM s d mi) Lf → dpF s Lf ∧ qS (ackM s d mi) p Lf Lo ≤ qS s p Lf Lo) ∧
    (Lf = 0 → ¬ dpF s Lf → 16 * qS (ackM s d mi) p Lf Lo ≤ 16 * qS s p Lf Lo + c0 (dvL X D (lvS s))) ∧
    (∀ (e2 : Int) (cE : Int → Int), NCE K X D e2 cE → Lf = 0 → dpF s Lf → tE s Lf ≤ e2 → 256 * s.1 5 ≤ X + D → 16 * qS (ackM s d mi) p Lf Lo ≤ 16 * max 0 (256 * s.1 5 - 512 * (p : Int)) + cE (dvL X D (lvS s))) ∧
    lvS (ackM s d mi) ≤ lvS s + 512 := by
  have nw := neg_w hI hn h5 hq hg
  have st := ack_4 (d := d) (mi := mi) (g := g) hI hn (by omega) hg
  have hI2 := hI
  unfold sdB at hI2
  have e : 256 * (s.1 5 - 1) = 256 * s.1 5 - 256 := by omega
  have hw : 256 ≤ s.1 4 := hI2.2.2.1.1
  have hvF : (ackM s d mi).1 4 ≤ max (s.1 4) (256 * s.1 5 + 512) := by
    rcases st.2.1 with z | z
    · omega
    · have := z.1
      omega
  have hK : ((ackM s d mi).1 4 - s.1 4) * s.1 4 ≤ 524288 * K := by
    have := nw.2.2.2.1
    omega
  have dpx : dpF (ackM s d mi) Lf → dpF s Lf := dp_ack hI hk (fun _ => nw.1)
  refine ⟨fun hl => ?_, fun h => ⟨dpx h, ?_⟩, fun hl h => ?_, fun e2 cE hE hl h he hc => ?_, ?_⟩
  · unfold qS
    rw [mW_n hn, mW_ackn hn, ack_5, e]
    exact q_negF hl hvF
  · obtain ⟨h1, h2⟩ := h
    have h3 := h1
    unfold tE at h3
    rw [mW_ackn hn, ack_5] at h3
    rw [ack_5] at h2
    have p := eE_pos (by omega) h3
    unfold qS
    rw [mW_n hn, mW_ackn hn, ack_5, e]
    exact q_low (by omega) (fun z => by have := p.2.1 z; omega) (fun z => by have := p.2.2.1 z; omega)
  · subst hl
    have hF : 256 * s.1 5 ≤ 2 * s.1 4 + 1024 ∨ 256 * s.1 5 < 8192 := by
      by_cases hf : 32 ≤ s.1 5
      · left
        have ht : ¬ 0 < tE s 0 := fun z => h ⟨z, hf⟩
        have ge := eE_ge (w := s.1 4) (f := s.1 5) (Lf := 0) (by omega)
        rw [if_pos rfl] at ge
        unfold tE at ht
        rw [mW_n hn] at ht
        apply Decidable.byContradiction
        intro z
        have s1 : (2 * s.1 4 + 1) * (2 * s.1 4 + 1) ≤ (256 * (s.1 5 - 2)) * (256 * (s.1 5 - 2)) := sq_mono (by omega) (by omega)
        have e7 : (2 * s.1 4 + 1) * (2 * s.1 4 + 1) = (2 * s.1 4) * (2 * s.1 4) + 4 * s.1 4 + 1 := by
          rw [Int.add_mul, Int.mul_add]
          omega
        omega
      · right
        omega
    have r0 := q_ack (w := s.1 4) (v := (ackM s d mi).1 4) (F := 256 * s.1 5) (p := p) (Lf := 0) (Lo := Lo) (g := max 0 (max ((ackM s d mi).1 4) 4096 - max (s.1 4) 4096)) (by omega) (by omega)
    have r1 := hP (s.1 4) ((ackM s d mi).1 4) (256 * s.1 5) hw nw.1 hvF hK hF
    unfold qS lvS
    rw [mW_n hn, mW_ackn hn, ack_5, e]
    omega
  · subst hl
    obtain ⟨h1, h2⟩ := h
    unfold tE at h1 he
    rw [mW_n hn] at h1 he
    have pp := eE_pos (by omega) h1
    have p1 := pp.2.1 rfl
    have p2 := pp.2.2.2
    rw [if_pos rfl] at p2
    have e6 : 256 * (s.1 5 - 2) = 256 * s.1 5 - 512 := by omega
    rw [e6] at p2
    have r1 := hE (s.1 4) ((ackM s d mi).1 4) (256 * s.1 5) hw nw.1 hvF hK (by omega) hc (by omega) (by omega)
    have el : max (s.1 4) (256 * s.1 5) = 256 * s.1 5 := by omega
    unfold qS lvS
    rw [mW_n hn, mW_ackn hn, ack_5, e, el]
    have r2 := q_deep (v := (ackM s d mi).1 4) (F := 256 * s.1 5) (p := p) (Lo := Lo) (by omega)
    omega
  · unfold lvS
    rw [mW_n hn, mW_ackn hn, ack_5]
    omega
end QS
