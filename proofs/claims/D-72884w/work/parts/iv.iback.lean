/-! Bounds: all that is kept of a sender (2 <= R <= 60), and an acknowledgment -/
def FAi (fa : Int → Int) (f : Int → Option Int) : Prop := ∀ j v, f j = some v → 200 * j ≤ fa j
theorem FAi.ack {now tq T0 d : Int} {fa : Int → Int} {f : Int → Option Int} (h : FAi fa f) (hq : tq < now) : FAi (ackF tq T0 now f fa) (fun j => if j = now / 200 then omin (f (now / 200)) (some d) else f j) := by
  have ht : tN tq T0 now = now := if_neg (by omega)
  intro j v hj
  unfold ackF
  rw [ht]
  dsimp only at hj
  by_cases q : j = now / 200
  · by_cases z : f (now / 200) = none
    · rw [if_pos z, if_pos q]
      omega
    · rw [if_neg z]
      cases hf : f (now / 200) with
      | none => exact absurd hf z
      | some w =>
        have := h _ w hf
        rw [q]
        exact this
  · rw [if_neg q] at hj
    have := h j v hj
    split
    · dsimp only
      rw [if_neg q]
      exact this
    · exact this
/-- ghost of J: lower ones, all since, first time, minute of the last, flags -/
abbrev GJ : Type := Nat × Nat × Int × Int × Bool × Bool
def IB (now c dl tq T0 R : Int) (s : SdM) (o : List Int) (l : List NtM) (g : Gh) (j : GJ) : Prop :=
  VM now c dl tq T0 R s o l g ∧ JI R (s, o, l) j.1 j.2.2.1 ∧ SL (s, o, l) ∧ ND g.2.1 s.2.1 ∧ TS now g.2.1 ∧ (∀ e ∈ g.2.1, tq < e.2.1 ∧ e.2.1 = e.1) ∧ FAi g.2.2 s.2.1 ∧ (s.1 11 = -1 → 1 ≤ j.1 → NB g.2.1 s.2.1 (j.2.2.2.1 - 4) ∧ j.2.2.2.1 ≤ now / 200 ∧ LC g.2.1 j.2.1 j.2.2.1 ∧ j.1 ≤ j.2.1 ∧ j.2.2.1 ≤ now ∧ (j.2.1 = 1 → j.2.2.2.2.1 = false) ∧ (j.2.1 = 2 → j.2.2.2.2.2 = false ∧ (j.1 = 2 → j.2.2.2.2.1 = false)))
/-- potential and fund -/
def PF (now : Int) (s : SdM) (o : List Int) (l : List NtM) (g : Gh) (j : GJ) : Int := 5 * PV (s, o, l) + Gf now g.2.1 j.2.2.2.2.1 j.2.2.2.2.2
section IBA
variable {now c dl tq T0 R : Int} {s : SdM} {o : List Int} {l1 l2 : List NtM} {n : NtM} {g : Gh} {j : GJ}
theorem SL.ack {mi : Int} (h : SL (s, o, l1 ++ n :: l2)) : SL (ackM s n.2.2.2 mi, o, l1 ++ l2) := by
  intro z
  have z : (ackM s n.2.2.2 mi).1 11 ≠ -1 := z
  have e11 : (ackM s n.2.2.2 mi).1 11 = s.1 11 := ack_o (by decide) (by decide) (by decide)
  have e5 : (ackM s n.2.2.2 mi).1 5 = s.1 5 - 1 := ack_5
  rw [e11] at z
  show (ackM s n.2.2.2 mi).1 5 ≤ 2 ∨ lsB (l1 ++ l2) ((ackM s n.2.2.2 mi).1 11)
  rw [e11, e5]
  rcases h z with q | q
  · left
    have q : s.1 5 ≤ 2 := q
    omega
  · right
    exact q.sub (fun a ha => mid_mem ha)
theorem IB.ack (h : IB now c dl tq T0 R s o (l1 ++ n :: l2) g j) (hn : isA n) (ht : n.1 = now) (hq : tq < now) (hl : ∀ a ∈ l1, now < a.1) (hr : ∀ a ∈ l2, now ≤ a.1) (hP : lsB (l1 ++ l2) (now + R)) (hR : R ≤ 60) :
    ∃ j2, IB now c dl tq T0 R (ackM s n.2.2.2 (now / 200)) o (l1 ++ l2) (stepG tq T0 now s.2.1 g n) j2 ∧ PF now (ackM s n.2.2.2 (now / 200)) o (l1 ++ l2) (stepG tq T0 now s.2.1 g n) j2 ≤ PF now s o (l1 ++ n :: l2) g j + 25 := by
  obtain ⟨hV, hJ, hSL, hND, hTS, hw, hFA, hcc⟩ := h
  obtain ⟨cd, ca, yt, ym, b1, b2⟩ := j
  dsimp only at hJ hcc
  have hV2 := hV.ack hn ht hl hr
  have hF := hV.1
  have hI := hV.2.2.2.2
  have hk := hV.2.2.2.1
  have hS0 := hV.2.2.1
  have hgl : (stepG tq T0 now s.2.1 g n).2.1 = ackL tq T0 now n.2.2.2 g.2.1 := by
    unfold stepG
    rw [if_pos ⟨ht, hn⟩]
  have hgf : (stepG tq T0 now s.2.1 g n).2.2 = ackF tq T0 now s.2.1 g.2.2 := by
    unfold stepG
    rw [if_pos ⟨ht, hn⟩]
  have e11 : (ackM s n.2.2.2 (now / 200)).1 11 = s.1 11 := ack_o (by decide) (by decide) (by decide)
  have htN : tN tq T0 now = now := if_neg (by omega)
  have hND2 : ND (stepG tq T0 now s.2.1 g n).2.1 (ackM s n.2.2.2 (now / 200)).2.1 := by
    rw [hgl]
    exact hND.ack hS0
  have hTS2 : TS now (stepG tq T0 now s.2.1 g n).2.1 := by
    rw [hgl]
    exact hTS.ack hq
  have hw2 : ∀ e ∈ (stepG tq T0 now s.2.1 g n).2.1, tq < e.2.1 ∧ e.2.1 = e.1 := by
    rw [hgl]
    intro e he
    rcases ackL_mem he with z | z
    · rw [z]
      dsimp only
      rw [htN]
      exact ⟨hq, rfl⟩
    · exact hw e z
  have hFA2 : FAi (stepG tq T0 now s.2.1 g n).2.2 (ackM s n.2.2.2 (now / 200)).2.1 := by
    rw [hgf]
    exact hFA.ack hq
  have hSL2 : SL (ackM s n.2.2.2 (now / 200), o, l1 ++ l2) := hSL.ack
  have hPA := pV_ack (mi := now / 200) hF hI hk hn
  have hco := pts_co hTS
  -- not negative
  have hG0 : Gf now (stepG tq T0 now s.2.1 g n).2.1 false b1 ≤ Gf now g.2.1 b1 b2 := by
    rw [hgl, Gf_ack hq]
    exact gG_p hco.1 hco.2.1 hco.2.2
  by_cases hs : s.1 11 = -1
  · by_cases hneg : queueM (enterM s n.2.2.2 (now / 200)) (now / 200) < 0
    · -- negative
      have hJ2 : JI R (ackM s n.2.2.2 (now / 200), o, l1 ++ l2) cd yt := hJ.ackn hF hI hn hs hneg
      refine ⟨(cd, ca + 1, yt, ym, true, b1), ⟨hV2, hJ2, hSL2, hND2, hTS2, hw2, hFA2, fun _ h1 => ?_⟩, ?_⟩
      · obtain ⟨c1, c2, c3, c4, c5, c6, c7⟩ := hcc hs h1
        dsimp only at *
        rw [hgl]
        refine ⟨c1.ack (by omega), c2, c3.ack c5, by omega, c5, fun z => by omega, fun z => ⟨c6 (by omega), fun y => by omega⟩⟩
      · unfold PF
        dsimp only
        rw [hgl]
        by_cases hjv : JV (s, o, l1 ++ n :: l2)
        · obtain ⟨G, hG, hG2⟩ := neg_gap (b1 := b1) (b2 := b2) hV hn ht hq hTS (fun e he => (hw e he).1) hneg
          have p := (pV_neg (c := 0) hF hI hn hs hneg hG).1 hjv
          rcases hG2 with z | z
          · have := p.1
            omega
          · have := p.2
            omega
        · rcases hJ hs with ⟨-, z⟩ | ⟨h1, h2, h3⟩
          · exact absurd z hjv
          · have hD : JD s (vF (s, o, l1 ++ n :: l2)) cd := by
              rcases h3 with z | z
              · exact absurd z hjv
              · exact z
            by_cases hvf : 1 ≤ vF (s, o, l1 ++ n :: l2)
            · have p := (pV_neg (c := 0) (g := (- queueM (enterM s n.2.2.2 (now / 200)) (now / 200)).toNat) hF hI hn hs hneg (by omega)).2.1 hvf
              have : Gf now (ackL tq T0 now n.2.2.2 g.2.1) true b1 ≤ Gf now g.2.1 b1 b2 := by
                rw [Gf_ack hq]
                exact gG_any hco.1 hco.2.1 hco.2.2
              omega
            · have hyt : now ≤ yt + 60 := by
                apply Decidable.byContradiction
                intro z
                refine hjv (JV.none hF (fun a ha => ?_))
                apply Decidable.byContradiction
                intro y
                have b : a.1 ≤ yt + R := h2 a ha y
                rcases List.mem_append.mp ha with w | w
                · have := hl a w
                  omega
                · rcases List.mem_cons.mp w with w | w
                  · rw [w] at b
                    omega
                  · have := hr a w
                    omega
              obtain ⟨c1, c2, c3, c4, c5, c6, c7⟩ := hcc hs h1
              obtain ⟨G, g7, hG, hca, k1, k2, k3⟩ := neg_gapF (b1 := b1) (b2 := b2) hV hn ht hq hTS hw hneg hND c1 (by omega) c3 (by omega) hyt
              have p := (pV_neg (c := cd) hF hI hn hs hneg hG).2.2 hjv hD g7
              by_cases q1 : ca = 1
              · have := k1 q1 (c6 q1)
                have := p.1 (by omega)
                omega
              · have q2 : ca = 2 := by omega
                obtain ⟨f2, f3⟩ := c7 q2
                by_cases q3 : cd = 2
                · have := k3 q2 (f3 q3) f2
                  have := p.2 (by omega)
                  omega
                · have := k2 q2 f2
                  have := p.1 (by omega)
                  omega
    · -- a steering one that is not negative
      have hst := hV.stor hn ht
      have hL := hst.2.1
      rw [htN] at hL
      have hqq : queueM (enterM s n.2.2.2 (now / 200)) (now / 200) ≤ 999 := by
        obtain ⟨i, i1, i2, i3, i4⟩ := SF.pos hst.1 hL rfl (by
          have := hst.2.2 hq
          show now - n.2.2.2 = _
          rw [this])
        cases hfi : (enterM s n.2.2.2 (now / 200)).2.1 i with
        | none => exact absurd hfi i3
        | some w =>
          have := hFA2 i w hfi
          omega
      have hJ2 := hJ.ackp (now := now) hF hI hn hs hqq hP
      refine ⟨(cd + 1, (if cd = 0 then 1 else ca + 1), (if cd = 0 then now else yt), now / 200, false, b1), ⟨hV2, hJ2, hSL2, hND2, hTS2, hw2, hFA2, fun _ h1 => ?_⟩, ?_⟩
      · dsimp only at *
        obtain ⟨jj, vv, n1, n2, n3⟩ := SF.nonneg hst.1 hL rfl (by omega)
        refine ⟨fun e he => ⟨jj, vv, n1, n3 e he, by omega⟩, by omega, ?_, ?_, ?_, ?_, ?_⟩
        · rw [hgl]
          by_cases q : cd = 0
          · rw [if_pos q, if_pos q]
            intro e he
            unfold ackL at he
            rw [List.take_succ_cons, List.take_succ_cons] at he
            simp at he
            rw [he]
            exact Int.le_refl _
          · obtain ⟨c1, c2, c3, c4, c5, c6, c7⟩ := hcc hs (by omega)
            rw [if_neg q, if_neg q]
            exact c3.ack c5
        · by_cases q : cd = 0
          · rw [if_pos q]
            omega
          · obtain ⟨c1, c2, c3, c4, c5, c6, c7⟩ := hcc hs (by omega)
            rw [if_neg q]
            omega
        · by_cases q : cd = 0
          · rw [if_pos q]
            exact Int.le_refl _
          · obtain ⟨c1, c2, c3, c4, c5, c6, c7⟩ := hcc hs (by omega)
            rw [if_neg q]
            exact c5
        · exact fun _ => rfl
        · intro z
          by_cases q : cd = 0
          · rw [if_pos q] at z
            omega
          · obtain ⟨c1, c2, c3, c4, c5, c6, c7⟩ := hcc hs (by omega)
            rw [if_neg q] at z
            exact ⟨c6 (by omega), fun _ => rfl⟩
      · unfold PF
        dsimp only
        have := hPA.2.2.1 (fun _ => by omega)
        omega
  · -- in a slow-down
    refine ⟨(0, 0, now, 0, false, b1), ⟨hV2, JI.acks hs, hSL2, hND2, hTS2, hw2, hFA2, fun z => ?_⟩, ?_⟩
    · rw [e11] at z
      exact absurd z hs
    · unfold PF
      dsimp only
      have := hPA.2.2.1 (fun z => absurd z hs)
      omega
end IBA
