/-! Bounds, mode H: what an acknowledgment costs, by the drops that lie behind (c) -/
section HBQA
variable {now c dl R lo lw hi q1 qn qh n0 K w wf wh : Int} {q : Int → Int} {s : SdM} {o : List Int} {l1 l2 : List NtM} {n : NtM} {g : Gh} {j : GJh} {X X2 C w1 Xh2 Ch w1h gd : Nat}
theorem HBo.ackC (hP : PHo K qn X X2 C w1 w wf) (hPh : PHo K qh X Xh2 Ch w1h w wh) (hqh : qn ≤ 2 * qh) (h : HBo now c dl R lo lw hi q n0 s o (l1 ++ n :: l2) g j) (hn : isA n) (ht : n.1 = now) (hl : ∀ a ∈ l1, now < a.1) (hr : ∀ a ∈ l2, now ≤ a.1) (hlp : lsN n0 (l1 ++ l2) (now + R)) (hg : - (gd : Int) ≤ queueM (enterM s n.2.2.2 (now / 200)) (now / 200)) (hK : 1 + (gd : Int) ≤ K) (hQ : QF q now q1 qn) (hq : hi - lw ≤ q1) (hR : R ≤ 60) :
    ∃ j2 : GJh, HBo now c dl R lo lw hi q n0 (ackM s n.2.2.2 (now / 200)) o (l1 ++ l2) (stepG tqB T0B now s.2.1 g n) j2 ∧ (stepG tqB T0B now s.2.1 g n).2.1 = ackL tqB T0B now n.2.2.2 g.2.1 ∧ obN n0 (ackM s n.2.2.2 (now / 200)) = obN n0 s ∧
    ((j2.1 ≤ j.1 + 1 ∧ PVo n0 (ackM s n.2.2.2 (now / 200), o, l1 ++ l2) ≤ PVo n0 (s, o, l1 ++ n :: l2) + 5 ∧ (s.1 11 = -1 → 0 ≤ queueM (enterM s n.2.2.2 (now / 200)) (now / 200))) ∨
     (j2.1 ≤ j.1 ∧ s.1 11 = -1 ∧ queueM (enterM s n.2.2.2 (now / 200)) (now / 200) < 0 ∧ (mn2 now g.2.1 < mn0 now g.2.1 ∨ mn2 now g.2.1 + 5 ≤ now / 200) ∧
       ((PVo n0 (ackM s n.2.2.2 (now / 200), o, l1 ++ l2) : Int) ≤ (PVo n0 (s, o, l1 ++ n :: l2) : Int) + (w + 5) ∨
        (1 ≤ j.1 ∧ j.1 ≤ 2 ∧ mn2 now g.2.1 + 5 ≤ now / 200 ∧ now / 200 ≤ mn0 now g.2.1 + 1 ∧ (PVo n0 (ackM s n.2.2.2 (now / 200), o, l1 ++ l2) : Int) ≤ (PVo n0 (s, o, l1 ++ n :: l2) : Int) + ((if j.1 = 1 then wh else wf) + 5))))) := by
  obtain ⟨hG, hJ, hSL, hND, hcc, h6, hLQ, hlw⟩ := h
  obtain ⟨cd, ca, yt, ym⟩ := j
  dsimp only at hJ hcc
  obtain ⟨hV, hRg⟩ := hG
  have hF := hV.1
  have hI := hV.2.2.2.2
  have hk := hV.2.2.2.1
  have hS0 := hV.2.2.1
  have hV2 := hV.ack hn ht hl hr
  have hR2 := hRg.ack hn
  have rq := hRg.q hn
  have hst := hV.stor hn ht
  have eg : stepG tqB T0B now s.2.1 g n = (kaN tqB now g.1 n, ackL tqB T0B now n.2.2.2 g.2.1, ackF tqB T0B now s.2.1 g.2.2) := if_pos ⟨ht, hn⟩
  have hgl : (stepG tqB T0B now s.2.1 g n).2.1 = ackL tqB T0B now n.2.2.2 g.2.1 := by rw [eg]
  have e11 : (ackM s n.2.2.2 (now / 200)).1 11 = s.1 11 := ack_o (by decide) (by decide) (by decide)
  have hND2 : ND (stepG tqB T0B now s.2.1 g n).2.1 (ackM s n.2.2.2 (now / 200)).2.1 := by
    rw [hgl]
    exact hND.ack hS0
  have hSL2 : SLo n0 (ackM s n.2.2.2 (now / 200), o, l1 ++ l2) := hSL.ack
  have hx := (hF.o (n0 := n0)).2
  have hF1 := fl_mid hF
  obtain ⟨eu, efo, eo, en⟩ := ack_uo (n0 := n0) (s := s) (o := o) (l1 := l1) (l2 := l2) (mi := now / 200) hn
  have ef := (ack_uf (s := s) (o := o) (l1 := l1) (l2 := l2) (mi := now / 200) hn).2
  have e9 : (ackM s n.2.2.2 (now / 200)).1 9 = s.1 9 := ack_o (by decide) (by decide) (by decide)
  have hob : obN n0 (ackM s n.2.2.2 (now / 200)) = obN n0 s := by
    unfold obN
    rw [e9]
  have h6b : n0 ≤ (ackM s n.2.2.2 (now / 200)).1 6 := by
    rw [ack_o (by decide) (by decide) (by decide)]
    exact h6
  have hw0 : 0 ≤ w := by have := hP.2.2.2.2.2.2.1; omega
  by_cases hs : s.1 11 = -1
  · by_cases hneg : queueM (enterM s n.2.2.2 (now / 200)) (now / 200) < 0
    · have hJ2 : JEo R q n0 (ackM s n.2.2.2 (now / 200), o, l1 ++ l2) cd yt := hJ.ackn hI hn hs (by have h5 : s.1 5 = ((o.length + (l1 ++ n :: l2).length : Nat) : Int) := hF.1; omega) hneg
      refine ⟨(cd, ca + 1, yt, ym), ⟨⟨hV2, hR2⟩, hJ2, hSL2, hND2, fun _ h1 => ?_, h6b, hLQ.ack hn, hlw⟩, hgl, hob, Or.inr ⟨Nat.le_refl _, hs, hneg, ?_, ?_⟩⟩
      · obtain ⟨c1, c2, c3, c4, c5⟩ := hcc hs h1
        dsimp only at *
        rw [hgl]
        exact ⟨c1.ack (by omega), c2, c3.ack c5, by omega, c5⟩
      · have hst1 := hst.1
        rw [eg] at hst1
        dsimp only at hst1
        exact neg_in hS0 hst1 hneg
      · -- the cost
        have h5 : 1 ≤ s.1 5 := by
          have h5 : s.1 5 = ((o.length + (l1 ++ n :: l2).length : Nat) : Int) := hF.1
          omega
        rw [eu, efo] at hx
        dsimp only at hx ⊢
        have ht0 : tE s 0 ≤ tE s (vF (s, o, l1 ++ n :: l2)) := tE_00
        have hP0 := hP
        obtain ⟨p1, p2, p3, p4, p5, p6, p7, p8, p9, p10⟩ := hP
        -- three kinds of cost
        have small : (PVo n0 (ackM s n.2.2.2 (now / 200), o, l1 ++ l2) : Int) ≤ (PVo n0 (s, o, l1 ++ n :: l2) : Int) + (w + 5) → ((PVo n0 (ackM s n.2.2.2 (now / 200), o, l1 ++ l2) : Int) ≤ (PVo n0 (s, o, l1 ++ n :: l2) : Int) + (w + 5) ∨
        (1 ≤ cd ∧ cd ≤ 2 ∧ mn2 now g.2.1 + 5 ≤ now / 200 ∧ now / 200 ≤ mn0 now g.2.1 + 1 ∧ (PVo n0 (ackM s n.2.2.2 (now / 200), o, l1 ++ l2) : Int) ≤ (PVo n0 (s, o, l1 ++ n :: l2) : Int) + ((if cd = 1 then wh else wf) + 5))) := Or.inl
        by_cases hl1 : 1 ≤ vFo n0 (ackM s n.2.2.2 (now / 200), o, l1 ++ l2)
        · have := pVo_of_ps (n0 := n0) (s := s) (o := o) (l1 := l1) (l2 := l2) (mi := now / 200) hn (by omega) ((ps_negC (U := vU (ackM s n.2.2.2 (now / 200), o, l1 ++ l2)) (Lf := vFo n0 (ackM s n.2.2.2 (now / 200), o, l1 ++ l2)) hI hs h5 (by omega) hneg hg).2.2.1 hl1)
          exact small (by omega)
        · have hl0 : vFo n0 (ackM s n.2.2.2 (now / 200), o, l1 ++ l2) = 0 := by omega
          have hU0 : vU (ackM s n.2.2.2 (now / 200), o, l1 ++ l2) + 1 + 0 ≤ (s.1 5).toNat := by omega
          have conv : ∀ cc : Nat, PS (ackM s n.2.2.2 (now / 200)) (vU (ackM s n.2.2.2 (now / 200), o, l1 ++ l2)) 0 ≤ PS s (vU (ackM s n.2.2.2 (now / 200), o, l1 ++ l2) + 1) 0 + cc → PVo n0 (ackM s n.2.2.2 (now / 200), o, l1 ++ l2) ≤ PVo n0 (s, o, l1 ++ n :: l2) + cc := fun cc z => pVo_of_ps hn (by omega) (by rw [hl0]; exact z)
          by_cases hw : fwN n0 (l1 ++ n :: l2)
          · have a := pVo_tok (n0 := n0) hF hI hn hs hneg hg hl0
            have hw2 := fwN_mid hw
            unfold fwN at hw2
            exact small (by omega)
          · by_cases hE : tE s 0 = 0
            · obtain ⟨cc, q1, q2⟩ := ps_neg0 hI hs h5 hU0 hneg hg (by omega) p1 p2 hE
              have := conv cc q1
              exact small (by omega)
            · -- a far one
              rcases hJ hs with ⟨-, z⟩ | ⟨h1, h2, h3⟩
              · rcases z with z | z
                · exact absurd z hw
                · have z : tE s (vF (s, o, l1 ++ n :: l2)) = 0 := z
                  have := tE_0 s 0
                  exact absurd (by omega) hE
              · have h3 : tE s 0 ≤ cd * (4194304 * q yt) := by
                  rcases h3 with z | z
                  · exact absurd z hw
                  · have z : tE s (vF (s, o, l1 ++ n :: l2)) ≤ cd * (4194304 * q yt) := z
                    omega
                obtain ⟨c1, c2, c3, c4, c5⟩ := hcc hs h1
                have hyt : now ≤ yt + 60 := by
                  apply Decidable.byContradiction
                  intro z
                  refine hw (fwN_none (fun a ha y y2 => ?_))
                  have b : a.1 ≤ yt + R := h2 a ha y y2
                  rcases List.mem_append.mp ha with x | x
                  · have := hl a x
                    omega
                  · rcases List.mem_cons.mp x with x | x
                    · rw [x] at b
                      omega
                    · have := hr a x
                      omega
                obtain ⟨p, a, b, r, f1, f2, f3, f4, e, he, f5, f6, f7⟩ := SF.neg hst.1 hst.2.1 rfl hneg
                have hNB2 := c1.ack (tq := tqB) (T0 := T0B) (d := n.2.2.2) (now := now) (by omega)
                have heL : e ∈ (stepG tqB T0B now s.2.1 g n).2.1 := by
                  rw [f1]
                  exact List.mem_append_right _ (List.mem_cons_of_mem _ he)
                have fr := neg_far (jm := ym - 4) hst.1 hND2 (by rw [hgl]; exact hNB2) heL f7
                -- among the latest three
                have he3 : e ∈ g.2.1.take 3 := by
                  have q1 := f1
                  rw [hst.2.1] at q1
                  cases p with
                  | nil =>
                    have := (List.cons.inj q1).2
                    rw [this]
                    exact he
                  | cons y p =>
                    have := (List.cons.inj q1).2
                    rw [this]
                    exact List.mem_append_right _ (List.mem_cons_of_mem _ he)
                have hm2 := far_mn2 hS0 he3
                have hca : ca ≤ 2 := by
                  apply Decidable.byContradiction
                  intro z
                  have := c3 e (List.take_subset_take_left g.2.1 (by omega) he3)
                  omega
                have hm0 : now / 200 ≤ mn0 now g.2.1 + 1 := by
                  cases hL : g.2.1 with
                  | nil => rw [hL] at he3; cases he3
                  | cons e0 M =>
                    have e0m : mn0 now (e0 :: M) = e0.1 / 200 := rfl
                    rw [e0m]
                    have := c3 e0 (by
                      rw [hL]
                      obtain ⟨ca', hca'⟩ : ∃ k, ca = k + 1 := ⟨ca - 1, by omega⟩
                      rw [hca', List.take_succ_cons]
                      exact List.mem_cons_self)
                    omega
                have hcd : cd ≤ 2 := by omega
                have y1 := hQ.2.2.2 yt c5 hyt
                have y0 := hQ.2.2.1 yt c5
                have y3 := hQ.1
                have y4 := hQ.2.1
                by_cases hc1 : cd = 1
                · have hD : tE s 0 ≤ 2 * (4194304 * qh) := by
                    rw [hc1] at h3
                    simp only [Int.natCast_one, Int.one_mul] at h3
                    have h3 : tE s 0 ≤ 4194304 * q yt := h3
                    omega
                  rcases ps_far hPh.s hI hs h5 hU0 hneg hg (by omega) hD with z | z
                  · have cz := conv _ z
                    have p8 := hPh.2.2.2.2.2.2.2.1
                    refine Or.inr ⟨h1, hcd, by omega, hm0, ?_⟩
                    rw [if_pos hc1]
                    omega
                  · have := conv _ z
                    exact small (by omega)
                · have hD : tE s 0 ≤ 2 * (4194304 * qn) := by
                    have : (cd : Int) * (4194304 * q yt) ≤ 2 * (4194304 * q yt) := Int.mul_le_mul_of_nonneg_right (by omega) (by omega)
                    omega
                  rcases ps_far hP0.s hI hs h5 hU0 hneg hg (by omega) hD with z | z
                  · have cz := conv _ z
                    refine Or.inr ⟨h1, hcd, by omega, hm0, ?_⟩
                    rw [if_neg hc1]
                    omega
                  · have := conv _ z
                    exact small (by omega)
    · -- not negative
      have hqq : queueM (enterM s n.2.2.2 (now / 200)) (now / 200) ≤ q now + 1 := by have := hQ.2.1; omega
      have hJ2 := hJ.ackp (now := now) (mi := now / 200) hI hn hs (by have := hQ.1; have := hQ.2.1; omega) hqq (fun z => hQ.2.2.1 yt (hcc hs z).2.2.2.2) hlp
      have p5 := pVo_ack (n0 := n0) (mi := now / 200) hF hI hk hn (fun _ => by omega)
      refine ⟨(cd + 1, (if cd = 0 then 1 else ca + 1), (if cd = 0 then now else yt), now / 200), ⟨⟨hV2, hR2⟩, hJ2, hSL2, hND2, fun _ h1 => ?_, h6b, hLQ.ack hn, hlw⟩, hgl, hob, Or.inl ⟨Nat.le_refl _, p5, fun _ => by omega⟩⟩
      · dsimp only at *
        obtain ⟨jj, vv, n1, n2, n3⟩ := SF.nonneg hst.1 hst.2.1 rfl (by omega)
        refine ⟨fun e he => ⟨jj, vv, n1, n3 e he, by omega⟩, by omega, ?_, ?_, ?_⟩
        · rw [hgl]
          by_cases z : cd = 0
          · rw [if_pos z, if_pos z]
            intro e he
            unfold ackL at he
            rw [List.take_succ_cons, List.take_succ_cons] at he
            simp at he
            rw [he]
            exact Int.le_refl _
          · obtain ⟨c1, c2, c3, c4, c5⟩ := hcc hs (by omega)
            rw [if_neg z, if_neg z]
            exact c3.ack c5
        · by_cases z : cd = 0
          · rw [if_pos z]
            omega
          · obtain ⟨c1, c2, c3, c4, c5⟩ := hcc hs (by omega)
            rw [if_neg z]
            omega
        · by_cases z : cd = 0
          · rw [if_pos z]
            exact Int.le_refl _
          · obtain ⟨c1, c2, c3, c4, c5⟩ := hcc hs (by omega)
            rw [if_neg z]
            exact c5
  · -- in a slow-down
    have p5 := pVo_ack (n0 := n0) (mi := now / 200) hF hI hk hn (fun z => absurd z hs)
    refine ⟨(0, 0, now, 0), ⟨⟨hV2, hR2⟩, ?_, hSL2, hND2, fun z => ?_, h6b, hLQ.ack hn, hlw⟩, hgl, hob, Or.inl ⟨by dsimp only; omega, p5, fun z => absurd z hs⟩⟩
    · intro z
      have z : (ackM s n.2.2.2 (now / 200)).1 11 = -1 := z
      rw [e11] at z
      exact absurd z hs
    · rw [e11] at z
      exact absurd z hs
end HBQA
