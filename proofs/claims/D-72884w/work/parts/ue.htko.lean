/-! Bounds, mode H from a setTimes on: a whole tick of a sender -/
def HBbo (now c dl R lo lw hi : Int) (q : Int → Int) (n0 : Int) (v : SV) (g : Gh) (j : GJh) : Prop := HBo now c dl R lo lw hi q n0 v.1 v.2.1 v.2.2 g j ∧ (∀ n ∈ v.2.2, now < n.1) ∧ lsN n0 v.2.2 (now + R) ∧ GR g
abbrev hPHvo (pw : Int → List EnF → Int) (n0 now : Int) (v : SV) (g : Gh) : Int := hPHo pw n0 now v.1 v.2.1 v.2.2 g
section HBOTK
variable {now c dl R lo lw hi q1 qn n0 K w wf r tz : Int} {q : Int → Int} {pw : Int → List EnF → Int} {X X2 C w1 : Nat}
theorem HBbo.tick {fw bk iv : Int} {v : SV} {g : Gh} {j : GJh} {k : Nat} {bs : List Bool} {z : Bool} (hP : PHo K qn X X2 C w1 w wf) (hpw : PWk pw w wf r tz) (htE : now < tz) (hK : hi - lo + 1 ≤ K) (hQ : QF q (now + 1) q1 qn) (hq : hi - lw ≤ q1) (h : HBbo now c dl R lo lw hi q n0 v g j) (h0 : 0 ≤ now + 1) (hnow : now + 1 ≤ tqB) (hR : R ≤ 60) (hR1 : 1 ≤ R) (hc : c = bk - v.1.1 2) (hd : dl = fw + v.1.1 2) (hRR : R = fw + bk)
    (hs : sndOK (now + 1) (now + 1 + fw + bk) k bs (slowM (hndV (now + 1) v).1 (now + 1) iv, (hndV (now + 1) v).2)) (hz : z = true → (sndV (now + 1) (now + 1 + fw + bk) k bs (slowM (hndV (now + 1) v).1 (now + 1) iv, (hndV (now + 1) v).2)).2.1 ≠ [])
    (hr : z = true → ∀ x t, (sndV (now + 1) (now + 1 + fw + bk) k bs (slowM (hndV (now + 1) v).1 (now + 1) iv, (hndV (now + 1) v).2)).2.1 = x :: t → lo ≤ now + 1 + fw - x + v.1.1 2 ∧ now + 1 + fw - x + v.1.1 2 ≤ hi) :
    ∃ g2 j2, HBbo (now + 1) c dl R lo lw hi q n0 (finV (now + 1 + fw) (now + 1 + fw + bk) k z (sndV (now + 1) (now + 1 + fw + bk) k bs (slowM (hndV (now + 1) v).1 (now + 1) iv, (hndV (now + 1) v).2))) g2 j2 ∧ hPHvo pw n0 (now + 1) (finV (now + 1 + fw) (now + 1 + fw + bk) k z (sndV (now + 1) (now + 1 + fw + bk) k bs (slowM (hndV (now + 1) v).1 (now + 1) iv, (hndV (now + 1) v).2))) g2 + (bs.length : Int) ≤ hPHvo pw n0 now v g + (frN (now + 1) v.1 v.2.2 : Int) + (bgN (endsM (hndV (now + 1) v).1 (now + 1)) (now + 1) iv : Int) + 5 * (if z = true then 1 else 0) + r * ((now + 1) / 200 - now / 200) := by
  obtain ⟨hI, hp, hl, hGR⟩ := h
  have hw0 : 0 ≤ w := by have := hP.2.2.2.2.2.2.1; omega
  obtain ⟨h1, p1⟩ := hI.nxt hpw htE
  have hpt : ∀ a ∈ v.2.2, now + 1 ≤ a.1 := fun a ha => by have := hp a ha; omega
  have hl1 : lsN n0 v.2.2 (now + 1 + R) := fun a ha hA hz => by have := hl a ha hA hz; omega
  obtain ⟨g2, j2, h2, p2, k5⟩ := HBo.hnd hP hpw (by omega) hK hQ hq hR hnow v.2.2 [] v.1 g j h1 (fun a ha => by cases ha) hpt hl1
  have e2 : hndV (now + 1) v = (v.2.2.foldl (hndS (now + 1)) v.1, v.2.1, [] ++ v.2.2.filter (fun n => decide (n.1 ≠ now + 1))) := rfl
  rw [e2] at hs hz hr ⊢
  dsimp only at hs hz hr ⊢
  have hk2 : ∀ a ∈ [] ++ v.2.2.filter (fun n => decide (n.1 ≠ now + 1)), now + 1 < a.1 ∧ a ∈ v.2.2 := by
    intro a ha
    rw [List.nil_append, List.mem_filter] at ha
    have b1 := hpt a ha.1
    have b2 := of_decide_eq_true ha.2
    exact ⟨by omega, ha.1⟩
  obtain ⟨j3, h3, p3⟩ := h2.ends (pw := pw) (fun a ha => (hk2 a ha).1)
  have hP3 : lsN n0 ([] ++ v.2.2.filter (fun n => decide (n.1 ≠ now + 1))) (now + 1 - 1 + R) := fun a ha hA hz => by
    have := hl a (hk2 a ha).2 hA hz
    omega
  obtain ⟨h4, p4⟩ := h3.begins (iv := iv) (pw := pw) h0 hP3 hR
  have h4 : HBo (now + 1) c dl R lo lw hi q n0 (slowM (v.2.2.foldl (hndS (now + 1)) v.1) (now + 1) iv) v.2.1 ([] ++ v.2.2.filter (fun n => decide (n.1 ≠ now + 1))) g2 j3 := h4
  obtain ⟨j5, h5, p5⟩ := HBo.snds (pw := pw) bs _ _ _ g2 j3 h4 hs
  have f2 : (slowM (v.2.2.foldl (hndS (now + 1)) v.1) (now + 1) iv).1 2 = v.1.1 2 := by
    unfold slowM
    rw [begins_o (by decide) (by decide) (by decide), ends_o (by decide) (by decide) (by decide), hnd_2]
  generalize hvs : sndV (now + 1) (now + 1 + fw + bk) k bs (slowM (v.2.2.foldl (hndS (now + 1)) v.1) (now + 1) iv, v.2.1, [] ++ v.2.2.filter (fun n => decide (n.1 ≠ now + 1))) = vs at *
  have f3 : vs.1.1 2 = v.1.1 2 := by
    rw [← hvs, snd_2]
    exact f2
  obtain ⟨h6, p6⟩ := h5.fin (k := k) (z := z) (fw := fw) (bk := bk) (pw := pw) hz (by rw [f3]; exact hc) (by rw [f3]; exact hd) hRR (by rw [f3]; exact hr)
  have evs : (vs.1, vs.2.1, vs.2.2) = vs := rfl
  rw [evs] at h6 p6
  refine ⟨g2, j5, ⟨h6, ?_, ?_, by unfold GR at hGR ⊢; rw [k5]; exact hGR⟩, ?_⟩
  · intro a ha
    rcases fin_mem ha with x | x
    · rw [← hvs] at x
      rcases snd_mem _ _ _ x with y | y
      · exact (hk2 a y).1
      · omega
    · omega
  · intro a ha hA hz
    rcases fin_mem ha with x | x
    · rw [← hvs] at x
      rcases snd_mem _ _ _ x with y | y
      · exact hl1 a (hk2 a y).2 hA hz
      · omega
    · exact absurd x.2.1 hA
  · have an := aNl_fin (du := now + 1 + fw) (ar := now + 1 + fw + bk) (k := k) (z := z) (v := vs)
    have q1 : hPHvo pw n0 now v g = hPo pw n0 now (v.1, v.2.1, v.2.2) g.2.1 + 5 * (aNl v.2.2 : Int) := rfl
    have q1' : hPHo pw n0 (now + 1) v.1 v.2.1 ([] ++ v.2.2) g = hPo pw n0 (now + 1) (v.1, v.2.1, v.2.2) g.2.1 + 5 * (aNl v.2.2 : Int) := rfl
    have q2 : hPHo pw n0 (now + 1) (v.2.2.foldl (hndS (now + 1)) v.1) v.2.1 ([] ++ v.2.2.filter (fun n => decide (n.1 ≠ now + 1))) g2 = hPo pw n0 (now + 1) (v.2.2.foldl (hndS (now + 1)) v.1, v.2.1, [] ++ v.2.2.filter (fun n => decide (n.1 ≠ now + 1))) g2.2.1 + 5 * (aNl ([] ++ v.2.2.filter (fun n => decide (n.1 ≠ now + 1))) : Int) := rfl
    have q4 : hPHo pw n0 (now + 1) (slowM (v.2.2.foldl (hndS (now + 1)) v.1) (now + 1) iv) v.2.1 ([] ++ v.2.2.filter (fun n => decide (n.1 ≠ now + 1))) g2 = hPo pw n0 (now + 1) (beginsM (endsM (v.2.2.foldl (hndS (now + 1)) v.1) (now + 1)) (now + 1) iv, v.2.1, [] ++ v.2.2.filter (fun n => decide (n.1 ≠ now + 1))) g2.2.1 + 5 * (aNl ([] ++ v.2.2.filter (fun n => decide (n.1 ≠ now + 1))) : Int) := rfl
    have q5 : hPHo pw n0 (now + 1) vs.1 vs.2.1 vs.2.2 g2 = hPo pw n0 (now + 1) vs g2.2.1 + 5 * (aNl vs.2.2 : Int) := rfl
    have q6 : hPHvo pw n0 (now + 1) (finV (now + 1 + fw) (now + 1 + fw + bk) k z vs) g2 = hPo pw n0 (now + 1) (finV (now + 1 + fw) (now + 1 + fw + bk) k z vs) g2.2.1 + 5 * (aNl (finV (now + 1 + fw) (now + 1 + fw + bk) k z vs).2.2 : Int) := rfl
    rw [q2, q1'] at p2
    rw [q4, q5] at p5
    rw [q6, q1]
    omega
/-- with the clocks of halvings and slow-downs -/
def HBco (now c dl R lo lw hi : Int) (q : Int → Int) (n0 : Int) (v : SV) (g : Gh) (j : GJh) (th be : Int) : Prop := HBbo now c dl R lo lw hi q n0 v g j ∧ HT R th v.1 v.2.2 ∧ th ≤ now ∧ BG now be v.1
def hYo (pw : Int → List EnF → Int) (n0 now R : Int) (v : SV) (g : Gh) (th be : Int) : Int := 61 * (R * hPHvo pw n0 now v g) + 61 * (now - th) + R * (now - be)
theorem HBco.tick {fw bk iv : Int} {v : SV} {g : Gh} {j : GJh} {th be : Int} {k : Nat} {bs : List Bool} {z : Bool} (hP : PHo K qn X X2 C w1 w wf) (hpw : PWk pw w wf r tz) (htE : now < tz) (hK : hi - lo + 1 ≤ K) (hQ : QF q (now + 1) q1 qn) (hq : hi - lw ≤ q1) (h : HBco now c dl R lo lw hi q n0 v g j th be) (h0 : 0 ≤ now + 1) (hnow : now + 1 ≤ tqB) (hR : R ≤ 60) (hR1 : 1 ≤ R) (hc : c = bk - v.1.1 2) (hd : dl = fw + v.1.1 2) (hRR : R = fw + bk)
    (hs : sndOK (now + 1) (now + 1 + fw + bk) k bs (slowM (hndV (now + 1) v).1 (now + 1) iv, (hndV (now + 1) v).2)) (hz : z = true → (sndV (now + 1) (now + 1 + fw + bk) k bs (slowM (hndV (now + 1) v).1 (now + 1) iv, (hndV (now + 1) v).2)).2.1 ≠ [])
    (hr : z = true → ∀ x t, (sndV (now + 1) (now + 1 + fw + bk) k bs (slowM (hndV (now + 1) v).1 (now + 1) iv, (hndV (now + 1) v).2)).2.1 = x :: t → lo ≤ now + 1 + fw - x + v.1.1 2 ∧ now + 1 + fw - x + v.1.1 2 ≤ hi) :
    ∃ g2 j2 th2 be2, HBco (now + 1) c dl R lo lw hi q n0 (finV (now + 1 + fw) (now + 1 + fw + bk) k z (sndV (now + 1) (now + 1 + fw + bk) k bs (slowM (hndV (now + 1) v).1 (now + 1) iv, (hndV (now + 1) v).2))) g2 j2 th2 be2 ∧ hYo pw n0 (now + 1) R (finV (now + 1 + fw) (now + 1 + fw + bk) k z (sndV (now + 1) (now + 1 + fw + bk) k bs (slowM (hndV (now + 1) v).1 (now + 1) iv, (hndV (now + 1) v).2))) g2 th2 be2 + 61 * (R * (bs.length : Int)) ≤ hYo pw n0 now R v g th be + 61 * (R * (5 * (if z = true then 1 else 0) + r * ((now + 1) / 200 - now / 200))) + 61 + R := by
  obtain ⟨hI, hH, hth, hB⟩ := h
  obtain ⟨g2, j2, h2, p2⟩ := HBbo.tick hP hpw htE hK hQ hq hI h0 hnow hR hR1 hc hd hRR hs hz hr
  have hw0 : 0 ≤ w := by have := hP.2.2.2.2.2.2.1; omega
  have hI1 := (hI.1.nxt hpw htE).1.1
  have hpt : ∀ a ∈ v.2.2, now + 1 ≤ a.1 := fun a ha => by have := hI.2.1 a ha; omega
  obtain ⟨th2, t1, t2, t3⟩ := HTg.hnd v.2.2 [] v.1 g th hI1 (fun a ha => by cases ha) hpt hH (by omega)
  have hB1 : BG now be (v.2.2.foldl (hndS (now + 1)) v.1) := BG.hnd v.2.2 v.1 hB
  obtain ⟨be2, b1, b2⟩ := hB1.slow (iv := iv) h0
  have e2 : hndV (now + 1) v = (v.2.2.foldl (hndS (now + 1)) v.1, v.2.1, v.2.2.filter (fun n => decide (n.1 ≠ now + 1))) := rfl
  refine ⟨g2, j2, th2, be2, ⟨h2, ?_, t1, ?_⟩, ?_⟩
  · refine HT.fin ?_
    refine HT.snds (by omega) bs _ ?_
    rw [e2]
    exact t2.slow
  · rw [fin_s]
    refine BG.same ?_ (snd_o (by decide) (by decide) bs _) (snd_o (by decide) (by decide) bs _)
    rw [e2]
    exact b1
  · unfold hYo
    have e3 : (hndV (now + 1) v).1 = v.2.2.foldl (hndS (now + 1)) v.1 := rfl
    generalize hPHvo pw n0 (now + 1) (finV (now + 1 + fw) (now + 1 + fw + bk) k z (sndV (now + 1) (now + 1 + fw + bk) k bs (slowM (hndV (now + 1) v).1 (now + 1) iv, (hndV (now + 1) v).2))) g2 = P2 at p2
    rw [e3] at p2
    generalize hPHvo pw n0 now v g = P1 at p2
    generalize (frN (now + 1) v.1 v.2.2 : Int) = fr at p2 t3
    generalize (bgN (endsM (v.2.2.foldl (hndS (now + 1)) v.1) (now + 1)) (now + 1) iv : Int) = bg at p2 b2
    generalize 5 * (if z = true then (1 : Int) else 0) = Z1 at p2 ⊢
    generalize r * ((now + 1) / 200 - now / 200) = Z2 at p2 ⊢
    have q1 : P2 + (bs.length : Int) ≤ P1 + fr + bg + (Z1 + Z2) := by omega
    generalize Z1 + Z2 = Z at q1 ⊢
    have q2 : R * (P2 + (bs.length : Int)) ≤ R * (P1 + fr + bg + Z) := Int.mul_le_mul_of_nonneg_left q1 (by omega)
    have q3 : R * (P2 + (bs.length : Int)) = R * P2 + R * (bs.length : Int) := Int.mul_add _ _ _
    have q4 : R * (P1 + fr + bg + Z) = R * P1 + R * fr + R * bg + R * Z := by
      rw [Int.mul_add, Int.mul_add, Int.mul_add]
    have q5 : R * (61 * bg) ≤ R * (be2 - be) := Int.mul_le_mul_of_nonneg_left b2 (by omega)
    have q6 : R * (61 * bg) = 61 * (R * bg) := Int.mul_left_comm _ _ _
    have q7 : R * (now + 1 - be2) = R * (now - be) + R - R * (be2 - be) := by
      have : now + 1 - be2 = (now - be) + 1 - (be2 - be) := by omega
      rw [this, Int.mul_sub, Int.mul_add, Int.mul_one]
    rw [q7]
    omega
end HBOTK
