/-! Bounds, trials: growth of levels over ticks -/
section OL
variable {now c dl R lo1 lo2 hi : Int} {o : List Int}
/-- a tick -/
theorem gw_tick {fw bk iv : Int} {v : SV} {g : Gh} {k : Nat} {bs : List Bool} {z : Bool} (h : GBb now c dl R lo1 lo2 hi v g) (h0 : 0 ≤ now + 1) (hnow : now + 1 ≤ tqB) (hR1 : 1 ≤ R) (hc : c = bk - v.1.1 2) (hd : dl = fw + v.1.1 2) (hRR : R = fw + bk)
    (hs : sndOK (now + 1) (now + 1 + fw + bk) k bs (slowM (hndV (now + 1) v).1 (now + 1) iv, (hndV (now + 1) v).2)) (hz : z = true → (sndV (now + 1) (now + 1 + fw + bk) k bs (slowM (hndV (now + 1) v).1 (now + 1) iv, (hndV (now + 1) v).2)).2.1 ≠ [])
    (hr : z = true → ∀ x t, (sndV (now + 1) (now + 1 + fw + bk) k bs (slowM (hndV (now + 1) v).1 (now + 1) iv, (hndV (now + 1) v).2)).2.1 = x :: t → lo2 ≤ now + 1 + fw - x + v.1.1 2 ∧ now + 1 + fw - x + v.1.1 2 ≤ hi) :
    ∃ g2, GBb (now + 1) c dl R lo1 lo2 hi (finV (now + 1 + fw) (now + 1 + fw + bk) k z (sndV (now + 1) (now + 1 + fw + bk) k bs (slowM (hndV (now + 1) v).1 (now + 1) iv, (hndV (now + 1) v).2))) g2 ∧ gwP (now + 1) (finV (now + 1 + fw) (now + 1 + fw + bk) k z (sndV (now + 1) (now + 1 + fw + bk) k bs (slowM (hndV (now + 1) v).1 (now + 1) iv, (hndV (now + 1) v).2))) g2.2.1 ≤ gwP now v g.2.1 + 1024 * ((now + 1) / 200 - now / 200) + 128 * (if z = true then 1 else 0) := by
  obtain ⟨hI, hp, hGR⟩ := h
  have h1 : GB (now + 1) c dl R lo1 lo2 hi v.1 v.2.1 v.2.2 g := ⟨hI.1.nxt, hI.2.nxt⟩
  have hpt : ∀ a ∈ v.2.2, now + 1 ≤ a.1 := fun a ha => by have := hp a ha; omega
  have hn := nuP_nxt hI.1.2.2.1
  have p1 : gwP (now + 1) v g.2.1 ≤ gwP now v g.2.1 + 1024 * ((now + 1) / 200 - now / 200) := by
    unfold gwP
    omega
  obtain ⟨g2, h2', k5, p2⟩ := gw_hnd hnow v.2.2 [] v.1 g h1 (fun a ha => by cases ha) hpt
  have e2 : hndV (now + 1) v = (v.2.2.foldl (hndS (now + 1)) v.1, v.2.1, [] ++ v.2.2.filter (fun n => decide (n.1 ≠ now + 1))) := rfl
  rw [e2] at hs hz hr ⊢
  dsimp only at hs hz hr ⊢
  have hk2 : ∀ a ∈ [] ++ v.2.2.filter (fun n => decide (n.1 ≠ now + 1)), now + 1 < a.1 ∧ a ∈ v.2.2 := by
    intro a ha
    rw [List.nil_append, List.mem_filter] at ha
    have b1 := hpt a ha.1
    have b2 := of_decide_eq_true ha.2
    exact ⟨by omega, ha.1⟩
  have h3 : GB (now + 1) c dl R lo1 lo2 hi (endsM (v.2.2.foldl (hndS (now + 1)) v.1) (now + 1)) v.2.1 ([] ++ v.2.2.filter (fun n => decide (n.1 ≠ now + 1))) g2 := by
    refine ⟨h2'.1.ends, RG2.only h2'.2 ?_ ?_⟩
    · unfold endsM
      split
      · rfl
      · split <;> rfl
    · intro j w hj
      unfold endsM at hj
      split at hj
      · exact hj
      · split at hj
        · exact hj
        · exact only_sub hj
  have h4 : GB (now + 1) c dl R lo1 lo2 hi (slowM (v.2.2.foldl (hndS (now + 1)) v.1) (now + 1) iv) v.2.1 ([] ++ v.2.2.filter (fun n => decide (n.1 ≠ now + 1))) g2 := by
    refine ⟨h3.1.begins h0, RG2.same h3.2 ?_⟩
    unfold slowM beginsM
    split <;> rfl
  have h5 := GBq.snds (k := k) (ar := now + 1 + fw + bk) bs (slowM (v.2.2.foldl (hndS (now + 1)) v.1) (now + 1) iv, v.2.1, [] ++ v.2.2.filter (fun n => decide (n.1 ≠ now + 1))) h4 hs
  have l5 := lvS_snds (k := k) (ar := now + 1 + fw + bk) bs (slowM (v.2.2.foldl (hndS (now + 1)) v.1) (now + 1) iv, v.2.1, [] ++ v.2.2.filter (fun n => decide (n.1 ≠ now + 1))) h4 hs
  have l4 : lvS (slowM (v.2.2.foldl (hndS (now + 1)) v.1) (now + 1) iv) = lvS (v.2.2.foldl (hndS (now + 1)) v.1) := by
    unfold slowM
    rw [(rs_begins (U := 0) (Lf := 0) h0).2, (rs_ends (U := 0) (Lf := 0)).2]
  have a5 := aNl_snds (now := now + 1) (ar := now + 1 + fw + bk) (k := k) bs (slowM (v.2.2.foldl (hndS (now + 1)) v.1) (now + 1) iv, v.2.1, [] ++ v.2.2.filter (fun n => decide (n.1 ≠ now + 1)))
  have f2 : (slowM (v.2.2.foldl (hndS (now + 1)) v.1) (now + 1) iv).1 2 = v.1.1 2 := by
    unfold slowM
    rw [begins_o (by decide) (by decide) (by decide), ends_o (by decide) (by decide) (by decide), hnd_2]
  generalize hvs : sndV (now + 1) (now + 1 + fw + bk) k bs (slowM (v.2.2.foldl (hndS (now + 1)) v.1) (now + 1) iv, v.2.1, [] ++ v.2.2.filter (fun n => decide (n.1 ≠ now + 1))) = vs at *
  have f3 : vs.1.1 2 = v.1.1 2 := by
    rw [← hvs, snd_2]
    exact f2
  have h6 := VM.fin (k := k) (z := z) (fw := fw) (bk := bk) h5.1 hz (by rw [f3]; exact hc) (by rw [f3]; exact hd) hRR
  have h6' : GB (now + 1) c dl R lo1 lo2 hi (finV (now + 1 + fw) (now + 1 + fw + bk) k z vs).1 (finV (now + 1 + fw) (now + 1 + fw + bk) k z vs).2.1 (finV (now + 1 + fw) (now + 1 + fw + bk) k z vs).2.2 g2 := by
    refine ⟨h6, ?_⟩
    cases z with
    | false => exact h5.2
    | true =>
      cases ho : vs.2.1 with
      | nil => exact absurd ho (hz rfl)
      | cons x t =>
        rw [fin_t ho]
        refine RG2.app h5.2 (fun _ => ?_)
        have := hr rfl x t ho
        rw [f3]
        exact this
  have a6 := aNl_finE (du := now + 1 + fw) (ar := now + 1 + fw + bk) (k := k) (z := z) hz
  refine ⟨g2, ⟨h6', ?_, by unfold GR at hGR ⊢; rw [k5]; exact hGR⟩, ?_⟩
  rotate_left
  · have ez : (((if z = true then 1 else 0) : Nat) : Int) = (if z = true then (1 : Int) else 0) := by split <;> rfl
    have p1' : gwP (now + 1) (v.1, v.2.1, [] ++ v.2.2) g.2.1 = gwP (now + 1) v g.2.1 := rfl
    rw [p1'] at p2
    unfold gwP at p1 p2 ⊢
    rw [fin_s, a6, ← ez]
    rw [l4] at l5
    dsimp only at *
    push_cast
    omega
  intro a ha
  rcases fin_mem ha with w | w
  · rw [← hvs] at w
    rcases snd_mem _ _ _ w with y | y
    · exact (hk2 a y).1
    · omega
  · omega
end OL
def GWn (nS : Nat) (m : MS) (lo1 lo2 hi : Nat → Int) (y : Nat → Int) : Prop := ∀ k, k < nS → ∃ g, GBb (mg m 5) (mg m 3 - (ms m k).1 2) (mg m 2 + (ms m k).1 2) (mg m 2 + mg m 3) (lo1 k) (lo2 k) (hi k) (vwK k m) g ∧ gwP (mg m 5) (vwK k m) g.2.1 ≤ y k
section OLR
variable {nS nC : Nat} {m : MS} {lo1 lo2 hi : Nat → Int} {y : Nat → Int}
theorem GWn.tick (h4 : nS ≤ 4) (h : GWn nS m lo1 lo2 hi y) (h0 : 0 ≤ mg m 5 + 1) (hnow : mg m 5 + 1 ≤ tqB) (hR : 1 ≤ mg m 2 + mg m 3) (hf : frOK nS nC m lo2 hi) : GWn nS (tickM nS nC m) lo1 lo2 hi (fun k => y k + 1024 * ((mg m 5 + 1) / 200 - mg m 5 / 200) + 128 * (if fnB k (beginM (midM nS nC m)) = true then 1 else 0)) := by
  intro k hk
  obtain ⟨g, hI, hY⟩ := h k hk
  obtain ⟨bs, z, h1, h2, h3, h5, h6, h7⟩ := tick_vo (nC := nC) hk h4 (m := m)
  obtain ⟨g2, G2, p2⟩ := gw_tick (iv := mg m 4) hI h0 hnow hR rfl rfl rfl h1 h6 (fun hz x t hx => by
    rw [h7] at hx
    rw [h5] at hz
    exact hf k hk hz x t hx)
  rw [← h2] at G2 p2
  have e2' := tick_s2 (nC := nC) hk h4 (m := m)
  refine ⟨g2, ?_, ?_⟩
  · rw [tick_g5, tick_g (by decide) (by decide) (by decide) (by decide) (by decide) (by decide), tick_g (by decide) (by decide) (by decide) (by decide) (by decide) (by decide), e2']
    exact G2
  · rw [tick_g5]
    dsimp only
    rw [← h5]
    omega
theorem GWn.run (h4 : nS ≤ 4) (h : GWn nS m lo1 lo2 hi y) (h0 : 0 ≤ mg m 5 + 1) (hR : 1 ≤ mg m 2 + mg m 3) : ∀ T : Nat, mg m 5 + T ≤ tqB → (∀ i, i < T → frOK nS nC (tkN nS nC i m) lo2 hi) → GWn nS (tkN nS nC T m) lo1 lo2 hi (fun k => y k + 1024 * ((mg m 5 + T) / 200 - mg m 5 / 200) + 128 * fkT nS nC k T m) := by
  intro T
  induction T with
  | zero =>
    intro _ _ k hk
    obtain ⟨g, hI, hY⟩ := h k hk
    refine ⟨g, hI, ?_⟩
    have e1 : fkT nS nC k 0 m = 0 := rfl
    dsimp only
    rw [e1]
    have e : tkN nS nC 0 m = m := rfl
    rw [e]
    have : mg m 5 + ((0 : Nat) : Int) = mg m 5 := by omega
    rw [this]
    omega
  | succ T ih =>
    intro hT hf
    push_cast at hT
    have h2 := ih (by omega) (fun i hi => hf i (by omega))
    have g2 := tkN_g (nS := nS) (nC := nC) (m := m) (i := 2) (by decide) (by decide) (by decide) (by decide) (by decide) (by decide) T
    have g3 := tkN_g (nS := nS) (nC := nC) (m := m) (i := 3) (by decide) (by decide) (by decide) (by decide) (by decide) (by decide) T
    have g5 := tkN_5 (nS := nS) (nC := nC) (m := m) T
    have et : tkN nS nC (T + 1) m = tickM nS nC (tkN nS nC T m) := rfl
    have h3 := h2.tick (nC := nC) h4 (by rw [g5]; omega) (by rw [g5]; omega) (by rw [g2, g3]; exact hR) (hf T (by omega))
    rw [et]
    intro k hk
    obtain ⟨g, hI, hY⟩ := h3 k hk
    refine ⟨g, hI, Int.le_trans hY ?_⟩
    have ef : fkT nS nC k (T + 1) m = fkT nS nC k T m + (if fnB k (beginM (midM nS nC (tkN nS nC T m))) = true then 1 else 0) := rfl
    dsimp only
    rw [ef, g5]
    have eT : mg m 5 + ((T + 1 : Nat) : Int) = mg m 5 + T + 1 := by omega
    rw [eT]
    omega
theorem GWn.lv (h : GWn nS m lo1 lo2 hi y) : ∀ k, k < nS → lvS (ms m k) ≤ y k := by
  intro k hk
  obtain ⟨g, hI, hY⟩ := h k hk
  unfold gwP at hY
  have e : (vwK k m).1 = ms m k := rfl
  rw [e] at hY
  omega
theorem GWn.start (h : GS nS m lo1 lo2 hi) : GWn nS m lo1 lo2 hi (fun k => max (lvS (ms m k)) 4224 + 1536 + 128 * (aNl (vwK k m).2.2 : Int)) := by
  intro k hk
  obtain ⟨g, hG, hs⟩ := h k hk
  refine ⟨g, hG, ?_⟩
  have := nuP_3 (now := mg m 5) (L := g.2.1)
  have e : (vwK k m).1 = ms m k := rfl
  unfold gwP
  rw [e]
  dsimp only
  omega
end OLR
