/-! Bounds: ranges from a time on: a tick -/
theorem RN.snds {tn lo hi now ar : Int} {c k : Nat} : ∀ (bs : List Bool) (v : SV), RN tn lo hi c v.1 v.2.2 → RN tn lo hi c (sndV now ar k bs v).1 (sndV now ar k bs v).2.2 := by
  intro bs
  induction bs with
  | nil => intro v h; exact h
  | cons b bs ih =>
    intro v h
    refine ih _ ?_
    cases b with
    | true => exact h.same (s2 := sentM v.1) rfl
    | false => exact RN.app (h.same (s2 := sentM v.1) rfl) (fun z => absurd z (show ¬ (1 : Int) = 0 by decide))
theorem RN.tick {tn lo hi : Int} {c nS nC k : Nat} {m : MS} (hk : k < nS) (h4 : nS ≤ 4) (h : RN tn lo hi c (ms m k) (vwK k m).2.2) (ht : tn ≤ mg m 5 + 1) (hf : fnB k (beginM (midM nS nC m)) = true → ∀ x t, own k (beginM (midM nS nC m)) = x :: t → lo ≤ mg m 5 + 1 + mg m 2 - x + (ms m k).1 2 ∧ mg m 5 + 1 + mg m 2 - x + (ms m k).1 2 ≤ hi) : RN tn lo hi (c + (vwK k m).2.2.countP (fun n => decide (n.1 = mg m 5 + 1 ∧ n.2.2.1 = 0))) (ms (tickM nS nC m) k) (vwK k (tickM nS nC m)).2.2 := by
  obtain ⟨bs, z, h1, h2, h3, h5, h6, h7⟩ := tick_vo (nC := nC) hk h4 (m := m)
  have a1 := RN.hnd ht (vwK k m).2.2 [] (ms m k) c h
  rw [List.nil_append] at a1
  generalize c + (vwK k m).2.2.countP (fun n => decide (n.1 = mg m 5 + 1 ∧ n.2.2.1 = 0)) = c2 at a1 ⊢
  have a2 : RN tn lo hi c2 (slowM (hndV (mg m 5 + 1) (vwK k m)).1 (mg m 5 + 1) (mg m 4)) (hndV (mg m 5 + 1) (vwK k m)).2.2 := a1.ends.begins
  have a3 := RN.snds (now := mg m 5 + 1) (ar := mg m 5 + 1 + mg m 2 + mg m 3) (k := k) bs (slowM (hndV (mg m 5 + 1) (vwK k m)).1 (mg m 5 + 1) (mg m 4), (hndV (mg m 5 + 1) (vwK k m)).2) a2
  have f2 : (slowM (hndV (mg m 5 + 1) (vwK k m)).1 (mg m 5 + 1) (mg m 4)).1 2 = (ms m k).1 2 := by
    unfold slowM
    rw [begins_o (by decide) (by decide) (by decide), ends_o (by decide) (by decide) (by decide)]
    exact hnd_2 _ _
  have f3 : (sndV (mg m 5 + 1) (mg m 5 + 1 + mg m 2 + mg m 3) k bs (slowM (hndV (mg m 5 + 1) (vwK k m)).1 (mg m 5 + 1) (mg m 4), (hndV (mg m 5 + 1) (vwK k m)).2)).1.1 2 = (ms m k).1 2 := by
    rw [snd_2]
    exact f2
  show RN tn lo hi c2 (vwK k (tickM nS nC m)).1 (vwK k (tickM nS nC m)).2.2
  rw [h2]
  generalize sndV (mg m 5 + 1) (mg m 5 + 1 + mg m 2 + mg m 3) k bs (slowM (hndV (mg m 5 + 1) (vwK k m)).1 (mg m 5 + 1) (mg m 4), (hndV (mg m 5 + 1) (vwK k m)).2) = vs at *
  unfold finV
  split
  · rename_i x t hvo
    refine RN.app a3 (fun _ _ => ?_)
    have := hf h5.symm x t (by rw [← h7]; exact hvo)
    show lo ≤ mg m 5 + 1 + mg m 2 - x + vs.1.1 2 ∧ mg m 5 + 1 + mg m 2 - x + vs.1.1 2 ≤ hi
    rw [f3]
    exact this
  · exact a3
