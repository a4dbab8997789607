/-! Bounds, trials: a tick of a sender without any potential; behind the notices, and behind the tick -/
section OH
variable {now c dl R lo1 lo2 hi : Int} {o : List Int}
theorem GBq.hnd (hnow : now ≤ tqB) : ∀ (t ks : List NtM) (s : SdM) (g : Gh), GB now c dl R lo1 lo2 hi s o (ks ++ t) g → (∀ a ∈ ks, now < a.1) → (∀ a ∈ t, now ≤ a.1) →
    ∃ g2, GB now c dl R lo1 lo2 hi (t.foldl (hndS now) s) o (ks ++ t.filter (fun n => decide (n.1 ≠ now))) g2 ∧ g2.1 = g.1 := by
  intro t
  induction t with
  | nil =>
    intro ks s g h _ _
    exact ⟨g, h, rfl⟩
  | cons n t ih =>
    intro ks s g h hks ht
    rw [List.foldl_cons]
    have ht2 : ∀ a ∈ t, now ≤ a.1 := fun a ha => ht a (List.mem_cons_of_mem _ ha)
    by_cases e : n.1 = now
    · rw [List.filter_cons_of_neg (by simp [e])]
      have eh : hndS now s n = reachM s n.2.2.1 n.2.2.2 (now / 200) := if_pos e
      by_cases z : isA n
      · have er : reachM s n.2.2.1 n.2.2.2 (now / 200) = ackM s n.2.2.2 (now / 200) := if_pos z
        rw [eh, er]
        have h2 : GB now c dl R lo1 lo2 hi (ackM s n.2.2.2 (now / 200)) o (ks ++ t) (stepG tqB T0B now s.2.1 g n) := ⟨h.1.ack z e hks ht2, h.2.ack z⟩
        obtain ⟨g3, h3, q3⟩ := ih ks _ _ h2 hks ht2
        exact ⟨g3, h3, q3.trans (stepG_1 hnow)⟩
      · have er : reachM s n.2.2.1 n.2.2.2 (now / 200) = lostM s n.2.2.2 := if_neg z
        rw [eh, er]
        have h2 : GB now c dl R lo1 lo2 hi (lostM s n.2.2.2) o (ks ++ t) g := ⟨h.1.lost z, h.2.lost⟩
        exact ih ks _ _ h2 hks ht2
    · rw [List.filter_cons_of_pos (by simp [e])]
      have eh : hndS now s n = s := if_neg e
      rw [eh]
      have el : ks ++ n :: t = (ks ++ [n]) ++ t := by simp
      have el2 : ks ++ n :: t.filter (fun n => decide (n.1 ≠ now)) = (ks ++ [n]) ++ t.filter (fun n => decide (n.1 ≠ now)) := by simp
      rw [el] at h
      rw [el2]
      have hn := ht n List.mem_cons_self
      exact ih (ks ++ [n]) s g h (fun a ha => by
        rcases List.mem_append.mp ha with w | w
        · exact hks a w
        · rw [List.mem_singleton] at w
          rw [w]
          omega) ht2
theorem GBq.snds {k : Nat} {ar : Int} {g : Gh} : ∀ (bs : List Bool) (v : SV), GB now c dl R lo1 lo2 hi v.1 v.2.1 v.2.2 g → sndOK now ar k bs v → GB now c dl R lo1 lo2 hi (sndV now ar k bs v).1 (sndV now ar k bs v).2.1 (sndV now ar k bs v).2.2 g := by
  intro bs
  induction bs with
  | nil =>
    intro v h _
    exact h
  | cons b bs ih =>
    intro v h ho
    obtain ⟨hw, ho⟩ := ho
    have h2 : GB now c dl R lo1 lo2 hi (snd1 now ar k b v).1 (snd1 now ar k b v).2.1 (snd1 now ar k b v).2.2 g := by
      refine ⟨h.1.snd hw, ?_⟩
      cases b with
      | true => exact h.2.same rfl
      | false => exact RG2.app (h.2.same (s2 := sentM v.1) rfl) (fun z => absurd z (show ¬ (1 : Int) = 0 by decide))
    exact ih (snd1 now ar k b v) h2 ho
/-- behind notices and slow-down; behind the tick -/
theorem GBq.tick {fw bk iv : Int} {v : SV} {g : Gh} {k : Nat} {bs : List Bool} {z : Bool} (h : GBb now c dl R lo1 lo2 hi v g) (h0 : 0 ≤ now + 1) (hnow : now + 1 ≤ tqB) (hR1 : 1 ≤ R) (hc : c = bk - v.1.1 2) (hd : dl = fw + v.1.1 2) (hRR : R = fw + bk)
    (hs : sndOK (now + 1) (now + 1 + fw + bk) k bs (slowM (hndV (now + 1) v).1 (now + 1) iv, (hndV (now + 1) v).2)) (hz : z = true → (sndV (now + 1) (now + 1 + fw + bk) k bs (slowM (hndV (now + 1) v).1 (now + 1) iv, (hndV (now + 1) v).2)).2.1 ≠ [])
    (hr : z = true → ∀ x t, (sndV (now + 1) (now + 1 + fw + bk) k bs (slowM (hndV (now + 1) v).1 (now + 1) iv, (hndV (now + 1) v).2)).2.1 = x :: t → lo2 ≤ now + 1 + fw - x + v.1.1 2 ∧ now + 1 + fw - x + v.1.1 2 ≤ hi) :
    ∃ g2, GB (now + 1) c dl R lo1 lo2 hi (slowM (hndV (now + 1) v).1 (now + 1) iv) (hndV (now + 1) v).2.1 (hndV (now + 1) v).2.2 g2 ∧ GBb (now + 1) c dl R lo1 lo2 hi (finV (now + 1 + fw) (now + 1 + fw + bk) k z (sndV (now + 1) (now + 1 + fw + bk) k bs (slowM (hndV (now + 1) v).1 (now + 1) iv, (hndV (now + 1) v).2))) g2 := by
  obtain ⟨hI, hp, hGR⟩ := h
  have h1 : GB (now + 1) c dl R lo1 lo2 hi v.1 v.2.1 v.2.2 g := ⟨hI.1.nxt, hI.2.nxt⟩
  have hpt : ∀ a ∈ v.2.2, now + 1 ≤ a.1 := fun a ha => by have := hp a ha; omega
  obtain ⟨g2, h2', k5⟩ := GBq.hnd hnow v.2.2 [] v.1 g h1 (fun a ha => by cases ha) hpt
  have e2 : hndV (now + 1) v = (v.2.2.foldl (hndS (now + 1)) v.1, v.2.1, [] ++ v.2.2.filter (fun n => decide (n.1 ≠ now + 1))) := rfl
  rw [e2] at hs hz hr ⊢
  dsimp only at hs hz hr ⊢
  have hk2 : ∀ a ∈ [] ++ v.2.2.filter (fun n => decide (n.1 ≠ now + 1)), now + 1 < a.1 ∧ a ∈ v.2.2 := by
    intro a ha
    rw [List.nil_append, List.mem_filter] at ha
    have b1 := hpt a ha.1
    have b2 := of_decide_eq_true ha.2
    exact ⟨by omega, ha.1⟩
  have h3 : GB (now + 1) c dl R lo1 lo2 hi (endsM (v.2.2.foldl (hndS (now + 1)) v.1) (now + 1)) v.2.1 ([] ++ v.2.2.filter (fun n => decide (n.1 ≠ now + 1))) g2 := by
    refine ⟨h2'.1.ends, RG2.only h2'.2 ?_ ?_⟩
    · unfold endsM
      split
      · rfl
      · split <;> rfl
    · intro j w hj
      unfold endsM at hj
      split at hj
      · exact hj
      · split at hj
        · exact hj
        · exact only_sub hj
  have h4 : GB (now + 1) c dl R lo1 lo2 hi (slowM (v.2.2.foldl (hndS (now + 1)) v.1) (now + 1) iv) v.2.1 ([] ++ v.2.2.filter (fun n => decide (n.1 ≠ now + 1))) g2 := by
    refine ⟨h3.1.begins h0, RG2.same h3.2 ?_⟩
    unfold slowM beginsM
    split <;> rfl
  have h5 := GBq.snds (k := k) (ar := now + 1 + fw + bk) bs (slowM (v.2.2.foldl (hndS (now + 1)) v.1) (now + 1) iv, v.2.1, [] ++ v.2.2.filter (fun n => decide (n.1 ≠ now + 1))) h4 hs
  have f2 : (slowM (v.2.2.foldl (hndS (now + 1)) v.1) (now + 1) iv).1 2 = v.1.1 2 := by
    unfold slowM
    rw [begins_o (by decide) (by decide) (by decide), ends_o (by decide) (by decide) (by decide), hnd_2]
  generalize hvs : sndV (now + 1) (now + 1 + fw + bk) k bs (slowM (v.2.2.foldl (hndS (now + 1)) v.1) (now + 1) iv, v.2.1, [] ++ v.2.2.filter (fun n => decide (n.1 ≠ now + 1))) = vs at *
  have f3 : vs.1.1 2 = v.1.1 2 := by
    rw [← hvs, snd_2]
    exact f2
  have h6 := VM.fin (k := k) (z := z) (fw := fw) (bk := bk) h5.1 hz (by rw [f3]; exact hc) (by rw [f3]; exact hd) hRR
  have h6' : GB (now + 1) c dl R lo1 lo2 hi (finV (now + 1 + fw) (now + 1 + fw + bk) k z vs).1 (finV (now + 1 + fw) (now + 1 + fw + bk) k z vs).2.1 (finV (now + 1 + fw) (now + 1 + fw + bk) k z vs).2.2 g2 := by
    refine ⟨h6, ?_⟩
    cases z with
    | false => exact h5.2
    | true =>
      cases ho : vs.2.1 with
      | nil => exact absurd ho (hz rfl)
      | cons x t =>
        rw [fin_t ho]
        refine RG2.app h5.2 (fun _ => ?_)
        have := hr rfl x t ho
        rw [f3]
        exact this
  refine ⟨g2, h4, h6', ?_, by unfold GR at hGR ⊢; rw [k5]; exact hGR⟩
  intro a ha
  rcases fin_mem ha with w | w
  · rw [← hvs] at w
    rcases snd_mem _ _ _ w with y | y
    · exact (hk2 a y).1
    · omega
  · omega
end OH
