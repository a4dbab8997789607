/-! Bounds: delays from above, the latest ones and those on their way -/
def UL (hi : Int) (s : SdM) (l : List NtM) : Prop := (∀ x ∈ s.2.2, x ≤ hi) ∧ ∀ n ∈ l, isA n → n.2.2.2 ≤ hi
section ULS
variable {hi now : Int} {s : SdM} {l l1 l2 : List NtM} {n : NtM}
theorem UL.wide {hi2 : Int} (h : UL hi s l) (hh : hi ≤ hi2) : UL hi2 s l := ⟨fun x hx => by have := h.1 x hx; omega, fun n hn z => by have := h.2 n hn z; omega⟩
theorem UL.same {s2 : SdM} (h : UL hi s l) (h2 : s2.2.2 = s.2.2) : UL hi s2 l := by
  refine ⟨?_, h.2⟩
  rw [h2]
  exact h.1
theorem UL.sub {l2 : List NtM} (h : UL hi s l) (hl : ∀ a ∈ l2, a ∈ l) : UL hi s l2 := ⟨h.1, fun a ha => h.2 a (hl a ha)⟩
theorem UL.app (h : UL hi s l) (hn : isA n → n.2.2.2 ≤ hi) : UL hi s (l ++ [n]) := by
  refine ⟨h.1, fun a ha hA => ?_⟩
  rcases List.mem_append.mp ha with q | q
  · exact h.2 a q hA
  · rw [List.mem_singleton] at q
    rw [q] at hA ⊢
    exact hn hA
theorem UL.ack {mi : Int} (h : UL hi s (l1 ++ n :: l2)) (hn : isA n) : UL hi (ackM s n.2.2.2 mi) (l1 ++ l2) := by
  refine ⟨fun x hx => ?_, fun a ha => h.2 a (mid_mem ha)⟩
  have hx : x ∈ (n.2.2.2 :: s.2.2).take 4 := hx
  rcases List.mem_cons.mp (List.mem_of_mem_take hx) with q | q
  · rw [q]
    exact h.2 n (List.mem_append_right _ List.mem_cons_self) hn
  · exact h.1 x q
theorem UL.lost {num : Int} (h : UL hi s (l1 ++ n :: l2)) : UL hi (lostM s num) (l1 ++ l2) := (h.sub (fun a ha => mid_mem ha)).same rfl
theorem UL.hnd : ∀ (t ks : List NtM) (s : SdM), UL hi s (ks ++ t) → UL hi (t.foldl (hndS now) s) (ks ++ t.filter (fun n => decide (n.1 ≠ now))) := by
  intro t
  induction t with
  | nil => intro ks s h; exact h
  | cons n t ih =>
    intro ks s h
    by_cases q : n.1 = now
    · rw [List.filter_cons_of_neg (by simp [q])]
      show UL hi (t.foldl (hndS now) (hndS now s n)) _
      have e : hndS now s n = reachM s n.2.2.1 n.2.2.2 (now / 200) := if_pos q
      rw [e]
      by_cases z : n.2.2.1 = 0
      · have e2 : reachM s n.2.2.1 n.2.2.2 (now / 200) = ackM s n.2.2.2 (now / 200) := if_pos z
        rw [e2]
        exact ih ks _ (h.ack z)
      · have e2 : reachM s n.2.2.1 n.2.2.2 (now / 200) = lostM s n.2.2.2 := if_neg z
        rw [e2]
        exact ih ks _ h.lost
    · rw [List.filter_cons_of_pos (by simp [q])]
      have e : hndS now s n = s := if_neg q
      show UL hi (t.foldl (hndS now) (hndS now s n)) _
      rw [e]
      have h2 : UL hi s ((ks ++ [n]) ++ t) := by
        rw [List.append_assoc]
        exact h
      have := ih (ks ++ [n]) s h2
      rw [List.append_assoc] at this
      exact this
theorem UL.slow {iv : Int} (h : UL hi s l) : UL hi (slowM s now iv) l := by
  refine h.same ?_
  unfold slowM
  have e1 : ∀ s : SdM, (beginsM s now iv).2.2 = s.2.2 := by
    intro s
    unfold beginsM
    split <;> rfl
  have e2 : (endsM s now).2.2 = s.2.2 := by
    unfold endsM
    split
    · rfl
    · split <;> rfl
  rw [e1, e2]
theorem UL.snds {ar : Int} {k : Nat} : ∀ (bs : List Bool) (v : SV), UL hi v.1 v.2.2 → UL hi (sndV now ar k bs v).1 (sndV now ar k bs v).2.2 := by
  intro bs
  induction bs with
  | nil => intro v h; exact h
  | cons b bs ih =>
    intro v h
    refine ih _ ?_
    cases b with
    | true => exact h.same (s2 := sentM v.1) rfl
    | false => exact UL.app (h.same (s2 := sentM v.1) rfl) (fun z => absurd z (show ¬ (1 : Int) = 0 by decide))
end ULS
section ULM
variable {nS nC k : Nat} {m : MS}
theorem UL.tick {lo hi : Nat → Int} (hk : k < nS) (h4 : nS ≤ 4) (h : UL (hi k) (ms m k) (vwK k m).2.2) (hf : frOK nS nC m lo hi) : UL (hi k) (ms (tickM nS nC m) k) (vwK k (tickM nS nC m)).2.2 := by
  obtain ⟨bs, z, h1, h2, h3, h5, h6, h7⟩ := tick_vo (nC := nC) hk h4 (m := m)
  have a1 := UL.hnd (now := mg m 5 + 1) (vwK k m).2.2 [] (ms m k) h
  rw [List.nil_append] at a1
  have a2 : UL (hi k) (slowM (hndV (mg m 5 + 1) (vwK k m)).1 (mg m 5 + 1) (mg m 4)) (hndV (mg m 5 + 1) (vwK k m)).2.2 := a1.slow
  have a3 := UL.snds (now := mg m 5 + 1) (ar := mg m 5 + 1 + mg m 2 + mg m 3) (k := k) bs (slowM (hndV (mg m 5 + 1) (vwK k m)).1 (mg m 5 + 1) (mg m 4), (hndV (mg m 5 + 1) (vwK k m)).2) a2
  have f2 : (slowM (hndV (mg m 5 + 1) (vwK k m)).1 (mg m 5 + 1) (mg m 4)).1 2 = (ms m k).1 2 := by
    unfold slowM
    rw [begins_o (by decide) (by decide) (by decide), ends_o (by decide) (by decide) (by decide)]
    exact hnd_2 _ _
  have f3 : (sndV (mg m 5 + 1) (mg m 5 + 1 + mg m 2 + mg m 3) k bs (slowM (hndV (mg m 5 + 1) (vwK k m)).1 (mg m 5 + 1) (mg m 4), (hndV (mg m 5 + 1) (vwK k m)).2)).1.1 2 = (ms m k).1 2 := by
    rw [snd_2]
    exact f2
  show UL (hi k) (vwK k (tickM nS nC m)).1 (vwK k (tickM nS nC m)).2.2
  rw [h2]
  generalize sndV (mg m 5 + 1) (mg m 5 + 1 + mg m 2 + mg m 3) k bs (slowM (hndV (mg m 5 + 1) (vwK k m)).1 (mg m 5 + 1) (mg m 4), (hndV (mg m 5 + 1) (vwK k m)).2) = vs at *
  unfold finV
  split
  · rename_i x t hvo
    refine UL.app a3 (fun _ => ?_)
    have := (hf k hk h5.symm x t (by rw [← h7]; exact hvo)).2
    show mg m 5 + 1 + mg m 2 - x + vs.1.1 2 ≤ hi k
    rw [f3]
    exact this
  · exact a3
theorem UL.run {lo hi : Nat → Int} (hk : k < nS) (h4 : nS ≤ 4) (h : UL (hi k) (ms m k) (vwK k m).2.2) : ∀ T : Nat, (∀ i, i < T → frOK nS nC (tkN nS nC i m) lo hi) → UL (hi k) (ms (tkN nS nC T m) k) (vwK k (tkN nS nC T m)).2.2 := by
  intro T
  induction T with
  | zero => intro _; exact h
  | succ T ih =>
    intro hf
    exact UL.tick (nC := nC) (lo := lo) hk h4 (ih (fun i hi => hf i (by omega))) (hf T (by omega))
end ULM
