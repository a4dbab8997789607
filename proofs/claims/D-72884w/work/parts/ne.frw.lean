/-! Bounds: over ticks, whatever the settings: queues of 60, delays in a range of 1320 -/
def QL (m : MS) : Prop := (mq m).length ≤ 60
section QLS
theorem QL.enq {m : MS} {w : Nat} {nu : Int} (h : QL m) (hc : mg m 0 ≤ 60) : QL (enqM m w nu) := by
  unfold enqM
  split
  · rename_i q
    show (mq m ++ [(w, nu, mg m 5)]).length ≤ 60
    rw [List.length_append, List.length_singleton]
    omega
  · exact h
theorem QL.same {m m2 : MS} (h : QL m) (hq : mq m2 = mq m) : QL m2 := by
  unfold QL at h ⊢
  rw [hq]
  exact h
theorem QL.send1 {m : MS} {k : Nat} (h : QL m) (hc : mg m 0 ≤ 60) : QL (sendM1 k m) := by
  have h2 : QL (setSM m k (sentM (ms m k))) := h.same rfl
  unfold sendM1
  split
  · exact h2.enq hc
  · exact h2.same rfl
theorem QL.sends {k : Nat} : ∀ (n : Nat) {m : MS}, QL m → mg m 0 ≤ 60 → QL (sendsM n k m) := by
  intro n
  induction n with
  | zero => intro m h _; exact h
  | succ n ih =>
    intro m h hc
    show QL (if _ then _ else _)
    split
    · exact ih (h.send1 hc) (by rw [send1_g]; exact hc)
    · exact h
theorem QL.acts {m : MS} (h : QL m) (hc : mg m 0 ≤ 60) : ∀ n, QL (actsM n m) := by
  intro n
  induction n with
  | zero => exact h
  | succ n ih =>
    have e : mg (slowMk n (actsM n m)) = mg m := acts_g n
    exact QL.sends _ (ih.same rfl) (by rw [e]; exact hc)
theorem QL.enqS {m : MS} {k : Nat} (h : QL m) (hc : mg m 0 ≤ 60) : QL (enqSM k m) := by
  unfold enqSM
  split
  · exact h.enq hc
  · exact h.same rfl
theorem QL.burN {k : Nat} : ∀ (n : Nat) {m : MS}, QL m → mg m 0 ≤ 60 → QL (burstNM n k m) := by
  intro n
  induction n with
  | zero => intro m h _; exact h
  | succ n ih => intro m h hc; exact ih (h.enqS hc) (by rw [enqS_keep.2.1]; exact hc)
theorem QL.burs {m : MS} (h : QL m) (hc : mg m 0 ≤ 60) : ∀ n, QL (burstsM n m) := by
  intro n
  induction n with
  | zero => exact h
  | succ n ih => exact QL.burN _ ih (by rw [(burs_keep n).2.1]; exact hc)
theorem QL.begin {m : MS} (h : QL m) : QL (beginM m) := by
  unfold beginM
  split
  · rename_i p l hv hq
    unfold QL at h
    rw [hq, List.length_cons] at h
    show l.length ≤ 60
    omega
  · exact h
theorem QL.fini {m : MS} (h : QL m) : QL (finiM m) := by
  unfold finiM
  split
  · split
    · split
      · exact h.same rfl
      · exact h.same rfl
    · exact h
  · exact h
theorem QL.tick {nS nC : Nat} {m : MS} (h : QL m) (hc : mg m 0 ≤ 60) : QL (tickM nS nC m) := by
  have h1 : QL (handM (nowM m)) := h.same rfl
  have h2 := h1.acts (show mg (handM (nowM m)) 0 ≤ 60 from hc) nS
  have h3 : QL (midM nS nC m) := h2.burs (by rw [acts_g]; exact hc) nC
  exact (h3.begin.fini).same rfl
theorem QL.run {nS nC : Nat} {m : MS} (h : QL m) (hc : mg m 0 ≤ 60) : ∀ T : Nat, QL (tkN nS nC T m) := by
  intro T
  induction T with
  | zero => exact h
  | succ T ih =>
    have g0 := tkN_g (nS := nS) (nC := nC) (m := m) (i := 0) (by decide) (by decide) (by decide) (by decide) (by decide) (by decide) T
    exact ih.tick (by rw [g0]; exact hc)
theorem WQ.run {nS nC : Nat} {m : MS} (h : WQ m) (hc : mg m 0 ≤ 60) (hs : 1 ≤ mg m 1 ∧ mg m 1 ≤ 20) : ∀ T : Nat, WQ (tkN nS nC T m) := by
  intro T
  induction T with
  | zero => exact h
  | succ T ih =>
    have g0 := tkN_g (nS := nS) (nC := nC) (m := m) (i := 0) (by decide) (by decide) (by decide) (by decide) (by decide) (by decide) T
    have g1 := tkN_g (nS := nS) (nC := nC) (m := m) (i := 1) (by decide) (by decide) (by decide) (by decide) (by decide) (by decide) T
    exact (ih.tick (by rw [g0]; exact hc) (by rw [g1]; exact hs)).1
end QLS
theorem snd_om {now ar : Int} {k : Nat} {x : Int} : ∀ (bs : List Bool) (v : SV), x ∈ (sndV now ar k bs v).2.1 → x ∈ v.2.1 ∨ x = now := by
  intro bs
  induction bs with
  | nil => intro v h; exact Or.inl h
  | cons b bs ih =>
    intro v h
    have ev : sndV now ar k (b :: bs) v = sndV now ar k bs (snd1 now ar k b v) := rfl
    rw [ev] at h
    rcases ih _ h with q | q
    · cases b with
      | true =>
        have q : x ∈ v.2.1 ++ [now] := q
        rcases List.mem_append.mp q with w | w
        · exact Or.inl w
        · exact Or.inr (List.mem_singleton.mp w)
      | false => exact Or.inl q
    · exact Or.inr q
section FRW
variable {nS nC : Nat} {m : MS} {K kp J1 B w1 w2 Wm F0 z0 H0 gr w3 Q de : Int} {Bf : Nat → Int}
theorem frOK_w (h4 : nS ≤ 4) (h : WQ m) (hc : mg m 0 ≤ 60) (hs : 1 ≤ mg m 1 ∧ mg m 1 ≤ 20) (ho : ∀ k, k < nS → ∀ x ∈ own k m, x ≤ mg m 5) (hf : 0 ≤ mg m 2 ∧ mg m 2 ≤ 100) : frOK nS nC m (fun k => (ms m k).1 2) (fun k => (ms m k).1 2 + 1320) := by
  intro k hk hz x t hx
  obtain ⟨a, t2, e, hw⟩ := fnB_wait h hc hs hz
  rw [hx] at e
  have ex : x = a := (List.cons.inj e).1
  obtain ⟨bs, z, h1, h2, h3, h5, h6, h7⟩ := tick_vo (nC := nC) hk h4 (m := m)
  have hm : x ∈ own k (beginM (midM nS nC m)) := by
    rw [hx]
    exact List.mem_cons_self
  rw [← h7] at hm
  have hle : x ≤ mg m 5 + 1 := by
    rcases snd_om _ _ hm with q | q
    · have := ho k hk x q
      omega
    · omega
  dsimp only
  omega
theorem MLg.own {lo hi : Nat → Int} (h : MLg K kp J1 de gr nS m lo hi Bf) : ∀ k, k < nS → ∀ x ∈ own k m, x ≤ mg m 5 := by
  intro k hk x hx
  obtain ⟨g, hG, -⟩ := h.gs k hk
  exact (hG.1.1.2.1.2.1 x hx).1
/-- over a run, the delays lie in the range -/
theorem MLg.frs (hP : LQ K kp J1 B w1 w2 Wm F0 z0 H0 gr w3 Q de) (hQ : 1320 ≤ Q) (h4 : nS ≤ 4) (h : MLg K kp J1 de gr nS m (fun k => (ms m k).1 2) (fun k => (ms m k).1 2 + 1320) Bf) (hB : ∀ k, k < nS → bmN H0 de gr ≤ Bf k) (h0 : 0 ≤ mg m 5 + 1) (hR1 : 1 ≤ mg m 2 + mg m 3) (hR2 : mg m 2 + mg m 3 ≤ 200) (hw : WQ m) (hq : QL m) (hc : mg m 0 ≤ 60) (hs : 1 ≤ mg m 1 ∧ mg m 1 ≤ 20) (hf : 0 ≤ mg m 2 ∧ mg m 2 ≤ 100) : ∀ T : Nat, mg m 5 + T ≤ tqB → ∀ i, i < T → (mq (tkN nS nC i m)).length ≤ 60 ∧ frOK nS nC (tkN nS nC i m) (fun k => (ms m k).1 2) (fun k => (ms m k).1 2 + 1320) := by
  have e2 : ∀ (T k : Nat), k < nS → (ms (tkN nS nC T m) k).1 2 = (ms m k).1 2 := by
    intro T
    induction T with
    | zero => intro k _; rfl
    | succ T ih => intro k hk; exact (tick_s2 (nC := nC) hk h4).trans (ih k hk)
  intro T
  induction T with
  | zero => intro _ i hi; exact absurd hi (Nat.not_lt_zero _)
  | succ T ih =>
    intro hT i hi
    push_cast at hT
    have ih := ih (by omega)
    by_cases q : i < T
    · exact ih i q
    · have : i = T := by omega
      subst this
      obtain ⟨B2, hM, -, -⟩ := MLg.run (nC := nC) hP (fun k _ => by omega) h4 h hB h0 hR1 hR2 i (by omega) ih
      have g0 := tkN_g (nS := nS) (nC := nC) (m := m) (i := 0) (by decide) (by decide) (by decide) (by decide) (by decide) (by decide) i
      have g1 := tkN_g (nS := nS) (nC := nC) (m := m) (i := 1) (by decide) (by decide) (by decide) (by decide) (by decide) (by decide) i
      have g2 := tkN_g (nS := nS) (nC := nC) (m := m) (i := 2) (by decide) (by decide) (by decide) (by decide) (by decide) (by decide) i
      refine ⟨hq.run (nS := nS) (nC := nC) hc i, ?_⟩
      have f := frOK_w (nC := nC) h4 (hw.run (nS := nS) (nC := nC) hc hs i) (by rw [g0]; exact hc) (by rw [g1]; exact hs) hM.own (by rw [g2]; exact hf)
      intro k hk hz x t hx
      have := f k hk hz x t hx
      dsimp only at this ⊢
      rw [e2 i k hk] at this ⊢
      exact this
end FRW
