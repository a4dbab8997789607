/-! Bounds, the account: what every state has, with any ranges of delays; over ticks and calls -/
/-- sent at 0 or later -/
def PZ (m : MS) : Prop := (∀ p ∈ mq m, 0 ≤ p.2.2) ∧ (∀ p, mv m = some p → 0 ≤ p.2.2) ∧ 0 ≤ mg m 5
section PZS
variable {m : MS}
theorem PZ.of {m' : MS} (h : PZ m) (e1 : mq m' = mq m) (e2 : mv m' = mv m) (e3 : mg m' 5 = mg m 5) : PZ m' := by
  unfold PZ at h ⊢
  rw [e1, e2, e3]
  exact h
theorem PZ.enq {w : Nat} {nu : Int} (h : PZ m) : PZ (enqM m w nu) := by
  unfold enqM
  split
  · refine ⟨fun p hp => ?_, h.2.1, h.2.2⟩
    have hp : p ∈ mq m ++ [(w, nu, mg m 5)] := hp
    rcases List.mem_append.mp hp with q | q
    · exact h.1 p q
    · rw [List.mem_singleton] at q
      rw [q]
      exact h.2.2
  · exact h
theorem PZ.setS {k : Nat} {s : SdM} (h : PZ m) : PZ (setSM m k s) := h.of rfl rfl rfl
theorem PZ.send {k : Nat} (h : PZ m) : PZ (sendM1 k m) := by
  unfold sendM1
  split
  · exact h.setS.enq
  · exact h.of rfl rfl rfl
theorem PZ.sends {k : Nat} : ∀ (n : Nat) (m : MS), PZ m → PZ (sendsM n k m) := by
  intro n
  induction n with
  | zero => intro m h; exact h
  | succ n ih =>
    intro m h
    show PZ (if (ms m k).1 3 ≠ 0 ∧ (ms m k).1 5 < (ms m k).1 4 / 256 then sendsM n k (sendM1 k m) else m)
    split
    · exact ih _ h.send
    · exact h
theorem PZ.acts (h : PZ m) : ∀ n : Nat, PZ (actsM n m) := by
  intro n
  induction n with
  | zero => exact h
  | succ n ih => exact PZ.sends _ _ ih.setS
theorem PZ.enqS {k : Nat} (h : PZ m) : PZ (enqSM k m) := by
  unfold enqSM
  split
  · exact h.enq
  · exact h.of rfl rfl rfl
theorem PZ.burN {k : Nat} : ∀ (n : Nat) (m : MS), PZ m → PZ (burstNM n k m) := by
  intro n
  induction n with
  | zero => intro m h; exact h
  | succ n ih => intro m h; exact ih _ h.enqS
theorem PZ.burs (h : PZ m) : ∀ n : Nat, PZ (burstsM n m) := by
  intro n
  induction n with
  | zero => exact h
  | succ n ih => exact PZ.burN _ _ ih
theorem PZ.begin (h : PZ m) : PZ (beginM m) := by
  unfold beginM
  split
  · rename_i p l e1 e2
    refine ⟨fun a ha => h.1 a ?_, fun a ha => ?_, ?_⟩
    · rw [e2]
      exact List.mem_cons_of_mem _ ha
    · have ha : some p = some a := ha
      rw [← Option.some.inj ha]
      exact h.1 p (by rw [e2]; exact List.mem_cons_self)
    · show 0 ≤ (if (5 : Nat) = 14 then (mg m 5 + mg m 1 - 1) else mg m 5)
      rw [if_neg (by decide)]
      exact h.2.2
  · exact h
theorem PZ.fin (h : PZ m) : PZ (finiM m) := by
  have e : iup (mg m) 18 (mg m 18 + 1) 5 = mg m 5 := if_neg (by decide)
  unfold finiM
  split
  · split
    · split
      · refine ⟨h.1, (fun a ha => by cases ha), ?_⟩
        show 0 ≤ iup (mg m) 18 (mg m 18 + 1) 5
        rw [e]
        exact h.2.2
      · refine ⟨h.1, (fun a ha => by cases ha), ?_⟩
        show 0 ≤ iup (mg m) 18 (mg m 18 + 1) 5
        rw [e]
        exact h.2.2
    · exact h
  · exact h
theorem PZ.tick {nS nC : Nat} (h : PZ m) : PZ (tickM nS nC m) := by
  have h1 : PZ (nowM m) := by
    refine ⟨h.1, h.2.1, ?_⟩
    have e : mg (nowM m) 5 = mg m 5 + 1 := rfl
    rw [e]
    have := h.2.2
    omega
  have h2 : PZ (handM (nowM m)) := h1.of rfl rfl rfl
  have h3 := (((h2.acts nS).burs nC).begin).fin
  refine h3.of rfl rfl ?_
  show mg (countM (finiM (beginM (midM nS nC m)))) 5 = mg (finiM (beginM (midM nS nC m))) 5
  generalize finiM (beginM (midM nS nC m)) = x
  rfl
theorem PZ.run {nS nC : Nat} (h : PZ m) : ∀ T : Nat, PZ (tkN nS nC T m) := by
  intro T
  induction T with
  | zero => exact h
  | succ T ih => exact ih.tick
theorem PZ.o0 (h : PZ m) (k : Nat) : ∀ x ∈ own k m, 0 ≤ x := by
  intro x hx
  unfold own at hx
  rcases List.mem_append.mp hx with q | q
  · cases hv : mv m with
    | none => rw [hv] at q; cases q
    | some p =>
      rw [hv] at q
      have q : x ∈ (if p.1 = k then [p.2.2] else []) := q
      split at q
      · rw [List.mem_singleton] at q
        rw [q]
        exact h.2.1 p hv
      · cases q
  · unfold ownL at q
    obtain ⟨p, hp, e⟩ := List.mem_map.mp q
    rw [← e]
    exact h.1 p (List.mem_filter.mp hp).1
end PZS
/-- what every state has; lo, hi: ranges of the senders' delays -/
def BAs (nS : Nat) (m : MS) (lo hi : Nat → Int) : Prop := nS ≤ 4 ∧ WQ m ∧ QL m ∧ mg m 0 ≤ 60 ∧ (1 ≤ mg m 1 ∧ mg m 1 ≤ 20) ∧ (0 ≤ mg m 2 ∧ mg m 2 ≤ 100) ∧ (1 ≤ mg m 3 ∧ mg m 3 ≤ 100) ∧ GNS nS m lo lo hi ∧ (∀ k, k < nS → ∀ n ∈ (vwK k m).2.2, n.1 ≤ mg m 5 + 200) ∧ (∀ k, k < nS → lo k ≤ (ms m k).1 2 ∧ (ms m k).1 2 + 1320 ≤ hi k ∧ -1000 ≤ (ms m k).1 2 ∧ (ms m k).1 2 ≤ 1000) ∧ OW nS m ∧ PZ m
section BGS
variable {nS nC : Nat} {m : MS} {lo hi : Nat → Int}
theorem frOK.wide {l2 h1 l3 h3 : Nat → Int} (h : frOK nS nC m l2 h1) (e2 : ∀ k, k < nS → l3 k ≤ l2 k) (e3 : ∀ k, k < nS → h1 k ≤ h3 k) : frOK nS nC m l3 h3 := by
  intro k hk hz x t hx
  have a := h k hk hz x t hx
  have b := e2 k hk
  have c := e3 k hk
  omega
theorem BAs.bs (h : BAs nS m (offF m) (offH m)) : BS nS m := ⟨h.1, h.2.1, h.2.2.1, h.2.2.2.1, h.2.2.2.2.1, h.2.2.2.2.2.1, h.2.2.2.2.2.2.1, h.2.2.2.2.2.2.2.2.2.2.2.2.2, h.2.2.2.2.2.2.2.1.gs, h.2.2.2.2.2.2.2.2.1⟩
theorem BAs.tick (h : BAs nS m lo hi) (hnow : mg m 5 + 1 ≤ tqB) : BAs nS (tickM nS nC m) lo hi ∧ frOK nS nC m lo hi := by
  obtain ⟨h4, hw, hq, hc, hs, hf, hb, hG, ha, hl, hO, hZ⟩ := h
  have h0 := hZ.2.2
  have f0 : frOK nS nC m (offF m) (offH m) := frOK_w (nC := nC) h4 hw hc hs hG.gs.own hf
  have f : frOK nS nC m lo hi := f0.wide (fun k hk => (hl k hk).1) (fun k hk => (hl k hk).2.1)
  have g0 := tick_g (nS := nS) (nC := nC) (m := m) (i := 0) (by decide) (by decide) (by decide) (by decide) (by decide) (by decide)
  have g1 := tick_g (nS := nS) (nC := nC) (m := m) (i := 1) (by decide) (by decide) (by decide) (by decide) (by decide) (by decide)
  have g2 := tick_g (nS := nS) (nC := nC) (m := m) (i := 2) (by decide) (by decide) (by decide) (by decide) (by decide) (by decide)
  have g3 := tick_g (nS := nS) (nC := nC) (m := m) (i := 3) (by decide) (by decide) (by decide) (by decide) (by decide) (by decide)
  have g5 := tick_g5 (nS := nS) (nC := nC) (m := m)
  refine ⟨⟨h4, hw.run (nS := nS) (nC := nC) hc hs 1, hq.run (nS := nS) (nC := nC) hc 1, by rw [g0]; exact hc, by rw [g1]; exact hs, by rw [g2]; exact hf, by rw [g3]; exact hb, GNS.tick (nC := nC) h4 hG (by omega) hnow (by omega) f, ?_, ?_, hO.tick, hZ.tick⟩, f⟩
  · intro k hk n hn
    rw [g5]
    rcases arr_tick (nC := nC) hk h4 n hn with w | w
    · have := ha k hk n w
      omega
    · omega
  · intro k hk
    rw [tick_s2 hk h4]
    exact hl k hk
theorem BAs.run (h : BAs nS m lo hi) : ∀ T : Nat, mg m 5 + T ≤ tqB → BAs nS (tkN nS nC T m) lo hi := by
  intro T
  induction T with
  | zero => intro _; exact h
  | succ T ih =>
    intro hT
    exact ((ih (by omega)).tick (by rw [tkN_5]; omega)).1
/-- settings and the fields 0 .. 3 of senders change -/
theorem BAs.set {m' : MS} {lo2 hi2 : Nat → Int} (h : BAs nS m lo hi) (e1 : mq m' = mq m) (e2 : mv m' = mv m) (e3 : mnt m' = mnt m) (e5 : mg m' 5 = mg m 5) (e14 : mg m' 14 = mg m 14) (hc : mg m' 0 ≤ 60) (hs : 1 ≤ mg m' 1 ∧ mg m' 1 ≤ 20) (hf : 0 ≤ mg m' 2 ∧ mg m' 2 ≤ 100) (hb : 1 ≤ mg m' 3 ∧ mg m' 3 ≤ 100) (h200 : mg m 5 + 200 ≤ tqB)
    (hS : ∀ k, k < nS → SF4 (ms m k) (ms m' k) ∧ (1 ≤ (ms m' k).1 0 ∧ (ms m' k).1 0 ≤ 200) ∧ (1 ≤ (ms m' k).1 1 ∧ (ms m' k).1 1 ≤ 8) ∧ -1000 ≤ (ms m' k).1 2 ∧ (ms m' k).1 2 ≤ 1000) (hl2 : ∀ k, k < nS → lo2 k ≤ lo k ∧ hi k ≤ hi2 k ∧ lo2 k ≤ (ms m' k).1 2 ∧ (ms m' k).1 2 + 1320 ≤ hi2 k) : BAs nS m' lo2 hi2 := by
  obtain ⟨h4, hw, hq, -, -, -, -, hG, ha, hl, hO, hZ⟩ := h
  have eo : ∀ k, own k m' = own k m := by
    intro k
    unfold own
    rw [e1, e2]
  have ev : ∀ k, vwK k m' = (ms m' k, own k m, (mnt m).filter (fun n => decide (n.2.1 = k))) := by
    intro k
    unfold vwK
    rw [eo, e3]
  refine ⟨h4, ?_, ?_, hc, hs, hf, hb, ?_, ?_, ?_, hO.of e1 e2 e3, hZ.of e1 e2 e5⟩
  · unfold WQ eQ9 at hw ⊢
    rw [e1, e2, e5, e14]
    exact hw
  · unfold QL at hq ⊢
    rw [e1]
    exact hq
  · intro k hk
    obtain ⟨g, ⟨⟨⟨hV, hR⟩, hp, hg⟩, hND⟩, hsl⟩ := hG k hk
    obtain ⟨s4, t0, t1, o1, o2⟩ := hS k hk
    have hl3 := hl2 k hk
    have hak := ha k hk
    have hZ0 := hZ.2.2
    refine ⟨g, ⟨⟨⟨?_, ?_⟩, ?_, hg⟩, ?_⟩, ?_⟩
    · rw [ev, e5]
      exact hV.set hg s4 ⟨t0, t1⟩ (hZ.o0 k) (fun n hn => by have := hak n hn; omega) hZ0 (by omega) (by omega)
    · rw [ev, e5]
      obtain ⟨r1, r2, r3, r4⟩ := hR.same (s2 := ms m' k) s4.1
      exact ⟨fun x hx => by have := r1 x hx; omega, fun j v hj hv => by have := r2 j v hj hv; omega, fun n hn hA => by have := r3 n hn hA; omega, Int.le_refl _⟩
    · rw [ev, e5]
      exact hp
    · rw [ev]
      show ND g.2.1 (ms m' k).2.1
      rw [s4.1]
      exact hND
    · rw [s4.2 11 (by omega), e5]
      exact hsl
  · intro k hk n hn
    rw [ev] at hn
    rw [e5]
    exact ha k hk n hn
  · intro k hk
    have a := hl2 k hk
    obtain ⟨-, -, -, o1, o2⟩ := hS k hk
    exact ⟨a.2.2.1, a.2.2.2, o1, o2⟩
end BGS
