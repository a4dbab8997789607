/-! Bounds: no packet waits longer than 1220 ticks -/
def wQ : Int → List PkM → Prop
  | _, [] => True
  | e, p :: l => e + 20 ≤ p.2.2 + 1220 ∧ wQ (e + 20) l
theorem wQ_mono : ∀ {l : List PkM} {e e2 : Int}, wQ e l → e2 ≤ e → wQ e2 l := by
  intro l
  induction l with
  | nil => intro e e2 _ _; trivial
  | cons p l ih => intro e e2 h he; exact ⟨by have := h.1; omega, ih h.2 (by omega)⟩
theorem wQ_snoc : ∀ {l : List PkM} {e : Int} {p : PkM}, wQ e l → e + 20 * (l.length + 1) ≤ p.2.2 + 1220 → wQ e (l ++ [p]) := by
  intro l
  induction l with
  | nil => intro e p _ hp; exact ⟨by simp at hp; omega, trivial⟩
  | cons a l ih =>
    intro e p h hp
    refine ⟨h.1, ih h.2 ?_⟩
    rw [List.length_cons] at hp
    push_cast at hp
    omega
def eQ9 (m : MS) (b : Int) : Int := match mv m with
  | some _ => mg m 14
  | none => b
/-- between ticks -/
def WQ (m : MS) : Prop := (∀ p, mv m = some p → mg m 5 < mg m 14 ∧ mg m 14 ≤ mg m 5 + 19 ∧ mg m 14 ≤ p.2.2 + 1220) ∧ wQ (eQ9 m (mg m 5)) (mq m)
/-- within a tick, before the server's step -/
def WQm (m : MS) : Prop := (∀ p, mv m = some p → mg m 5 ≤ mg m 14 ∧ mg m 14 ≤ mg m 5 + 18 ∧ mg m 14 ≤ p.2.2 + 1220) ∧ wQ (eQ9 m (mg m 5 - 1)) (mq m)
theorem WQ.now {m : MS} (h : WQ m) : WQm (nowM m) := by
  have e5 : mg (nowM m) 5 = mg m 5 + 1 := rfl
  have e14 : mg (nowM m) 14 = mg m 14 := rfl
  refine ⟨?_, ?_⟩
  · intro p hp
    have := h.1 p hp
    rw [e5, e14]
    omega
  · have e : eQ9 (nowM m) (mg (nowM m) 5 - 1) = eQ9 m (mg m 5) := by
      unfold eQ9
      show (match mv m with | some _ => mg (nowM m) 14 | none => mg (nowM m) 5 - 1) = _
      rw [e5, e14]
      cases mv m with
      | none => show mg m 5 + 1 - 1 = mg m 5; omega
      | some p => rfl
    rw [e]
    exact h.2
theorem WQm.same {m m2 : MS} (h : WQm m) (hg : mg m2 = mg m) (hv : mv m2 = mv m) (hq : mq m2 = mq m) : WQm m2 := by
  unfold WQm eQ9 at h ⊢
  rw [hg, hv, hq]
  exact h
theorem WQm.e {m : MS} (h : WQm m) : eQ9 m (mg m 5 - 1) ≤ mg m 5 + 18 := by
  unfold eQ9
  cases hv : mv m with
  | none => show mg m 5 - 1 ≤ _; omega
  | some p =>
    have := h.1 p hv
    show mg m 14 ≤ _
    omega
theorem WQm.enq {m : MS} {w : Nat} {nu : Int} (h : WQm m) (hc : mg m 0 ≤ 60) : WQm (enqM m w nu) ∧ mg (enqM m w nu) = mg m := by
  unfold enqM
  by_cases q : ((mq m).length : Int) < mg m 0
  · rw [if_pos q]
    refine ⟨⟨h.1, ?_⟩, rfl⟩
    have he := h.e
    show wQ (eQ9 m (mg m 5 - 1)) (mq m ++ [(w, nu, mg m 5)])
    refine wQ_snoc h.2 ?_
    show eQ9 m (mg m 5 - 1) + 20 * (((mq m).length : Int) + 1) ≤ mg m 5 + 1220
    omega
  · rw [if_neg q]
    exact ⟨h, rfl⟩
theorem WQm.send1 {m : MS} {k : Nat} (h : WQm m) (hc : mg m 0 ≤ 60) : WQm (sendM1 k m) := by
  have h2 : WQm (setSM m k (sentM (ms m k))) := h.same rfl rfl rfl
  unfold sendM1
  split
  · exact (h2.enq hc).1
  · exact h2.same rfl rfl rfl
theorem WQm.sends {k : Nat} : ∀ (n : Nat) {m : MS}, WQm m → mg m 0 ≤ 60 → WQm (sendsM n k m) := by
  intro n
  induction n with
  | zero => intro m h _; exact h
  | succ n ih =>
    intro m h hc
    show WQm (if _ then _ else _)
    split
    · exact ih (h.send1 hc) (by rw [send1_g]; exact hc)
    · exact h
theorem WQm.acts {m : MS} (h : WQm m) (hc : mg m 0 ≤ 60) : ∀ n, WQm (actsM n m) := by
  intro n
  induction n with
  | zero => exact h
  | succ n ih =>
    have e : mg (slowMk n (actsM n m)) = mg m := acts_g n
    exact WQm.sends _ (ih.same rfl rfl rfl) (by rw [e]; exact hc)
theorem WQm.enqS {m : MS} {k : Nat} (h : WQm m) (hc : mg m 0 ≤ 60) : WQm (enqSM k m) := by
  unfold enqSM
  split
  · exact (h.enq hc).1
  · exact h.same rfl rfl rfl
theorem WQm.burN {k : Nat} : ∀ (n : Nat) {m : MS}, WQm m → mg m 0 ≤ 60 → WQm (burstNM n k m) := by
  intro n
  induction n with
  | zero => intro m h _; exact h
  | succ n ih => intro m h hc; exact ih (h.enqS hc) (by rw [enqS_keep.2.1]; exact hc)
theorem WQm.burs {m : MS} (h : WQm m) (hc : mg m 0 ≤ 60) : ∀ n, WQm (burstsM n m) := by
  intro n
  induction n with
  | zero => exact h
  | succ n ih => exact WQm.burN _ ih (by rw [(burs_keep n).2.1]; exact hc)
/-- behind the server's beginning -/
def WQb (m : MS) : Prop := (∀ p, mv m = some p → mg m 5 ≤ mg m 14 ∧ mg m 14 ≤ mg m 5 + 19 ∧ mg m 14 ≤ p.2.2 + 1220) ∧ wQ (eQ9 m (mg m 5)) (mq m)
theorem WQm.begin {m : MS} (h : WQm m) (hs : 1 ≤ mg m 1 ∧ mg m 1 ≤ 20) : WQb (beginM m) := by
  unfold beginM
  split
  · rename_i p l hv hq
    have h2 := h.2
    unfold eQ9 at h2
    rw [hv, hq] at h2
    obtain ⟨a, b⟩ := h2
    dsimp only at a b
    refine ⟨?_, ?_⟩
    · intro p2 hp2
      have hp2 : some p = some p2 := hp2
      have e : p = p2 := Option.some.inj hp2
      subst e
      show mg m 5 ≤ mg m 5 + mg m 1 - 1 ∧ mg m 5 + mg m 1 - 1 ≤ mg m 5 + 19 ∧ mg m 5 + mg m 1 - 1 ≤ p.2.2 + 1220
      omega
    · show wQ (mg m 5 + mg m 1 - 1) l
      exact wQ_mono b (by omega)
  · rename_i hne
    refine ⟨fun p hp => ?_, ?_⟩
    · have := h.1 p hp
      omega
    · cases hv : mv m with
      | none =>
        cases hq : mq m with
        | nil => trivial
        | cons p l => exact absurd hq (hne p l hv)
      | some p =>
        have h2 := h.2
        unfold eQ9 at h2 ⊢
        rw [hv] at h2 ⊢
        exact h2
theorem WQb.fini {m : MS} (h : WQb m) : WQ (finiM m) := by
  have h2 := h.2
  unfold finiM
  split
  · rename_i p hv
    have h1 := h.1 p hv
    unfold eQ9 at h2
    rw [hv] at h2
    dsimp only at h2
    split
    · rename_i he
      have key : ∀ (g : Nat → Int) (r : (Nat → SdM) × (Nat → Nat → Int) × List NtM), g 5 = mg m 5 → WQ (g, mq m, none, r) := by
        intro g r hg
        refine ⟨fun p hp => (by cases hp), ?_⟩
        show wQ (g 5) (mq m)
        rw [hg, ← he]
        exact h2
      split
      · exact key _ _ rfl
      · exact key _ _ rfl
    · rename_i he
      refine ⟨fun p2 hp2 => ?_, ?_⟩
      · have h3 := h.1 p2 hp2
        omega
      · unfold eQ9
        rw [hv]
        exact h2
  · rename_i hv
    unfold eQ9 at h2
    rw [hv] at h2
    refine ⟨fun p hp => (by rw [hv] at hp; cases hp), ?_⟩
    unfold eQ9
    rw [hv]
    exact h2
theorem WQ.mid {nS nC : Nat} {m : MS} (h : WQ m) (hc : mg m 0 ≤ 60) : WQm (midM nS nC m) := by
  have h1 : WQm (handM (nowM m)) := h.now.same rfl rfl rfl
  have h2 := h1.acts hc nS
  exact h2.burs (by rw [acts_g]; exact hc) nC
theorem mid_g {nS nC : Nat} {m : MS} : mg (midM nS nC m) = mg (nowM m) := ((burs_keep (m := actsM nS (handM (nowM m))) nC).2.1).trans (acts_g nS)
theorem WQ.tick {nS nC : Nat} {m : MS} (h : WQ m) (hc : mg m 0 ≤ 60) (hs : 1 ≤ mg m 1 ∧ mg m 1 ≤ 20) : WQ (tickM nS nC m) ∧ ∀ p, mv (beginM (midM nS nC m)) = some p → mg (beginM (midM nS nC m)) 14 = mg (beginM (midM nS nC m)) 5 → mg m 5 + 1 ≤ p.2.2 + 1220 := by
  have hm : WQm (midM nS nC m) := h.mid hc
  have hb := hm.begin (by rw [mid_g]; exact hs)
  have hf := hb.fini
  refine ⟨?_, ?_⟩
  · show WQ (countM (finiM (beginM (midM nS nC m))))
    generalize finiM (beginM (midM nS nC m)) = x at hf
    refine ⟨hf.1, ?_⟩
    have h2 := hf.2
    unfold eQ9 at h2 ⊢
    exact h2
  · intro p hp he
    have := hb.1 p hp
    have e5 : mg (beginM (midM nS nC m)) 5 = mg m 5 + 1 := by
      rw [(begin_keep (m := midM nS nC m)).2.2 5 (by decide), mid_g]
      rfl
    omega
/-- the wait of a packet that is finished -/
theorem fnB_wait {nS nC k : Nat} {m : MS} (h : WQ m) (hc : mg m 0 ≤ 60) (hs : 1 ≤ mg m 1 ∧ mg m 1 ≤ 20) (hz : fnB k (beginM (midM nS nC m)) = true) : ∃ a t, own k (beginM (midM nS nC m)) = a :: t ∧ mg m 5 + 1 ≤ a + 1220 := by
  have hw := (h.tick (nS := nS) (nC := nC) hc hs).2
  unfold fnB at hz
  cases hv : mv (beginM (midM nS nC m)) with
  | none => rw [hv] at hz; cases hz
  | some p =>
    rw [hv] at hz
    dsimp only at hz
    have z := of_decide_eq_true hz
    refine ⟨p.2.2, ownL k (mq (beginM (midM nS nC m))), ?_, hw p hv z.1⟩
    unfold own ownV
    rw [hv]
    dsimp only
    rw [if_pos z.2]
    rfl
