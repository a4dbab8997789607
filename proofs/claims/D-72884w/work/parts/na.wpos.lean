/-! Bounds: waits by place: the i-th packet finished from now on waits at most b i -/
def wqP (s : Int) (b : Nat → Int) : Nat → Int → List PkM → Prop
  | _, _, [] => True
  | i, e, p :: l => e + s ≤ p.2.2 + b i ∧ wqP s b (i + 1) (e + s) l
theorem wqP_snoc {s : Int} {b : Nat → Int} : ∀ {l : List PkM} {i : Nat} {e : Int} {p : PkM}, wqP s b i e l → e + s * (l.length + 1) ≤ p.2.2 + b (i + l.length) → wqP s b i e (l ++ [p]) := by
  intro l
  induction l with
  | nil =>
    intro i e p _ hp
    refine ⟨?_, trivial⟩
    simp at hp
    omega
  | cons a l ih =>
    intro i e p h hp
    refine ⟨h.1, ih h.2 ?_⟩
    rw [List.length_cons] at hp
    push_cast at hp
    have e1 : s * ((l.length : Int) + 1 + 1) = s * ((l.length : Int) + 1) + s := by rw [Int.mul_add s _ 1, Int.mul_one]
    rw [e1] at hp
    rw [show i + 1 + l.length = i + (l.length + 1) by omega]
    omega
theorem wqP_down {s : Int} {b : Nat → Int} (hb : ∀ i, b (i + 1) ≤ b i) : ∀ {l : List PkM} {i : Nat} {e : Int}, wqP s b (i + 1) e l → wqP s b i e l := by
  intro l
  induction l with
  | nil => intro i e _; trivial
  | cons a l ih =>
    intro i e h
    exact ⟨by have := h.1; have := hb i; omega, ih h.2⟩
/-- from the bound for every service -/
theorem wqP_of {s : Int} {b : Nat → Int} (hs : s ≤ 20) (hb : ∀ i : Nat, 1220 - (20 - s) * (i : Int) ≤ b i) : ∀ {l : List PkM} {i : Nat} {e e20 : Int}, wQ e20 l → e ≤ e20 - (20 - s) * (i : Int) + (20 - s) → wqP s b i e l := by
  intro l
  induction l with
  | nil => intro i e e20 _ _; trivial
  | cons a l ih =>
    intro i e e20 h he
    have h1 := h.1
    have h2 := hb i
    refine ⟨by omega, ih h.2 ?_⟩
    have : (20 - s) * ((i + 1 : Nat) : Int) = (20 - s) * (i : Int) + (20 - s) := by
      push_cast
      rw [Int.mul_add, Int.mul_one]
    omega
def iQ (m : MS) (j : Nat) : Nat := match mv m with
  | some _ => j + 1
  | none => j
/-- between ticks; j packets finished -/
def WP (b : Nat → Int) (j : Nat) (m : MS) : Prop := (∀ p, mv m = some p → mg m 5 < mg m 14 ∧ mg m 14 ≤ mg m 5 + 19 ∧ mg m 14 ≤ p.2.2 + b j) ∧ wqP (mg m 1) b (iQ m j) (eQ9 m (mg m 5)) (mq m)
/-- within a tick, before the server's step -/
def WPm (b : Nat → Int) (j : Nat) (m : MS) : Prop := (∀ p, mv m = some p → mg m 5 ≤ mg m 14 ∧ mg m 14 ≤ mg m 5 + 18 ∧ mg m 14 ≤ p.2.2 + b j) ∧ wqP (mg m 1) b (iQ m j) (eQ9 m (mg m 5 - 1)) (mq m)
def WPb (b : Nat → Int) (j : Nat) (m : MS) : Prop := (∀ p, mv m = some p → mg m 5 ≤ mg m 14 ∧ mg m 14 ≤ mg m 5 + 19 ∧ mg m 14 ≤ p.2.2 + b j) ∧ wqP (mg m 1) b (iQ m j) (eQ9 m (mg m 5)) (mq m)
section WPS
variable {b : Nat → Int} {j : Nat}
theorem WP.start {m : MS} (h : WQ m) (hs : mg m 1 ≤ 20) (hb : ∀ i : Nat, 1220 - (20 - mg m 1) * (i : Int) ≤ b i) : WP b 0 m := by
  refine ⟨fun p hp => ?_, ?_⟩
  · have := h.1 p hp
    have b0 := hb 0
    have e0 : (20 - mg m 1) * ((0 : Nat) : Int) = 0 := Int.mul_zero _
    omega
  · refine wqP_of hs hb h.2 ?_
    unfold iQ
    cases hv : mv m with
    | none =>
      dsimp only
      have e0 : (20 - mg m 1) * ((0 : Nat) : Int) = 0 := Int.mul_zero _
      omega
    | some p =>
      dsimp only
      have e0 : (20 - mg m 1) * ((0 + 1 : Nat) : Int) = 20 - mg m 1 := Int.mul_one _
      omega
theorem WP.now {m : MS} (h : WP b j m) : WPm b j (nowM m) := by
  have e5 : mg (nowM m) 5 = mg m 5 + 1 := rfl
  have e14 : mg (nowM m) 14 = mg m 14 := rfl
  have e1 : mg (nowM m) 1 = mg m 1 := rfl
  refine ⟨?_, ?_⟩
  · intro p hp
    have := h.1 p hp
    rw [e5, e14]
    omega
  · have e : eQ9 (nowM m) (mg (nowM m) 5 - 1) = eQ9 m (mg m 5) := by
      unfold eQ9
      show (match mv m with | some _ => mg (nowM m) 14 | none => mg (nowM m) 5 - 1) = _
      rw [e5, e14]
      cases mv m with
      | none => show mg m 5 + 1 - 1 = mg m 5; omega
      | some p => rfl
    rw [e]
    exact h.2
theorem WPm.same {m m2 : MS} (h : WPm b j m) (hg : mg m2 = mg m) (hv : mv m2 = mv m) (hq : mq m2 = mq m) : WPm b j m2 := by
  unfold WPm eQ9 iQ at h ⊢
  rw [hg, hv, hq]
  exact h
theorem WPm.e {m : MS} (h : WPm b j m) : eQ9 m (mg m 5 - 1) ≤ mg m 5 + 18 := by
  unfold eQ9
  cases hv : mv m with
  | none =>
    show mg m 5 - 1 ≤ _
    omega
  | some p =>
    have := h.1 p hv
    show mg m 14 ≤ _
    omega
theorem WPm.enq {m : MS} {w : Nat} {nu : Int} (h : WPm b j m) (hc : mg m 0 ≤ 60) (hs : 1 ≤ mg m 1) (hb : ∀ i, 60 * mg m 1 + 18 ≤ b i) : WPm b j (enqM m w nu) ∧ mg (enqM m w nu) = mg m := by
  unfold enqM
  by_cases q : ((mq m).length : Int) < mg m 0
  · rw [if_pos q]
    refine ⟨⟨h.1, ?_⟩, rfl⟩
    have he := h.e
    show wqP (mg m 1) b (iQ m j) (eQ9 m (mg m 5 - 1)) (mq m ++ [(w, nu, mg m 5)])
    refine wqP_snoc h.2 ?_
    show eQ9 m (mg m 5 - 1) + mg m 1 * (((mq m).length : Int) + 1) ≤ mg m 5 + b (iQ m j + (mq m).length)
    have a2 : mg m 1 * (((mq m).length : Int) + 1) ≤ mg m 1 * 60 := Int.mul_le_mul_of_nonneg_left (by omega) (by omega)
    have := hb (iQ m j + (mq m).length)
    omega
  · rw [if_neg q]
    exact ⟨h, rfl⟩
theorem WPm.send1 {m : MS} {k : Nat} (h : WPm b j m) (hc : mg m 0 ≤ 60) (hs : 1 ≤ mg m 1) (hb : ∀ i, 60 * mg m 1 + 18 ≤ b i) : WPm b j (sendM1 k m) := by
  have h2 : WPm b j (setSM m k (sentM (ms m k))) := h.same rfl rfl rfl
  unfold sendM1
  split
  · exact (h2.enq hc hs hb).1
  · exact h2.same rfl rfl rfl
theorem WPm.sends {k : Nat} : ∀ (n : Nat) {m : MS}, WPm b j m → mg m 0 ≤ 60 → 1 ≤ mg m 1 → (∀ i, 60 * mg m 1 + 18 ≤ b i) → WPm b j (sendsM n k m) := by
  intro n
  induction n with
  | zero => intro m h _ _ _; exact h
  | succ n ih =>
    intro m h hc hs hb
    show WPm b j (if _ then _ else _)
    split
    · exact ih (h.send1 hc hs hb) (by rw [send1_g]; exact hc) (by rw [send1_g]; exact hs) (by rw [send1_g]; exact hb)
    · exact h
theorem WPm.acts {m : MS} (h : WPm b j m) (hc : mg m 0 ≤ 60) (hs : 1 ≤ mg m 1) (hb : ∀ i, 60 * mg m 1 + 18 ≤ b i) : ∀ n, WPm b j (actsM n m) := by
  intro n
  induction n with
  | zero => exact h
  | succ n ih =>
    have e : mg (slowMk n (actsM n m)) = mg m := acts_g n
    exact WPm.sends _ (ih.same rfl rfl rfl) (by rw [e]; exact hc) (by rw [e]; exact hs) (by rw [e]; exact hb)
theorem WPm.enqS {m : MS} {k : Nat} (h : WPm b j m) (hc : mg m 0 ≤ 60) (hs : 1 ≤ mg m 1) (hb : ∀ i, 60 * mg m 1 + 18 ≤ b i) : WPm b j (enqSM k m) := by
  unfold enqSM
  split
  · exact (h.enq hc hs hb).1
  · exact h.same rfl rfl rfl
theorem WPm.burN {k : Nat} : ∀ (n : Nat) {m : MS}, WPm b j m → mg m 0 ≤ 60 → 1 ≤ mg m 1 → (∀ i, 60 * mg m 1 + 18 ≤ b i) → WPm b j (burstNM n k m) := by
  intro n
  induction n with
  | zero => intro m h _ _ _; exact h
  | succ n ih => intro m h hc hs hb; exact ih (h.enqS hc hs hb) (by rw [enqS_keep.2.1]; exact hc) (by rw [enqS_keep.2.1]; exact hs) (by rw [enqS_keep.2.1]; exact hb)
theorem WPm.burs {m : MS} (h : WPm b j m) (hc : mg m 0 ≤ 60) (hs : 1 ≤ mg m 1) (hb : ∀ i, 60 * mg m 1 + 18 ≤ b i) : ∀ n, WPm b j (burstsM n m) := by
  intro n
  induction n with
  | zero => exact h
  | succ n ih => exact WPm.burN _ ih (by rw [(burs_keep n).2.1]; exact hc) (by rw [(burs_keep n).2.1]; exact hs) (by rw [(burs_keep n).2.1]; exact hb)
theorem WPm.begin {m : MS} (h : WPm b j m) (hs : 1 ≤ mg m 1 ∧ mg m 1 ≤ 20) : WPb b j (beginM m) := by
  unfold beginM
  split
  · rename_i p l hv hq
    have h2 := h.2
    unfold eQ9 iQ at h2
    rw [hv, hq] at h2
    obtain ⟨x, y⟩ := h2
    dsimp only at x y
    refine ⟨?_, ?_⟩
    · intro p2 hp2
      have hp2 : some p = some p2 := hp2
      have e : p = p2 := Option.some.inj hp2
      subst e
      show mg m 5 ≤ mg m 5 + mg m 1 - 1 ∧ mg m 5 + mg m 1 - 1 ≤ mg m 5 + 19 ∧ mg m 5 + mg m 1 - 1 ≤ p.2.2 + b j
      omega
    · show wqP (mg m 1) b (j + 1) (mg m 5 + mg m 1 - 1) l
      rw [show mg m 5 + mg m 1 - 1 = mg m 5 - 1 + mg m 1 by omega]
      exact y
  · rename_i hne
    refine ⟨fun p hp => ?_, ?_⟩
    · have := h.1 p hp
      omega
    · cases hv : mv m with
      | none =>
        cases hq : mq m with
        | nil => trivial
        | cons p l => exact absurd hq (hne p l hv)
      | some p =>
        have h2 := h.2
        unfold eQ9 iQ at h2 ⊢
        rw [hv] at h2 ⊢
        exact h2
theorem WPb.fini {m : MS} (h : WPb b j m) : WP b (j + (fiB m).toNat) (finiM m) := by
  have h2 := h.2
  cases hv : mv m with
  | none =>
    have ef : fiB m = 0 := by
      unfold fiB
      rw [hv]
    have em : finiM m = m := by
      unfold finiM
      rw [hv]
    rw [ef, em]
    show WP b (j + 0) m
    unfold eQ9 iQ at h2
    rw [hv] at h2
    refine ⟨fun p hp => (by rw [hv] at hp; cases hp), ?_⟩
    unfold eQ9 iQ
    rw [hv]
    exact h2
  | some p =>
    have h1 := h.1 p hv
    unfold eQ9 iQ at h2
    rw [hv] at h2
    dsimp only at h2
    by_cases he : mg m 14 = mg m 5
    · have ef : fiB m = 1 := by
        unfold fiB
        rw [hv]
        exact if_pos he
      have key : ∀ (g : Nat → Int) (r : (Nat → SdM) × (Nat → Nat → Int) × List NtM), g 5 = mg m 5 → g 1 = mg m 1 → WP b (j + 1) (g, mq m, none, r) := by
        intro g r hg hg1
        refine ⟨fun p hp => (by cases hp), ?_⟩
        show wqP (g 1) b (j + 1) (g 5) (mq m)
        rw [hg, hg1, ← he]
        exact h2
      rw [ef]
      show WP b (j + 1) (finiM m)
      unfold finiM
      rw [hv]
      dsimp only
      rw [if_pos he]
      split
      · exact key _ _ rfl rfl
      · exact key _ _ rfl rfl
    · have ef : fiB m = 0 := by
        unfold fiB
        rw [hv]
        exact if_neg he
      have em : finiM m = m := by
        unfold finiM
        rw [hv]
        exact if_neg he
      rw [ef, em]
      show WP b (j + 0) m
      refine ⟨fun p2 hp2 => ?_, ?_⟩
      · have h3 := h.1 p2 hp2
        show mg m 5 < mg m 14 ∧ mg m 14 ≤ mg m 5 + 19 ∧ mg m 14 ≤ p2.2.2 + b j
        omega
      · unfold eQ9 iQ
        rw [hv]
        exact h2
theorem WP.mid {nS nC : Nat} {m : MS} (h : WP b j m) (hc : mg m 0 ≤ 60) (hs : 1 ≤ mg m 1) (hb : ∀ i, 60 * mg m 1 + 18 ≤ b i) : WPm b j (midM nS nC m) := by
  have h1 : WPm b j (handM (nowM m)) := h.now.same rfl rfl rfl
  have h2 := h1.acts hc hs hb nS
  exact h2.burs (by rw [acts_g]; exact hc) (by rw [acts_g]; exact hs) (by rw [acts_g]; exact hb) nC
theorem WP.tick {nS nC : Nat} {m : MS} (h : WP b j m) (hc : mg m 0 ≤ 60) (hs : 1 ≤ mg m 1 ∧ mg m 1 ≤ 20) (hb : ∀ i, 60 * mg m 1 + 18 ≤ b i) (hb2 : ∀ i, b (i + 1) ≤ b i) : WP b (j + (fiB (beginM (midM nS nC m))).toNat) (tickM nS nC m) ∧ ∀ p, mv (beginM (midM nS nC m)) = some p → mg (beginM (midM nS nC m)) 14 = mg (beginM (midM nS nC m)) 5 → mg m 5 + 1 ≤ p.2.2 + b j := by
  have hm : WPm b j (midM nS nC m) := h.mid hc hs.1 hb
  have hbg := hm.begin (by rw [mid_g]; exact hs)
  have hf := hbg.fini
  refine ⟨?_, ?_⟩
  · show WP b (j + (fiB (beginM (midM nS nC m))).toNat) (countM (finiM (beginM (midM nS nC m))))
    generalize finiM (beginM (midM nS nC m)) = x at hf
    refine ⟨hf.1, ?_⟩
    have h2 := hf.2
    unfold eQ9 iQ at h2 ⊢
    exact h2
  · intro p hp he
    have := (hbg.1 p hp).2.2
    have e5 : mg (beginM (midM nS nC m)) 5 = mg m 5 + 1 := by
      rw [(begin_keep (m := midM nS nC m)).2.2 5 (by decide), mid_g]
      rfl
    omega
/-- how long the finished one of sender k has waited -/
theorem fnB_waitP {nS nC k : Nat} {m : MS} (h : WP b j m) (hc : mg m 0 ≤ 60) (hs : 1 ≤ mg m 1 ∧ mg m 1 ≤ 20) (hb : ∀ i, 60 * mg m 1 + 18 ≤ b i) (hb2 : ∀ i, b (i + 1) ≤ b i) (hz : fnB k (beginM (midM nS nC m)) = true) : ∃ a t, own k (beginM (midM nS nC m)) = a :: t ∧ mg m 5 + 1 ≤ a + b j := by
  have hw := (h.tick (nS := nS) (nC := nC) hc hs hb hb2).2
  unfold fnB at hz
  cases hv : mv (beginM (midM nS nC m)) with
  | none => rw [hv] at hz; cases hz
  | some p =>
    rw [hv] at hz
    dsimp only at hz
    have z := of_decide_eq_true hz
    refine ⟨p.2.2, ownL k (mq (beginM (midM nS nC m))), ?_, hw p hv z.1⟩
    unfold own ownV
    rw [hv]
    dsimp only
    rw [if_pos z.2]
    rfl
/-- over ticks -/
theorem WP.run {nS nC : Nat} {m : MS} (h : WP b j m) (hc : mg m 0 ≤ 60) (hs : 1 ≤ mg m 1 ∧ mg m 1 ≤ 20) (hb : ∀ i, 60 * mg m 1 + 18 ≤ b i) (hb2 : ∀ i, b (i + 1) ≤ b i) : ∀ T : Nat, WP b (j + (fnT nS nC T m).toNat) (tkN nS nC T m) := by
  intro T
  induction T with
  | zero =>
    show WP b (j + (0 : Int).toNat) m
    exact h
  | succ T ih =>
    have g0 := tkN_g (nS := nS) (nC := nC) (m := m) (i := 0) (by decide) (by decide) (by decide) (by decide) (by decide) (by decide) T
    have g1 := tkN_g (nS := nS) (nC := nC) (m := m) (i := 1) (by decide) (by decide) (by decide) (by decide) (by decide) (by decide) T
    have e : fnT nS nC (T + 1) m = fnT nS nC T m + fiB (beginM (midM nS nC (tkN nS nC T m))) := rfl
    have et : tkN nS nC (T + 1) m = tickM nS nC (tkN nS nC T m) := rfl
    have f0 := fnT_0 (nS := nS) (nC := nC) (m := m) T
    have f1 := fiB_1 (beginM (midM nS nC (tkN nS nC T m)))
    have a := (ih.tick (nS := nS) (nC := nC) (by rw [g0]; exact hc) (by rw [g1]; exact hs) (by rw [g1]; exact hb) hb2).1
    rw [e, et, show j + (fnT nS nC T m + fiB (beginM (midM nS nC (tkN nS nC T m)))).toNat = j + (fnT nS nC T m).toNat + (fiB (beginM (midM nS nC (tkN nS nC T m)))).toNat by omega]
    exact a
end WPS
