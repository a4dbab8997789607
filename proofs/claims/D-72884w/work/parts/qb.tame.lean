/-! Bounds, trials: packets that were there at time t0 are finished soon, later ones wait as the service has it -/
def wdP (s t0 bb : Int) : Int → List PkM → Prop
  | _, [] => True
  | e, p :: l => e + s ≤ max p.2.2 t0 + bb ∧ wdP s t0 bb (e + s) l
theorem wdP_snoc {s t0 bb : Int} : ∀ {l : List PkM} {e : Int} {p : PkM}, wdP s t0 bb e l → e + s * (l.length + 1) ≤ max p.2.2 t0 + bb → wdP s t0 bb e (l ++ [p]) := by
  intro l
  induction l with
  | nil =>
    intro e p _ hp
    refine ⟨?_, trivial⟩
    simp at hp
    omega
  | cons a l ih =>
    intro e p h hp
    refine ⟨h.1, ih h.2 ?_⟩
    rw [List.length_cons] at hp
    push_cast at hp
    have e1 : s * ((l.length : Int) + 1 + 1) = s * ((l.length : Int) + 1) + s := by rw [Int.mul_add s _ 1, Int.mul_one]
    rw [e1] at hp
    omega
theorem wdP_of {s t0 bb : Int} (hs : 0 ≤ s) : ∀ {l : List PkM} {e : Int}, e + s * l.length ≤ t0 + bb → wdP s t0 bb e l := by
  intro l
  induction l with
  | nil => intro e _; trivial
  | cons a l ih =>
    intro e h
    rw [List.length_cons] at h
    push_cast at h
    rw [Int.mul_add, Int.mul_one] at h
    have : 0 ≤ s * (l.length : Int) := Int.mul_nonneg hs (by omega)
    exact ⟨by omega, ih (by omega)⟩
def WD (t0 bb : Int) (m : MS) : Prop := (∀ p, mv m = some p → mg m 5 < mg m 14 ∧ mg m 14 ≤ mg m 5 + 19 ∧ mg m 14 ≤ max p.2.2 t0 + bb) ∧ wdP (mg m 1) t0 bb (eQ9 m (mg m 5)) (mq m)
def WDm (t0 bb : Int) (m : MS) : Prop := (∀ p, mv m = some p → mg m 5 ≤ mg m 14 ∧ mg m 14 ≤ mg m 5 + 18 ∧ mg m 14 ≤ max p.2.2 t0 + bb) ∧ wdP (mg m 1) t0 bb (eQ9 m (mg m 5 - 1)) (mq m)
def WDb (t0 bb : Int) (m : MS) : Prop := (∀ p, mv m = some p → mg m 5 ≤ mg m 14 ∧ mg m 14 ≤ mg m 5 + 19 ∧ mg m 14 ≤ max p.2.2 t0 + bb) ∧ wdP (mg m 1) t0 bb (eQ9 m (mg m 5)) (mq m)
section WDS
variable {t0 bb : Int}
theorem WD.start {m : MS} (h : WQ m) (hq : (mq m).length ≤ 60) (hs : 1 ≤ mg m 1) (hb : 60 * mg m 1 + 19 ≤ bb) : WD (mg m 5) bb m := by
  refine ⟨fun p hp => ?_, ?_⟩
  · have := h.1 p hp
    omega
  · refine wdP_of (by omega) ?_
    have a2 : mg m 1 * ((mq m).length : Int) ≤ mg m 1 * 60 := Int.mul_le_mul_of_nonneg_left (by omega) (by omega)
    have he : eQ9 m (mg m 5) ≤ mg m 5 + 19 := by
      unfold eQ9
      cases hv : mv m with
      | none =>
        show mg m 5 ≤ _
        omega
      | some p =>
        have := h.1 p hv
        show mg m 14 ≤ _
        omega
    omega
theorem WD.now {m : MS} (h : WD t0 bb m) : WDm t0 bb (nowM m) := by
  have e5 : mg (nowM m) 5 = mg m 5 + 1 := rfl
  have e14 : mg (nowM m) 14 = mg m 14 := rfl
  have e1 : mg (nowM m) 1 = mg m 1 := rfl
  refine ⟨?_, ?_⟩
  · intro p hp
    have := h.1 p hp
    rw [e5, e14]
    omega
  · have e : eQ9 (nowM m) (mg (nowM m) 5 - 1) = eQ9 m (mg m 5) := by
      unfold eQ9
      show (match mv m with | some _ => mg (nowM m) 14 | none => mg (nowM m) 5 - 1) = _
      rw [e5, e14]
      cases mv m with
      | none => show mg m 5 + 1 - 1 = mg m 5; omega
      | some p => rfl
    rw [e]
    exact h.2
theorem WDm.same {m m2 : MS} (h : WDm t0 bb m) (hg : mg m2 = mg m) (hv : mv m2 = mv m) (hq : mq m2 = mq m) : WDm t0 bb m2 := by
  unfold WDm eQ9 at h ⊢
  rw [hg, hv, hq]
  exact h
theorem WDm.e {m : MS} (h : WDm t0 bb m) : eQ9 m (mg m 5 - 1) ≤ mg m 5 + 18 := by
  unfold eQ9
  cases hv : mv m with
  | none =>
    show mg m 5 - 1 ≤ _
    omega
  | some p =>
    have := h.1 p hv
    show mg m 14 ≤ _
    omega
theorem WDm.enq {m : MS} {w : Nat} {nu : Int} (h : WDm t0 bb m) (hc : mg m 0 ≤ 60) (hs : 1 ≤ mg m 1) (hb : 60 * mg m 1 + 18 ≤ bb) : WDm t0 bb (enqM m w nu) ∧ mg (enqM m w nu) = mg m := by
  unfold enqM
  by_cases q : ((mq m).length : Int) < mg m 0
  · rw [if_pos q]
    refine ⟨⟨h.1, ?_⟩, rfl⟩
    have he := h.e
    show wdP (mg m 1) t0 bb (eQ9 m (mg m 5 - 1)) (mq m ++ [(w, nu, mg m 5)])
    refine wdP_snoc h.2 ?_
    show eQ9 m (mg m 5 - 1) + mg m 1 * (((mq m).length : Int) + 1) ≤ max (mg m 5) t0 + bb
    have a2 : mg m 1 * (((mq m).length : Int) + 1) ≤ mg m 1 * 60 := Int.mul_le_mul_of_nonneg_left (by omega) (by omega)
    omega
  · rw [if_neg q]
    exact ⟨h, rfl⟩
theorem WDm.send1 {m : MS} {k : Nat} (h : WDm t0 bb m) (hc : mg m 0 ≤ 60) (hs : 1 ≤ mg m 1) (hb : 60 * mg m 1 + 18 ≤ bb) : WDm t0 bb (sendM1 k m) := by
  have h2 : WDm t0 bb (setSM m k (sentM (ms m k))) := h.same rfl rfl rfl
  unfold sendM1
  split
  · exact (h2.enq hc hs hb).1
  · exact h2.same rfl rfl rfl
theorem WDm.sends {k : Nat} : ∀ (n : Nat) {m : MS}, WDm t0 bb m → mg m 0 ≤ 60 → 1 ≤ mg m 1 → 60 * mg m 1 + 18 ≤ bb → WDm t0 bb (sendsM n k m) := by
  intro n
  induction n with
  | zero => intro m h _ _ _; exact h
  | succ n ih =>
    intro m h hc hs hb
    show WDm t0 bb (if _ then _ else _)
    split
    · exact ih (h.send1 hc hs hb) (by rw [send1_g]; exact hc) (by rw [send1_g]; exact hs) (by rw [send1_g]; exact hb)
    · exact h
theorem WDm.acts {m : MS} (h : WDm t0 bb m) (hc : mg m 0 ≤ 60) (hs : 1 ≤ mg m 1) (hb : 60 * mg m 1 + 18 ≤ bb) : ∀ n, WDm t0 bb (actsM n m) := by
  intro n
  induction n with
  | zero => exact h
  | succ n ih =>
    have e : mg (slowMk n (actsM n m)) = mg m := acts_g n
    exact WDm.sends _ (ih.same rfl rfl rfl) (by rw [e]; exact hc) (by rw [e]; exact hs) (by rw [e]; exact hb)
theorem WDm.enqS {m : MS} {k : Nat} (h : WDm t0 bb m) (hc : mg m 0 ≤ 60) (hs : 1 ≤ mg m 1) (hb : 60 * mg m 1 + 18 ≤ bb) : WDm t0 bb (enqSM k m) := by
  unfold enqSM
  split
  · exact (h.enq hc hs hb).1
  · exact h.same rfl rfl rfl
theorem WDm.burN {k : Nat} : ∀ (n : Nat) {m : MS}, WDm t0 bb m → mg m 0 ≤ 60 → 1 ≤ mg m 1 → 60 * mg m 1 + 18 ≤ bb → WDm t0 bb (burstNM n k m) := by
  intro n
  induction n with
  | zero => intro m h _ _ _; exact h
  | succ n ih => intro m h hc hs hb; exact ih (h.enqS hc hs hb) (by rw [enqS_keep.2.1]; exact hc) (by rw [enqS_keep.2.1]; exact hs) (by rw [enqS_keep.2.1]; exact hb)
theorem WDm.burs {m : MS} (h : WDm t0 bb m) (hc : mg m 0 ≤ 60) (hs : 1 ≤ mg m 1) (hb : 60 * mg m 1 + 18 ≤ bb) : ∀ n, WDm t0 bb (burstsM n m) := by
  intro n
  induction n with
  | zero => exact h
  | succ n ih => exact WDm.burN _ ih (by rw [(burs_keep n).2.1]; exact hc) (by rw [(burs_keep n).2.1]; exact hs) (by rw [(burs_keep n).2.1]; exact hb)
theorem WDm.begin {m : MS} (h : WDm t0 bb m) (hs : 1 ≤ mg m 1 ∧ mg m 1 ≤ 20) : WDb t0 bb (beginM m) := by
  unfold beginM
  split
  · rename_i p l hv hq
    have h2 := h.2
    unfold eQ9 at h2
    rw [hv, hq] at h2
    obtain ⟨x, y⟩ := h2
    dsimp only at x y
    refine ⟨?_, ?_⟩
    · intro p2 hp2
      have hp2 : some p = some p2 := hp2
      have e : p = p2 := Option.some.inj hp2
      subst e
      show mg m 5 ≤ mg m 5 + mg m 1 - 1 ∧ mg m 5 + mg m 1 - 1 ≤ mg m 5 + 19 ∧ mg m 5 + mg m 1 - 1 ≤ max p.2.2 t0 + bb
      omega
    · show wdP (mg m 1) t0 bb (mg m 5 + mg m 1 - 1) l
      rw [show mg m 5 + mg m 1 - 1 = mg m 5 - 1 + mg m 1 by omega]
      exact y
  · rename_i hne
    refine ⟨fun p hp => ?_, ?_⟩
    · have := h.1 p hp
      omega
    · cases hv : mv m with
      | none =>
        cases hq : mq m with
        | nil => trivial
        | cons p l => exact absurd hq (hne p l hv)
      | some p =>
        have h2 := h.2
        unfold eQ9 at h2 ⊢
        rw [hv] at h2 ⊢
        exact h2
theorem WDb.fini {m : MS} (h : WDb t0 bb m) : WD t0 bb (finiM m) := by
  have h2 := h.2
  cases hv : mv m with
  | none =>
    have ef : fiB m = 0 := by
      unfold fiB
      rw [hv]
    have em : finiM m = m := by
      unfold finiM
      rw [hv]
    rw [em]
    show WD t0 bb m
    unfold eQ9 at h2
    rw [hv] at h2
    refine ⟨fun p hp => (by rw [hv] at hp; cases hp), ?_⟩
    unfold eQ9
    rw [hv]
    exact h2
  | some p =>
    have h1 := h.1 p hv
    unfold eQ9 at h2
    rw [hv] at h2
    dsimp only at h2
    by_cases he : mg m 14 = mg m 5
    · have ef : fiB m = 1 := by
        unfold fiB
        rw [hv]
        exact if_pos he
      have key : ∀ (g : Nat → Int) (r : (Nat → SdM) × (Nat → Nat → Int) × List NtM), g 5 = mg m 5 → g 1 = mg m 1 → WD t0 bb (g, mq m, none, r) := by
        intro g r hg hg1
        refine ⟨fun p hp => (by cases hp), ?_⟩
        show wdP (g 1) t0 bb (g 5) (mq m)
        rw [hg, hg1, ← he]
        exact h2
      unfold finiM
      rw [hv]
      dsimp only
      rw [if_pos he]
      split
      · exact key _ _ rfl rfl
      · exact key _ _ rfl rfl
    · have ef : fiB m = 0 := by
        unfold fiB
        rw [hv]
        exact if_neg he
      have em : finiM m = m := by
        unfold finiM
        rw [hv]
        exact if_neg he
      rw [em]
      show WD t0 bb m
      refine ⟨fun p2 hp2 => ?_, ?_⟩
      · have h3 := h.1 p2 hp2
        show mg m 5 < mg m 14 ∧ mg m 14 ≤ mg m 5 + 19 ∧ mg m 14 ≤ max p2.2.2 t0 + bb
        omega
      · unfold eQ9
        rw [hv]
        exact h2
theorem WD.mid {nS nC : Nat} {m : MS} (h : WD t0 bb m) (hc : mg m 0 ≤ 60) (hs : 1 ≤ mg m 1) (hb : 60 * mg m 1 + 18 ≤ bb) : WDm t0 bb (midM nS nC m) := by
  have h1 : WDm t0 bb (handM (nowM m)) := h.now.same rfl rfl rfl
  have h2 := h1.acts hc hs hb nS
  exact h2.burs (by rw [acts_g]; exact hc) (by rw [acts_g]; exact hs) (by rw [acts_g]; exact hb) nC
theorem WD.tick {nS nC : Nat} {m : MS} (h : WD t0 bb m) (hc : mg m 0 ≤ 60) (hs : 1 ≤ mg m 1 ∧ mg m 1 ≤ 20) (hb : 60 * mg m 1 + 18 ≤ bb) : WD t0 bb (tickM nS nC m) ∧ ∀ p, mv (beginM (midM nS nC m)) = some p → mg (beginM (midM nS nC m)) 14 = mg (beginM (midM nS nC m)) 5 → mg m 5 + 1 ≤ max p.2.2 t0 + bb := by
  have hm : WDm t0 bb (midM nS nC m) := h.mid hc hs.1 hb
  have hbg := hm.begin (by rw [mid_g]; exact hs)
  have hf := hbg.fini
  refine ⟨?_, ?_⟩
  · show WD t0 bb (countM (finiM (beginM (midM nS nC m))))
    generalize finiM (beginM (midM nS nC m)) = x at hf
    refine ⟨hf.1, ?_⟩
    have h2 := hf.2
    unfold eQ9 at h2 ⊢
    exact h2
  · intro p hp he
    have := (hbg.1 p hp).2.2
    have e5 : mg (beginM (midM nS nC m)) 5 = mg m 5 + 1 := by
      rw [(begin_keep (m := midM nS nC m)).2.2 5 (by decide), mid_g]
      rfl
    omega
/-- how long the finished one of sender k has waited -/
theorem fnB_waitD {nS nC k : Nat} {m : MS} (h : WD t0 bb m) (hc : mg m 0 ≤ 60) (hs : 1 ≤ mg m 1 ∧ mg m 1 ≤ 20) (hb : 60 * mg m 1 + 18 ≤ bb) (hz : fnB k (beginM (midM nS nC m)) = true) : ∃ a t, own k (beginM (midM nS nC m)) = a :: t ∧ mg m 5 + 1 ≤ max a t0 + bb := by
  have hw := (h.tick (nS := nS) (nC := nC) hc hs hb).2
  unfold fnB at hz
  cases hv : mv (beginM (midM nS nC m)) with
  | none => rw [hv] at hz; cases hz
  | some p =>
    rw [hv] at hz
    dsimp only at hz
    have z := of_decide_eq_true hz
    refine ⟨p.2.2, ownL k (mq (beginM (midM nS nC m))), ?_, hw p hv z.1⟩
    unfold own ownV
    rw [hv]
    dsimp only
    rw [if_pos z.2]
    rfl
/-- over ticks -/
theorem WD.run {nS nC : Nat} {m : MS} (h : WD t0 bb m) (hc : mg m 0 ≤ 60) (hs : 1 ≤ mg m 1 ∧ mg m 1 ≤ 20) (hb : 60 * mg m 1 + 18 ≤ bb) : ∀ T : Nat, WD t0 bb (tkN nS nC T m) := by
  intro T
  induction T with
  | zero =>
    exact h
  | succ T ih =>
    have g0 := tkN_g (nS := nS) (nC := nC) (m := m) (i := 0) (by decide) (by decide) (by decide) (by decide) (by decide) (by decide) T
    have g1 := tkN_g (nS := nS) (nC := nC) (m := m) (i := 1) (by decide) (by decide) (by decide) (by decide) (by decide) (by decide) T
    have et : tkN nS nC (T + 1) m = tickM nS nC (tkN nS nC T m) := rfl
    rw [et]
    exact (ih.tick (nS := nS) (nC := nC) (by rw [g0]; exact hc) (by rw [g1]; exact hs) (by rw [g1]; exact hb)).1
/-- finished late enough: tame -/
theorem tame_fr {nS nC : Nat} {m : MS} (h4 : nS ≤ 4) (h : WD t0 bb m) (hc : mg m 0 ≤ 60) (hs : 1 ≤ mg m 1 ∧ mg m 1 ≤ 20) (hb : 60 * mg m 1 + 18 ≤ bb) (ho : ∀ k, k < nS → ∀ x ∈ own k m, x ≤ mg m 5) (hf : 0 ≤ mg m 2) (ht : t0 + bb ≤ mg m 5) : frOK nS nC m (fun k => (ms m k).1 2) (fun k => (ms m k).1 2 + mg m 2 + bb) := by
  intro k hk hz x t hx
  obtain ⟨a, t2, e, hw⟩ := fnB_waitD h hc hs hb hz
  rw [hx] at e
  have ex : x = a := (List.cons.inj e).1
  obtain ⟨bs, z, h1, h2, h3, h5, h6, h7⟩ := tick_vo (nC := nC) hk h4 (m := m)
  have hm : x ∈ own k (beginM (midM nS nC m)) := by
    rw [hx]
    exact List.mem_cons_self
  rw [← h7] at hm
  have hle : x ≤ mg m 5 + 1 := by
    rcases snd_om _ _ hm with q | q
    · have := ho k hk x q
      omega
    · omega
  dsimp only
  omega
/-- what is on its way comes in soon, or is tame -/
def PAc (TW hi2 : Int) (l : List NtM) : Prop := ∀ n ∈ l, isA n → n.1 ≤ TW ∨ n.2.2.2 ≤ hi2
theorem PAc.tick {nS nC k : Nat} {m : MS} {TW : Int} (h4 : nS ≤ 4) (hk : k < nS) (h : WD t0 bb m) (hc : mg m 0 ≤ 60) (hs : 1 ≤ mg m 1 ∧ mg m 1 ≤ 20) (hb : 60 * mg m 1 + 18 ≤ bb) (hT : t0 + bb + mg m 2 + mg m 3 ≤ TW) (hp : PAc TW ((ms m k).1 2 + mg m 2 + bb) (vwK k m).2.2) : PAc TW ((ms m k).1 2 + mg m 2 + bb) (vwK k (tickM nS nC m)).2.2 := by
  obtain ⟨bs, z, h1, h2, h3, h5, h6, h7⟩ := tick_vo (nC := nC) hk h4 (m := m)
  have e2 : (sndV (mg m 5 + 1) (mg m 5 + 1 + mg m 2 + mg m 3) k bs (slowM (hndV (mg m 5 + 1) (vwK k m)).1 (mg m 5 + 1) (mg m 4), (hndV (mg m 5 + 1) (vwK k m)).2)).1.1 2 = (ms m k).1 2 := by
    rw [snd_2]
    show (slowM (hndV (mg m 5 + 1) (vwK k m)).1 (mg m 5 + 1) (mg m 4)).1 2 = _
    unfold slowM
    rw [begins_o (by decide) (by decide) (by decide), ends_o (by decide) (by decide) (by decide)]
    exact hnd_2 _ _
  rw [h2]
  have base : PAc TW ((ms m k).1 2 + mg m 2 + bb) (sndV (mg m 5 + 1) (mg m 5 + 1 + mg m 2 + mg m 3) k bs (slowM (hndV (mg m 5 + 1) (vwK k m)).1 (mg m 5 + 1) (mg m 4), (hndV (mg m 5 + 1) (vwK k m)).2)).2.2 := by
    intro n hn hA
    rcases snd_mem _ _ _ hn with w | w
    · have w : n ∈ (vwK k m).2.2.filter (fun n => decide (n.1 ≠ mg m 5 + 1)) := w
      exact hp n (List.mem_filter.mp w).1 hA
    · exact absurd hA w.2
  generalize hvs : sndV (mg m 5 + 1) (mg m 5 + 1 + mg m 2 + mg m 3) k bs (slowM (hndV (mg m 5 + 1) (vwK k m)).1 (mg m 5 + 1) (mg m 4), (hndV (mg m 5 + 1) (vwK k m)).2) = vs at *
  cases z with
  | false => exact base
  | true =>
    cases ho : vs.2.1 with
    | nil => exact absurd ho (h6 rfl)
    | cons x t =>
      rw [fin_t ho]
      intro n hn hA
      rcases List.mem_append.mp hn with w | w
      · exact base n w hA
      · rw [List.mem_singleton] at w
        rw [w]
        dsimp only
        obtain ⟨a, t2, e, hw⟩ := fnB_waitD (nS := nS) (nC := nC) (k := k) h hc hs hb h5.symm
        rw [← h7, ho] at e
        have ex : x = a := (List.cons.inj e).1
        rw [e2]
        by_cases q : mg m 5 + 1 ≤ t0 + bb
        · left
          omega
        · right
          omega
theorem PAc.run {nS nC k : Nat} {m : MS} {TW : Int} (h4 : nS ≤ 4) (hk : k < nS) (h : WD t0 bb m) (hc : mg m 0 ≤ 60) (hs : 1 ≤ mg m 1 ∧ mg m 1 ≤ 20) (hb : 60 * mg m 1 + 18 ≤ bb) (hT : t0 + bb + mg m 2 + mg m 3 ≤ TW) (hp : PAc TW ((ms m k).1 2 + mg m 2 + bb) (vwK k m).2.2) : ∀ T : Nat, PAc TW ((ms m k).1 2 + mg m 2 + bb) (vwK k (tkN nS nC T m)).2.2 := by
  have e2 : ∀ T : Nat, (ms (tkN nS nC T m) k).1 2 = (ms m k).1 2 := by
    intro T
    induction T with
    | zero => rfl
    | succ T ih => exact (tick_s2 (nC := nC) hk h4).trans ih
  intro T
  induction T with
  | zero => exact hp
  | succ T ih =>
    have g0 := tkN_g (nS := nS) (nC := nC) (m := m) (i := 0) (by decide) (by decide) (by decide) (by decide) (by decide) (by decide) T
    have g1 := tkN_g (nS := nS) (nC := nC) (m := m) (i := 1) (by decide) (by decide) (by decide) (by decide) (by decide) (by decide) T
    have g2 := tkN_g (nS := nS) (nC := nC) (m := m) (i := 2) (by decide) (by decide) (by decide) (by decide) (by decide) (by decide) T
    have g3 := tkN_g (nS := nS) (nC := nC) (m := m) (i := 3) (by decide) (by decide) (by decide) (by decide) (by decide) (by decide) T
    have et : tkN nS nC (T + 1) m = tickM nS nC (tkN nS nC T m) := rfl
    have a := PAc.tick (nC := nC) (TW := TW) h4 hk (h.run (nS := nS) (nC := nC) hc hs hb T) (by rw [g0]; exact hc) (by rw [g1]; exact hs) (by rw [g1]; exact hb) (by rw [g2, g3]; exact hT) (by rw [e2 T, g2]; exact ih)
    rw [e2 T, g2] at a
    rw [et]
    exact a
end WDS
