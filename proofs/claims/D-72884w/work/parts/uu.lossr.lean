/-! Bounds: own losses bound queueing: the clock of a sender whose losses never cease but in its slow-downs -/
theorem slow_step {s : SdM} {t iv : Int} (h : (slowM s t iv).1 11 ≠ -1) : t < (slowM s t iv).1 11 ∧ ((slowM s t iv).1 11 = s.1 11 ∨ (s.1 11 = -1 ∧ (slowM s t iv).1 11 = t + 60)) := by
  refine ⟨slow_now h, ?_⟩
  unfold slowM at h ⊢
  by_cases q : s.1 11 = -1
  · have ee : endsM s t = s := if_pos q
    rw [ee] at h ⊢
    unfold beginsM at h ⊢
    split
    · right
      refine ⟨q, ?_⟩
      simp [iup]
    · rename_i x
      rw [if_neg x] at h
      exact absurd q h
  · by_cases q2 : t < s.1 11
    · have ee : endsM s t = s := by
        unfold endsM
        rw [if_neg q, if_pos q2]
      rw [ee]
      left
      unfold beginsM
      rw [if_neg (fun z => q z.2.2.1)]
    · have e10 : (endsM s t).1 10 = t := by
        unfold endsM
        rw [if_neg q, if_neg q2]
        simp [iup]
      have e11 : (endsM s t).1 11 = -1 := by
        unfold endsM
        rw [if_neg q, if_neg q2]
        simp [iup]
      have eb : beginsM (endsM s t) t iv = endsM s t := by
        unfold beginsM
        rw [if_neg (fun z => by have := z.2.2.2; rw [e10] at this; omega)]
      rw [eb] at h
      exact absurd e11 h
theorem reach_n11 {s : SdM} {lo v mi : Int} : (reachM s lo v mi).1 11 = s.1 11 := by
  unfold reachM
  split
  · unfold ackM
    show (if _ then _ else _ : Nat → Int) 11 = _
    split <;> rfl
  · unfold lostM
    show (if _ then _ else _ : Nat → Int) 11 = _
    split <;> rfl
theorem hnd_n11 {now : Int} : ∀ (l : List NtM) (s : SdM), (l.foldl (hndS now) s).1 11 = s.1 11 := by
  intro l
  induction l with
  | nil => intro s; rfl
  | cons n l ih =>
    intro s
    show (l.foldl (hndS now) (hndS now s n)).1 11 = _
    rw [ih]
    unfold hndS
    split
    · exact reach_n11
    · rfl
theorem tick_n11 {nS nC k : Nat} {m : MS} (hk : k < nS) (h4 : nS ≤ 4) : ∃ s : SdM, s.1 11 = (ms m k).1 11 ∧ (ms (tickM nS nC m) k).1 11 = (slowM s (mg m 5 + 1) (mg m 4)).1 11 := by
  refine ⟨ms (handM (nowM m)) k, ?_, ?_⟩
  · have e := congrArg (fun v : SV => v.1.1 11) (v_hand (k := k) (m := nowM m))
    exact e.trans (hnd_n11 _ _)
  · have e1 : vwK k (tickM nS nC m) = vwK k (finiM (beginM (midM nS nC m))) := rfl
    have e2 := v_fini (k := k) (m := beginM (midM nS nC m)) (by omega)
    have e3 : vwK k (beginM (midM nS nC m)) = vwK k (actsM nS (handM (nowM m))) := v_begin.trans (v_burs (by omega) nC)
    obtain ⟨bs, _, e4, _⟩ := (v_acts (k := k) (m := handM (nowM m)) nS).2 hk
    have e5 : (vwK k (tickM nS nC m)).1 = (vwK k (actsM nS (handM (nowM m)))).1 := by
      rw [e1, e2, e3]
      unfold finV
      split <;> rfl
    show (vwK k (tickM nS nC m)).1.1 11 = _
    rw [e5, e4, snd_o (by decide) (by decide)]
    rfl
def LWG (k : Nat) (B t1 t2 : Int) (m : MS) : Prop := ∃ u, LW k B t1 t2 (u - (mg m 2 + mg m 3) + mg m 1 * mg m 0) m ∧ ((ms m k).1 11 = -1 → u = mg m 5) ∧ ((ms m k).1 11 ≠ -1 → (ms m k).1 11 ≤ u + 61 ∧ mg m 5 < (ms m k).1 11)
/-- a loss that is known of is on its way -/
def LOW (k : Nat) (t2 : Int) (m : MS) : Prop := ∃ n ∈ mnt m, n.2.1 = k ∧ n.2.2.1 ≠ 0 ∧ t2 ≤ n.1 ∧ mg m 5 < n.1
section LWGS
variable {k : Nat} {B t1 t2 W : Int}
theorem LWG.start {m : MS} (h : LW k B t1 t2 W m) (h11 : (ms m k).1 11 = -1) (hl : LOW k t2 m) : LWG k B t1 t2 m := by
  obtain ⟨n, hn, _, a, b, c⟩ := hl
  exact ⟨mg m 5, h.raise hn a b c, fun _ => rfl, fun z => absurd h11 z⟩
theorem LWG.ok {m : MS} (h : LWG k B t1 t2 m) (hB : B + 61 + (mg m 2 + mg m 3) ≤ mg m 1 * mg m 0 + mg m 1) : ∃ u, LW k B t1 t2 (u - (mg m 2 + mg m 3) + mg m 1 * mg m 0) m ∧ mg m 5 + 1 + B ≤ u - (mg m 2 + mg m 3) + mg m 1 * mg m 0 + mg m 1 := by
  obtain ⟨u, h1, h2, h3⟩ := h
  refine ⟨u, h1, ?_⟩
  by_cases q : (ms m k).1 11 = -1
  · have := h2 q
    omega
  · have := h3 q
    omega
theorem LWG.tick {nS nC : Nat} {m : MS} (hk : k < nS) (h4 : nS ≤ 4) (h : LWG k B t1 t2 m) (hs : 1 ≤ mg m 1) (hB : B + 61 + (mg m 2 + mg m 3) ≤ mg m 1 * mg m 0 + mg m 1) (hl : (ms (tickM nS nC m) k).1 11 = -1 → LOW k t2 (tickM nS nC m)) : LWG k B t1 t2 (tickM nS nC m) := by
  obtain ⟨u, h1, h2, h3⟩ := h
  have hb : mg m 5 + 1 + B ≤ u - (mg m 2 + mg m 3) + mg m 1 * mg m 0 + mg m 1 := by
    by_cases q : (ms m k).1 11 = -1
    · have := h2 q
      omega
    · have := h3 q
      omega
  have ht := (h1.tick (nS := nS) (nC := nC) hs hb).1
  have g0 : mg (tickM nS nC m) 0 = mg m 0 := tkN_g (nS := nS) (nC := nC) (m := m) (i := 0) (by decide) (by decide) (by decide) (by decide) (by decide) (by decide) 1
  have g1 : mg (tickM nS nC m) 1 = mg m 1 := tkN_g (nS := nS) (nC := nC) (m := m) (i := 1) (by decide) (by decide) (by decide) (by decide) (by decide) (by decide) 1
  have g2 : mg (tickM nS nC m) 2 = mg m 2 := tkN_g (nS := nS) (nC := nC) (m := m) (i := 2) (by decide) (by decide) (by decide) (by decide) (by decide) (by decide) 1
  have g3 : mg (tickM nS nC m) 3 = mg m 3 := tkN_g (nS := nS) (nC := nC) (m := m) (i := 3) (by decide) (by decide) (by decide) (by decide) (by decide) (by decide) 1
  have g5 : mg (tickM nS nC m) 5 = mg m 5 + 1 := by
    have := tkN_5 (nS := nS) (nC := nC) (m := m) 1
    exact this
  by_cases q : (ms (tickM nS nC m) k).1 11 = -1
  · exact LWG.start ht q (hl q)
  · obtain ⟨s, hs1, hs2⟩ := tick_n11 (nC := nC) (m := m) hk h4
    refine ⟨u, ?_, fun z => absurd z q, fun _ => ?_⟩
    · rw [g0, g1, g2, g3]
      exact ht
    · rw [hs2] at q
      have x := slow_step q
      rw [hs1] at x
      rw [hs2, g5]
      refine ⟨?_, x.1⟩
      rcases x.2 with y | y
      · rw [y]
        exact (h3 (by rw [← y]; exact q)).1
      · have := h2 y.1
        rw [y.2]
        omega
theorem LWG.run {nS nC : Nat} {m : MS} (hk : k < nS) (h4 : nS ≤ 4) (h : LWG k B t1 t2 m) (hs : 1 ≤ mg m 1) (hB : B + 61 + (mg m 2 + mg m 3) ≤ mg m 1 * mg m 0 + mg m 1) : ∀ T : Nat, (∀ i, i < T → (ms (tkN nS nC (i + 1) m) k).1 11 = -1 → LOW k t2 (tkN nS nC (i + 1) m)) → LWG k B t1 t2 (tkN nS nC T m) := by
  intro T
  induction T with
  | zero => intro _; exact h
  | succ T ih =>
    intro hl
    have g0 := tkN_g (nS := nS) (nC := nC) (m := m) (i := 0) (by decide) (by decide) (by decide) (by decide) (by decide) (by decide) T
    have g1 := tkN_g (nS := nS) (nC := nC) (m := m) (i := 1) (by decide) (by decide) (by decide) (by decide) (by decide) (by decide) T
    have g2 := tkN_g (nS := nS) (nC := nC) (m := m) (i := 2) (by decide) (by decide) (by decide) (by decide) (by decide) (by decide) T
    have g3 := tkN_g (nS := nS) (nC := nC) (m := m) (i := 3) (by decide) (by decide) (by decide) (by decide) (by decide) (by decide) T
    exact LWG.tick (nC := nC) hk h4 (ih (fun i hi => hl i (by omega))) (by rw [g1]; exact hs) (by rw [g0, g1, g2, g3]; exact hB) (hl T (by omega))
/-- the finished one of sender k, sent from t1 on, has waited at least B: service x (capacity + 1) - the ways - 61 -/
theorem LWG.wait {nS nC : Nat} {m : MS} (h : LWG k B t1 t2 m) (hs : 1 ≤ mg m 1) (hB : B + 61 + (mg m 2 + mg m 3) ≤ mg m 1 * mg m 0 + mg m 1) (hz : fnB k (beginM (midM nS nC m)) = true) : ∃ a t, own k (beginM (midM nS nC m)) = a :: t ∧ (t1 ≤ a → a + B ≤ mg m 5 + 1) := by
  obtain ⟨u, h1, h2⟩ := h.ok hB
  exact fnB_waitL h1 hs h2 hz
end LWGS
