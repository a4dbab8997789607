/-! Bounds: what every state is known to have (settings in range, ghosts, waits), over ticks -/
theorem slow_now {s : SdM} {t iv : Int} (h : (slowM s t iv).1 11 ≠ -1) : t < (slowM s t iv).1 11 := by
  unfold slowM at h ⊢
  have he : (endsM s t).1 11 ≠ -1 → t < (endsM s t).1 11 := by
    unfold endsM
    split
    · rename_i q
      intro z
      exact absurd q z
    · split
      · rename_i q
        intro _
        exact q
      · intro z
        exact absurd (by simp [iup]) z
  unfold beginsM at h ⊢
  split
  · simp only [iup]
    simp
    omega
  · rename_i q
    rw [if_neg q] at h
    exact he h
def offF (m : MS) : Nat → Int := fun k => (ms m k).1 2
def offH (m : MS) : Nat → Int := fun k => (ms m k).1 2 + 1320
/-- settings in range, queue short, waits not above 1220, ghosts, what is on its way comes in within 200 ticks -/
def BS (nS : Nat) (m : MS) : Prop := nS ≤ 4 ∧ WQ m ∧ QL m ∧ mg m 0 ≤ 60 ∧ (1 ≤ mg m 1 ∧ mg m 1 ≤ 20) ∧ (0 ≤ mg m 2 ∧ mg m 2 ≤ 100) ∧ (1 ≤ mg m 3 ∧ mg m 3 ≤ 100) ∧ 0 ≤ mg m 5 ∧ GS nS m (offF m) (offF m) (offH m) ∧ ∀ k, k < nS → ∀ n ∈ (vwK k m).2.2, n.1 ≤ mg m 5 + 200
section BSS
variable {nS nC : Nat} {m : MS} {lo1 lo2 hi : Nat → Int}
theorem GS.own (h : GS nS m lo1 lo2 hi) : ∀ k, k < nS → ∀ x ∈ own k m, x ≤ mg m 5 := by
  intro k hk x hx
  obtain ⟨g, hG, -⟩ := h k hk
  exact (hG.1.1.2.1.2.1 x hx).1
theorem GS.tick (h4 : nS ≤ 4) (h : GS nS m lo1 lo2 hi) (h0 : 0 ≤ mg m 5 + 1) (hnow : mg m 5 + 1 ≤ tqB) (hR1 : 1 ≤ mg m 2 + mg m 3) (hf : frOK nS nC m lo2 hi) : GS nS (tickM nS nC m) lo1 lo2 hi := by
  intro k hk
  obtain ⟨g, hI, hs⟩ := h k hk
  obtain ⟨bs, z, h1, h2, h3, h5, h6, h7⟩ := tick_vo (nC := nC) hk h4 (m := m)
  obtain ⟨g2, G1, G2⟩ := GBq.tick (iv := mg m 4) hI h0 hnow hR1 rfl rfl rfl h1 h6 (fun hz x t hx => by
    rw [h7] at hx
    rw [h5] at hz
    exact hf k hk hz x t hx)
  have e2' := tick_s2 (nC := nC) hk h4 (m := m)
  have e11 : (ms (tickM nS nC m) k).1 11 = (slowM (hndV (mg m 5 + 1) (vwK k m)).1 (mg m 5 + 1) (mg m 4)).1 11 := by
    have : (vwK k (tickM nS nC m)).1.1 11 = (slowM (hndV (mg m 5 + 1) (vwK k m)).1 (mg m 5 + 1) (mg m 4)).1 11 := by
      rw [h2, fin_s, snd_o (by decide) (by decide)]
    exact this
  rw [← h2] at G2
  refine ⟨g2, ?_, ?_⟩
  · rw [tick_g5, tick_g (by decide) (by decide) (by decide) (by decide) (by decide) (by decide), tick_g (by decide) (by decide) (by decide) (by decide) (by decide) (by decide), e2']
    exact G2
  · rw [e11, tick_g5]
    exact slow_now
theorem arr_tick {k : Nat} (hk : k < nS) (h4 : nS ≤ 4) : ∀ n ∈ (vwK k (tickM nS nC m)).2.2, n ∈ (vwK k m).2.2 ∨ n.1 = mg m 5 + 1 + mg m 2 + mg m 3 := by
  obtain ⟨bs, z, h1, h2, h3, h5, h6, h7⟩ := tick_vo (nC := nC) hk h4 (m := m)
  intro n hn
  rw [h2] at hn
  rcases fin_mem hn with w | w
  · rcases snd_mem _ _ _ w with y | y
    · have y : n ∈ (vwK k m).2.2.filter (fun n => decide (n.1 ≠ mg m 5 + 1)) := y
      exact Or.inl (List.mem_filter.mp y).1
    · exact Or.inr y.1
  · exact Or.inr w.1
theorem arr_run {k : Nat} (hk : k < nS) (h4 : nS ≤ 4) : ∀ T : Nat, ∀ n ∈ (vwK k (tkN nS nC T m)).2.2, n ∈ (vwK k m).2.2 ∨ n.1 ≤ mg m 5 + T + (mg m 2 + mg m 3) := by
  intro T
  induction T with
  | zero => intro n hn; exact Or.inl hn
  | succ T ih =>
    have g2 := tkN_g (nS := nS) (nC := nC) (m := m) (i := 2) (by decide) (by decide) (by decide) (by decide) (by decide) (by decide) T
    have g3 := tkN_g (nS := nS) (nC := nC) (m := m) (i := 3) (by decide) (by decide) (by decide) (by decide) (by decide) (by decide) T
    have g5 := tkN_5 (nS := nS) (nC := nC) (m := m) T
    intro n hn
    have et : tkN nS nC (T + 1) m = tickM nS nC (tkN nS nC T m) := rfl
    rw [et] at hn
    rcases arr_tick (nC := nC) hk h4 n hn with w | w
    · rcases ih n w with y | y
      · exact Or.inl y
      · right
        push_cast
        omega
    · right
      rw [g5, g2, g3] at w
      push_cast
      omega
theorem off_run (h4 : nS ≤ 4) : ∀ (T k : Nat), k < nS → (ms (tkN nS nC T m) k).1 2 = (ms m k).1 2 := by
  intro T
  induction T with
  | zero => intro k _; rfl
  | succ T ih => intro k hk; exact (tick_s2 (nC := nC) hk h4).trans (ih k hk)
theorem GS.ext {l1 l2 h1 : Nat → Int} (h : GS nS m lo1 lo2 hi) (e1 : ∀ k, k < nS → l1 k = lo1 k) (e2 : ∀ k, k < nS → l2 k = lo2 k) (e3 : ∀ k, k < nS → h1 k = hi k) : GS nS m l1 l2 h1 := by
  intro k hk
  rw [e1 k hk, e2 k hk, e3 k hk]
  exact h k hk
theorem frOK.ext {l2 h1 : Nat → Int} (h : frOK nS nC m lo2 hi) (e2 : ∀ k, k < nS → l2 k = lo2 k) (e3 : ∀ k, k < nS → h1 k = hi k) : frOK nS nC m l2 h1 := by
  intro k hk
  rw [e2 k hk, e3 k hk]
  exact h k hk
/-- over ticks -/
theorem BS.tick (h : BS nS m) (hnow : mg m 5 + 1 ≤ tqB) : BS nS (tickM nS nC m) ∧ frOK nS nC m (offF m) (offH m) := by
  obtain ⟨h4, hw, hq, hc, hs, hf, hb, h0, hG, ha⟩ := h
  have f : frOK nS nC m (offF m) (offH m) := frOK_w (nC := nC) h4 hw hc hs hG.own hf
  have g0 := tick_g (nS := nS) (nC := nC) (m := m) (i := 0) (by decide) (by decide) (by decide) (by decide) (by decide) (by decide)
  have g1 := tick_g (nS := nS) (nC := nC) (m := m) (i := 1) (by decide) (by decide) (by decide) (by decide) (by decide) (by decide)
  have g2 := tick_g (nS := nS) (nC := nC) (m := m) (i := 2) (by decide) (by decide) (by decide) (by decide) (by decide) (by decide)
  have g3 := tick_g (nS := nS) (nC := nC) (m := m) (i := 3) (by decide) (by decide) (by decide) (by decide) (by decide) (by decide)
  have g5 := tick_g5 (nS := nS) (nC := nC) (m := m)
  have e2 : ∀ k, k < nS → (ms (tickM nS nC m) k).1 2 = (ms m k).1 2 := fun k hk => tick_s2 hk h4
  refine ⟨⟨h4, hw.run (nS := nS) (nC := nC) hc hs 1, hq.run (nS := nS) (nC := nC) hc 1, by rw [g0]; exact hc, by rw [g1]; exact hs, by rw [g2]; exact hf, by rw [g3]; exact hb, by rw [g5]; omega, ?_, ?_⟩, f⟩
  · exact (GS.tick (nC := nC) h4 hG (by omega) hnow (by omega) f).ext (fun k hk => e2 k hk) (fun k hk => e2 k hk) (fun k hk => by unfold offH; rw [e2 k hk])
  · intro k hk n hn
    rw [g5]
    rcases arr_tick (nC := nC) hk h4 n hn with w | w
    · have := ha k hk n w
      omega
    · omega
theorem BS.run (h : BS nS m) : ∀ T : Nat, mg m 5 + T ≤ tqB → BS nS (tkN nS nC T m) := by
  intro T
  induction T with
  | zero => intro _; exact h
  | succ T ih =>
    intro hT
    push_cast at hT
    exact ((ih (by omega)).tick (by rw [tkN_5]; omega)).1
theorem BS.frs (h : BS nS m) (T : Nat) (hT : mg m 5 + T + 1 ≤ tqB) : frOK nS nC (tkN nS nC T m) (offF m) (offH m) := by
  have e := off_run (nC := nC) (m := m) h.1 T
  exact ((h.run (nC := nC) T (by omega)).tick (nC := nC) (by rw [tkN_5]; omega)).2.ext (fun k hk => (e k hk).symm) (fun k hk => by unfold offH; rw [e k hk])
theorem BS.gs (h : BS nS m) (T : Nat) (hT : mg m 5 + T ≤ tqB) : GS nS (tkN nS nC T m) (offF m) (offF m) (offH m) := by
  have e := off_run (nC := nC) (m := m) h.1 T
  exact (h.run (nC := nC) T hT).2.2.2.2.2.2.2.2.1.ext (fun k hk => (e k hk).symm) (fun k hk => (e k hk).symm) (fun k hk => by unfold offH; rw [e k hk])
theorem BS.own (h : BS nS m) (T : Nat) (hT : mg m 5 + T ≤ tqB) : ∀ k, k < nS → ∀ x ∈ own k (tkN nS nC T m), x ≤ mg m 5 + T := by
  have := (h.gs (nC := nC) T hT).own
  rw [tkN_5] at this
  exact this
theorem BS.arr (h : BS nS m) (T : Nat) (hT : 200 ≤ T) : ∀ k, k < nS → ∀ n ∈ (vwK k (tkN nS nC T m)).2.2, n.1 ≤ mg m 5 + T + (mg m 2 + mg m 3) := by
  intro k hk n hn
  rcases arr_run (nC := nC) hk h.1 T n hn with w | w
  · have := h.2.2.2.2.2.2.2.2.2 k hk n w
    have a := h.2.2.2.2.2.1
    have b := h.2.2.2.2.2.2.1
    omega
  · exact w
end BSS
