/-! Bounds, levels by squares: setters -/
/-- all delays of a sender lie in a range -/
def AL (lo hi : Int) (s : SdM) (l : List NtM) : Prop := ∀ N : Nat, ∃ c, 4 ≤ c ∧ RN (-(N : Int)) lo hi c s l
section ALS
variable {lo hi lo2 hi2 : Int} {s s2 : SdM} {l : List NtM}
theorem AL.wide (h : AL lo hi s l) (h1 : lo2 ≤ lo) (h2 : hi ≤ hi2) : AL lo2 hi2 s l := by
  intro N
  obtain ⟨c, c4, a, b, d⟩ := h N
  refine ⟨c, c4, fun x hx => ?_, fun j v q w => ?_, fun n hn ha ht => ?_⟩
  · have := a x hx
    omega
  · have := b j v q w
    omega
  · have := d n hn ha ht
    omega
theorem AL.same (h : AL lo hi s l) (h2 : s2.2 = s.2) : AL lo hi s2 l := by
  intro N
  obtain ⟨c, c4, a⟩ := h N
  exact ⟨c, c4, a.same h2⟩
theorem AL.dlo (h : AL lo hi s l) (h4 : s.2.2.length ≤ 4) (hl : -2000000 ≤ lo) : DLo s l := by
  refine ⟨fun j v hv => ?_, fun x hx => ?_, fun n hn ha => ?_⟩
  · obtain ⟨c, -, -, b, -⟩ := h (-(200 * j)).toNat
    have := b j v (by omega) hv
    omega
  · obtain ⟨c, c4, a, -, -⟩ := h 0
    have := a x (by rw [List.take_of_length_le (by omega)]; exact hx)
    omega
  · obtain ⟨c, -, -, -, d⟩ := h (-n.1).toNat
    have := d n hn ha (by omega)
    omega
/-- a sender without entries -/
theorem AL.none (h1 : s.2.2 = []) (h2 : ∀ j, s.2.1 j = none) (h3 : l = []) : AL lo hi s l := by
  intro N
  refine ⟨4, Nat.le_refl _, fun x hx => ?_, fun j v _ hv => ?_, fun n hn => ?_⟩
  · rw [h1] at hx
    simp at hx
  · rw [h2 j] at hv
    cases hv
  · rw [h3] at hn
    cases hn
end ALS
section ALM
variable {nS nC k : Nat} {m m' : MS} {F Q Z : Int}
theorem AL.tick {lo hi : Nat → Int} (hk : k < nS) (h4 : nS ≤ 4) (h : AL (lo k) (hi k) (ms m k) (vwK k m).2.2) (h0 : 0 ≤ mg m 5 + 1) (hf : frOK nS nC m lo hi) : AL (lo k) (hi k) (ms (tickM nS nC m) k) (vwK k (tickM nS nC m)).2.2 := by
  intro N
  obtain ⟨c, c4, a⟩ := h N
  refine ⟨_, ?_, a.tick (nC := nC) hk h4 (by omega) (fun hz x t hx => hf k hk hz x t hx)⟩
  omega
theorem AL.run {lo hi : Nat → Int} (hk : k < nS) (h4 : nS ≤ 4) (h : AL (lo k) (hi k) (ms m k) (vwK k m).2.2) (h0 : 0 ≤ mg m 5 + 1) : ∀ T : Nat, (∀ i, i < T → frOK nS nC (tkN nS nC i m) lo hi) → AL (lo k) (hi k) (ms (tkN nS nC T m) k) (vwK k (tkN nS nC T m)).2.2 := by
  intro T
  induction T with
  | zero => intro _; exact h
  | succ T ih =>
    intro hf
    have g5 := tkN_5 (nS := nS) (nC := nC) (m := m) T
    exact AL.tick hk h4 (ih (fun i hi => hf i (by omega))) (by rw [g5]; omega) (hf T (by omega))
/-- any setter -/
theorem LQ1.set {tq1 lo1 hi1 lo2 hi2 : Int} (h : LQ1 F Q m tq1 lo1 hi1 k Z) (hA : AL lo1 hi1 (ms m k) (vwK k m).2.2) (hlo : -2000000 ≤ lo1) (hv : (vwK k m').2 = (vwK k m).2) (e5 : mg m' 5 = mg m 5) (h4 : SF4 (ms m k) (ms m' k)) (h01 : (1 ≤ (ms m' k).1 0 ∧ (ms m' k).1 0 ≤ 200) ∧ 1 ≤ (ms m' k).1 1 ∧ (ms m' k).1 1 ≤ 8) (ho : ∀ x ∈ (vwK k m).2.1, 0 ≤ x) (hl : ∀ n ∈ (vwK k m).2.2, n.1 ≤ mg m 5 + 200) (h0 : 0 ≤ mg m 5) (hc : -1000 ≤ mg m' 3 - (ms m' k).1 2) (hd : -1000 ≤ mg m' 2 + (ms m' k).1 2) (hw1 : lo2 ≤ lo1) (hw2 : hi1 ≤ hi2) : LQ1 F Q m' (mg m 5 + 200) lo2 hi2 k Z := by
  obtain ⟨g, jg, ts, i, c1, c2, c3⟩ := h
  have e : vwK k m' = (ms m' k, (vwK k m).2) := by
    rw [← hv]
    rfl
  have len : (ms m k).2.2.length ≤ 4 := by
    have a1 := c1.1.2.2.1.1
    have a2 := c1.2.2.1.1
    have a1 : (ms m k).2.2 = g.2.1.map (fun e => e.2.2) := a1
    rw [a1, List.length_map]
    exact a2
  have r := CA.reset (c2 := mg m' 3 - (ms m' k).1 2) (dl2 := mg m' 2 + (ms m' k).1 2) (R2 := mg m' 2 + mg m' 3) (lo2 := lo2) (hi2 := hi2) (s2 := ms m' k) c1 (hA.dlo len hlo) h4 h01 ho hl h0 hc hd (c1.2.1.wide hw1 hw2)
  obtain ⟨m0, m1, m2⟩ := rs_mn (now := mg m 5) (L := g.2.1)
  refine ⟨rsG g, jg, ts, i, ?_, ?_, ?_⟩
  · rw [e, e5]
    exact r
  · rw [e, e5]
    exact c2
  · rw [e, e5]
    have ep : nvP (mg m 5) jg (rsG g).2.1 = nvP (mg m 5) jg g.2.1 := by
      show nvP (mg m 5) jg (g.2.1.map (fun e => (e.1, min e.1 T0C, e.2.2))) = _
      unfold nvP
      rw [m0, m1, m2]
    have el : lvE (ms m' k) = lvE (ms m k) := lvE_set h4
    unfold ZE PT lvF at c3 ⊢
    rw [ep]
    dsimp only
    have c3 : 25 * max (lvE (ms m k)) F + (12800 * (nvP (mg m 5) jg g.2.1 : Int) + cS0 (agP (mg m 5) jg) + 0 * wcP (mg m 5) tq1 jg + 128 * (mg m 5 % 200)) ≤ Z := c3
    rw [el]
    omega
end ALM
