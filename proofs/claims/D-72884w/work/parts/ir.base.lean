/-! Bounds: the base argument: a negative acknowledgment behind one that was not has a far entry -/
/-- minutes dropped are older than all that are kept -/
def ND (L : List EnF) (f : Int → Option Int) : Prop := ∀ e ∈ L, f (e.1 / 200) = none → ∀ j v, f j = some v → e.1 / 200 < j
/-- every entry lies above some minute that is not older than jm -/
def NB (L : List EnF) (f : Int → Option Int) (jm : Int) : Prop := ∀ e ∈ L, ∃ j v, f j = some v ∧ v ≤ e.2.2 ∧ jm ≤ j
/-- the first c entries came in at yt or later -/
def LC (L : List EnF) (c : Nat) (yt : Int) : Prop := ∀ e ∈ L.take c, yt ≤ e.1
theorem ackL_mem {tq T0 now d : Int} {L : List EnF} {e : EnF} (h : e ∈ ackL tq T0 now d L) : e = (now, tN tq T0 now, d) ∨ e ∈ L := by
  unfold ackL at h
  exact List.mem_cons.mp (List.mem_of_mem_take h)
theorem ND.ack {now ka tq T0 d : Int} {L : List EnF} {fa : Int → Int} {f : Int → Option Int} {la : List Int} (h : ND L f) (hS : SF now ka tq T0 L fa f la) : ND (ackL tq T0 now d L) (fun j => if j = now / 200 then omin (f (now / 200)) (some d) else f j) := by
  intro e he hf j v hj
  rcases ackL_mem he with q | q
  · rw [q] at hf
    dsimp only at hf
    rw [if_pos rfl] at hf
    exact absurd hf omin_ne
  · have he1 := div200 (hS.2.2.1 e q).1
    dsimp only at hf hj
    by_cases z : e.1 / 200 = now / 200
    · rw [if_pos z] at hf
      exact absurd hf omin_ne
    · rw [if_neg z] at hf
      by_cases y : j = now / 200
      · omega
      · rw [if_neg y] at hj
        exact h e q hf j v hj
theorem ND.only {now ka tq T0 : Int} {L : List EnF} {fa : Int → Int} {f : Int → Option Int} {la : List Int} (h : ND L f) (hS : SF now ka tq T0 L fa f la) : ND L (onlyM f (now / 200)) := by
  unfold onlyM
  by_cases q : (f (now / 200)).isSome = true
  · rw [if_pos q]
    intro e he hf j v hj
    have he1 := div200 (hS.2.2.1 e he).1
    dsimp only at hf hj
    by_cases y : j = now / 200
    · by_cases z : e.1 / 200 = now / 200
      · rw [if_pos z] at hf
        rw [if_pos y] at hj
        rw [z] at hf
        rw [y] at hj
        rw [hf] at hj
        cases hj
      · omega
    · rw [if_neg y] at hj
      cases hj
  · rw [if_neg q]
    exact h
theorem NB.ack {now tq T0 d jm : Int} {L : List EnF} {f : Int → Option Int} (h : NB L f jm) (hj : jm ≤ now / 200) : NB (ackL tq T0 now d L) (fun j => if j = now / 200 then omin (f (now / 200)) (some d) else f j) jm := by
  intro e he
  cases ho : omin (f (now / 200)) (some d) with
  | none => exact absurd ho omin_ne
  | some v =>
    have o := omin_le ho
    rcases ackL_mem he with q | q
    · refine ⟨now / 200, v, ?_, by rw [q]; exact o.1, hj⟩
      dsimp only
      rw [if_pos rfl]
    · obtain ⟨j, w, h1, h2, h3⟩ := h e q
      by_cases y : j = now / 200
      · refine ⟨now / 200, v, ?_, ?_, hj⟩
        · dsimp only
          rw [if_pos rfl]
        · rw [y] at h1
          have := o.2.1 w h1
          omega
      · refine ⟨j, w, ?_, h2, h3⟩
        dsimp only
        rw [if_neg y]
        exact h1
theorem LC.ack {now tq T0 d yt : Int} {L : List EnF} {c : Nat} (h : LC L c yt) (hy : yt ≤ now) : LC (ackL tq T0 now d L) (c + 1) yt := by
  intro e he
  unfold ackL at he
  rw [List.take_succ_cons, List.take_succ_cons] at he
  rcases List.mem_cons.mp he with q | q
  · rw [q]
    exact hy
  · rw [List.take_take] at q
    exact h e (List.take_subset_take_left L (by omega) q)
theorem LC.mono {L : List EnF} {c c2 : Nat} {yt : Int} (h : LC L c yt) (hc : c2 ≤ c) : LC L c2 yt := fun e he => h e (List.take_subset_take_left L hc he)
/-- the far entry: five minutes back -/
theorem neg_far {now ka tq T0 jm : Int} {L : List EnF} {fa : Int → Int} {s : SdM} {e : EnF} (hS : SF now ka tq T0 L fa s.2.1 s.2.2) (hN : ND L s.2.1) (hB : NB L s.2.1 jm) (he : e ∈ L) (hl : ∀ j v, now / 200 - 4 ≤ j → s.2.1 j = some v → e.2.2 < v) : e.1 / 200 < now / 200 - 4 ∧ jm < now / 200 - 4 := by
  obtain ⟨j, v, h1, h2, h3⟩ := hB e he
  have hj : j < now / 200 - 4 := by
    apply Decidable.byContradiction
    intro z
    have := hl j v (by omega) h1
    omega
  refine ⟨?_, by omega⟩
  cases hf : s.2.1 (e.1 / 200) with
  | none =>
    have := hN e he hf j v h1
    omega
  | some w =>
    have a := hS.2.2.2.1 e he w hf
    apply Decidable.byContradiction
    intro z
    have := hl _ w (by omega) hf
    omega
