/-! Bounds: the latest acknowledgments and the minutes of a sender, with their times -/
/-- an entry: arrival, ghost time (not behind it), delay; fa: time of the first acknowledgment of a minute -/
def SF (now ka tq T0 : Int) (L : List EnF) (fa : Int → Int) (f : Int → Option Int) (la : List Int) : Prop :=
  la = L.map (fun e => e.2.2) ∧ L.Pairwise (fun a b => b.1 ≤ a.1 ∧ (tq < a.2.1 → b.2.1 - b.2.2 ≤ a.2.1 - a.2.2)) ∧ (∀ e ∈ L, e.1 ≤ now ∧ e.2.1 ≤ e.1 ∧ e.2.1 - e.2.2 ≤ ka) ∧ (∀ e ∈ L, ∀ v, f (e.1 / 200) = some v → v ≤ e.2.2) ∧ (∀ e M, L = e :: M → f (e.1 / 200) ≠ none ∧ ∀ j v, f j = some v → j ≤ e.1 / 200) ∧ (L = [] → ∀ j, f j = none) ∧ ∀ j v, f j = some v → fa j - v ≤ ka ∧ fa j ≤ now ∧ (now ≤ tq → fa j ≤ T0)
def tN (tq T0 now : Int) : Int := if now ≤ tq then T0 else now
def ackL (tq T0 now d : Int) (L : List EnF) : List EnF := ((now, tN tq T0 now, d) :: L).take 4
def ackF (tq T0 now : Int) (f : Int → Option Int) (fa : Int → Int) : Int → Int := if f (now / 200) = none then (fun j => if j = now / 200 then tN tq T0 now else fa j) else fa
theorem SF.nxt {now ka tq T0 : Int} {L : List EnF} {fa : Int → Int} {f : Int → Option Int} {la : List Int} (h : SF now ka tq T0 L fa f la) : SF (now + 1) ka tq T0 L fa f la := by
  obtain ⟨h1, h2, h3, h4, h5, h6, h7⟩ := h
  refine ⟨h1, h2, fun e he => ?_, h4, h5, h6, fun j v hj => ?_⟩
  · have := h3 e he
    omega
  · obtain ⟨a, b, c⟩ := h7 j v hj
    exact ⟨a, by omega, fun z => c (by omega)⟩
theorem div200 {a b : Int} (h : a ≤ b) : a / 200 ≤ b / 200 := by omega
theorem omin_le {a : Option Int} {d v : Int} (h : omin a (some d) = some v) : v ≤ d ∧ (∀ w, a = some w → v ≤ w) ∧ (v = d ∨ a = some v) := by
  cases a with
  | none =>
    have : d = v := Option.some.inj h
    subst this
    exact ⟨Int.le_refl _, fun w hw => (by cases hw), Or.inl rfl⟩
  | some w =>
    have h : some (if d < w then d else w) = some v := h
    have h := Option.some.inj h
    by_cases q : d < w
    · rw [if_pos q] at h
      subst h
      exact ⟨Int.le_refl _, fun w2 hw => by cases hw; omega, Or.inl rfl⟩
    · rw [if_neg q] at h
      subst h
      exact ⟨by omega, fun w2 hw => by cases hw; omega, Or.inr rfl⟩
theorem omin_ne {a : Option Int} {d : Int} : omin a (some d) ≠ none := by
  cases a <;> simp [omin]
/-- an acknowledgment enters -/
theorem SF.ack {now ka k2 tq T0 d : Int} {L : List EnF} {fa : Int → Int} {f : Int → Option Int} {la : List Int} (h : SF now ka tq T0 L fa f la) (h0 : T0 ≤ now) (hT : T0 ≤ tq) (hn : tq < now → ka ≤ k2 ∧ k2 = now - d) (hw : now ≤ tq → k2 = ka ∧ T0 ≤ ka + d) :
    SF now k2 tq T0 (ackL tq T0 now d L) (ackF tq T0 now f fa) (fun j => if j = now / 200 then omin (f (now / 200)) (some d) else f j) ((d :: la).take 4) := by
  obtain ⟨h1, h2, h3, h4, h5, h6, h7⟩ := h
  have hk : ka ≤ k2 := by
    by_cases q : now ≤ tq
    · have := hw q
      omega
    · exact (hn (by omega)).1
  have ht : tN tq T0 now ≤ now ∧ tN tq T0 now - d ≤ k2 ∧ (tq < tN tq T0 now → tq < now ∧ tN tq T0 now = now) := by
    unfold tN
    by_cases q : now ≤ tq
    · rw [if_pos q]
      have := hw q
      exact ⟨h0, by omega, fun z => by omega⟩
    · rw [if_neg q]
      have := hn (by omega)
      exact ⟨Int.le_refl _, by omega, fun z => ⟨by omega, rfl⟩⟩
  -- an old entry of this minute: the minute is there
  have hold : ∀ e ∈ L, e.1 / 200 = now / 200 → f (now / 200) ≠ none := by
    intro e he q
    cases hL : L with
    | nil => rw [hL] at he; cases he
    | cons x M =>
      have hx := h5 x M hL
      have h2' := h2
      rw [hL, List.pairwise_cons] at h2'
      have e1 : e.1 ≤ x.1 := by
        rw [hL] at he
        rcases List.mem_cons.mp he with w | w
        · rw [w]; exact Int.le_refl _
        · exact (h2'.1 e w).1
      have e2 := (h3 x (by rw [hL]; exact List.mem_cons_self)).1
      have d1 := div200 e1
      have d2 := div200 e2
      have : x.1 / 200 = now / 200 := by omega
      rw [← this]
      exact hx.1
  refine ⟨?_, ?_, ?_, ?_, ?_, ?_, ?_⟩
  · unfold ackL
    rw [List.map_take, h1]
    rfl
  · unfold ackL
    refine List.Pairwise.sublist (List.take_sublist _ _) ?_
    rw [List.pairwise_cons]
    refine ⟨fun b hb => ⟨(h3 b hb).1, fun hq => ?_⟩, h2⟩
    have hq : tq < tN tq T0 now := hq
    have q := ht.2.2 hq
    have := h3 b hb
    have := hn q.1
    show b.2.1 - b.2.2 ≤ tN tq T0 now - d
    omega
  · intro e he
    unfold ackL at he
    have he := List.mem_of_mem_take he
    rcases List.mem_cons.mp he with w | w
    · rw [w]
      exact ⟨Int.le_refl _, ht.1, ht.2.1⟩
    · have := h3 e w
      omega
  · intro e he v hv
    unfold ackL at he
    have he := List.mem_of_mem_take he
    rcases List.mem_cons.mp he with w | w
    · rw [w] at hv ⊢
      dsimp only at hv ⊢
      rw [if_pos rfl] at hv
      exact (omin_le hv).1
    · by_cases q : e.1 / 200 = now / 200
      · dsimp only at hv
        rw [if_pos q] at hv
        have z := hold e w q
        cases hf : f (now / 200) with
        | none => exact absurd hf z
        | some u =>
          have a := (omin_le hv).2.1 u hf
          have b := h4 e w u (by rw [q]; exact hf)
          omega
      · dsimp only at hv
        rw [if_neg q] at hv
        exact h4 e w v hv
  · intro e M hL
    unfold ackL at hL
    rw [List.take_succ_cons] at hL
    have e1 : (now, tN tq T0 now, d) = e := (List.cons.inj hL).1
    subst e1
    dsimp only
    rw [if_pos rfl]
    refine ⟨omin_ne, fun j v hj => ?_⟩
    by_cases q : j = now / 200
    · omega
    · rw [if_neg q] at hj
      cases hL2 : L with
      | nil => have := h6 hL2 j; rw [this] at hj; cases hj
      | cons x M2 =>
        have a := (h5 x M2 hL2).2 j v hj
        have b := (h3 x (by rw [hL2]; exact List.mem_cons_self)).1
        have := div200 b
        omega
  · intro hL
    unfold ackL at hL
    rw [List.take_succ_cons] at hL
    cases hL
  · intro j v hj
    dsimp only at hj
    by_cases q : j = now / 200
    · rw [if_pos q] at hj
      have o := omin_le hj
      unfold ackF
      cases hf : f (now / 200) with
      | none =>
        rw [if_pos rfl, if_pos q]
        have : v = d := by
          rcases o.2.2 with w | w
          · exact w
          · rw [hf] at w; cases w
        rw [this]
        refine ⟨ht.2.1, ht.1, fun z => ?_⟩
        unfold tN
        rw [if_pos z]
        exact Int.le_refl _
      | some u =>
        rw [if_neg (by simp)]
        obtain ⟨a, b, e⟩ := h7 (now / 200) u hf
        rw [q]
        refine ⟨?_, b, e⟩
        rcases o.2.2 with w | w
        · rw [w]
          by_cases z : now ≤ tq
          · have := e z
            have := hw z
            omega
          · have := hn (by omega)
            omega
        · rw [hf] at w
          have : u = v := Option.some.inj w
          omega
    · rw [if_neg q] at hj
      have := h7 j v hj
      unfold ackF
      split
      · dsimp only
        rw [if_neg q]
        exact ⟨by omega, this.2⟩
      · exact ⟨by omega, this.2⟩
/-- minutes dropped at a slow-down's end -/
theorem SF.only {now ka tq T0 : Int} {L : List EnF} {fa : Int → Int} {f : Int → Option Int} {la : List Int} (h : SF now ka tq T0 L fa f la) : SF now ka tq T0 L fa (onlyM f (now / 200)) la := by
  obtain ⟨h1, h2, h3, h4, h5, h6, h7⟩ := h
  unfold onlyM
  by_cases q : (f (now / 200)).isSome = true
  · rw [if_pos q]
    have sub : ∀ j v, (if j = now / 200 then f j else none) = some v → f j = some v ∧ j = now / 200 := by
      intro j v hj
      by_cases z : j = now / 200
      · rw [if_pos z] at hj; exact ⟨hj, z⟩
      · rw [if_neg z] at hj; cases hj
    refine ⟨h1, h2, h3, fun e he v hv => h4 e he v (sub _ v hv).1, fun e M hL => ?_, fun hL j => ?_, fun j v hj => h7 j v (sub j v hj).1⟩
    · obtain ⟨a, b⟩ := h5 e M hL
      cases hf : f (now / 200) with
      | none => rw [hf] at q; cases q
      | some u =>
        have c := b _ u hf
        have d := div200 (h3 e (by rw [hL]; exact List.mem_cons_self)).1
        have g : e.1 / 200 = now / 200 := by omega
        refine ⟨?_, fun j v hj => ?_⟩
        · dsimp only
          rw [if_pos g]
          exact a
        · have := (sub j v hj).2
          omega
    · have := h6 hL j
      dsimp only
      rw [this]
      split <;> rfl
  · rw [if_neg q]
    exact ⟨h1, h2, h3, h4, h5, h6, h7⟩
