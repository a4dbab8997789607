/-! Bounds, trials in mode H: what the relation of a state says of the pairs that a minute's boundary lies between -/
section PAIR
variable {pr : Nat → Nat → Bool} {ty : Int → Int → Nat} {now ka tq T0 d : Int} {L : List EnF} {fa : Int → Int} {f : Int → Option Int} {la : List Int}
theorem grel_pair (hS : SF now ka tq T0 L fa f la) (hg : grel (prR pr) ty now d L = false) {p : List EnF} {a b : EnF} {r : List EnF} (h : ackL tq T0 now d L = p ++ a :: b :: r) (h1 : b.1 / 200 < a.1 / 200) (h2 : now / 200 - 4 ≤ a.1 / 200) (h3 : p = [] → b.1 / 200 < now / 200 - 4) : ∀ e ∈ b :: r, pr (ty a.1 a.2.2) (ty e.1 e.2.2) = false := by
  have ml := mn_le hS
  unfold grel prR at hg
  rw [(ag_s hS).1, (ag_s hS).2] at hg
  simp only [Bool.or_eq_false_iff, Bool.and_eq_false_iff, decide_eq_false_iff_not] at hg
  obtain ⟨g1, g2, g3⟩ := hg
  unfold ackL at h
  match L, h, ml, g1, g2, g3 with
  | [], h, _, _, _, _ =>
    cases p with
    | nil => simp at h
    | cons x p => simp at h
  | [e0], h, ml, g1, g2, g3 =>
    have m0 : mn0 now [e0] = e0.1 / 200 := rfl
    have k0 : tyL ty [e0] 0 = ty e0.1 e0.2.2 := rfl
    cases p with
    | nil =>
      simp only [List.take_succ_cons, List.take_nil, List.take_zero, List.nil_append, List.cons.injEq] at h
      obtain ⟨ha, hb, hr⟩ := h
      subst ha; subst hb; subst hr
      have hb3 := h3 rfl
      have g : ¬ ¬ 5 ≤ agB now (mn0 now [e0]) := by
        rw [m0]; unfold agB; omega
      rcases g3 with z | z
      · exact absurd z g
      · intro e he
        rw [List.mem_singleton] at he
        rw [he]
        rw [k0] at z
        exact z.1
    | cons x p =>
      cases p with
      | nil => simp at h
      | cons y p => simp at h
  | [e0, e1], h, ml, g1, g2, g3 =>
    have m0 : mn0 now [e0, e1] = e0.1 / 200 := rfl
    have m1 : mn1 now [e0, e1] = e1.1 / 200 := rfl
    have k0 : tyL ty [e0, e1] 0 = ty e0.1 e0.2.2 := rfl
    have k1 : tyL ty [e0, e1] 1 = ty e1.1 e1.2.2 := rfl
    cases p with
    | nil =>
      simp only [List.take_succ_cons, List.take_nil, List.take_zero, List.nil_append, List.cons.injEq] at h
      obtain ⟨ha, hb, hr⟩ := h
      subst ha; subst hb; subst hr
      have hb3 := h3 rfl
      have g : ¬ ¬ 5 ≤ agB now (mn0 now [e0, e1]) := by
        rw [m0]; unfold agB; omega
      rcases g3 with z | z
      · exact absurd z g
      · intro e he
        rw [k0, k1] at z
        rcases List.mem_cons.mp he with w | w
        · rw [w]; exact z.1
        · rw [List.mem_singleton] at w
          rw [w]; exact z.2.1
    | cons x p =>
      cases p with
      | nil =>
        simp only [List.take_succ_cons, List.take_nil, List.take_zero, List.nil_append, List.cons_append, List.cons.injEq] at h
        obtain ⟨hx, ha, hb, hr⟩ := h
        subst ha; subst hb; subst hr
        have g : ¬ ¬ agB now (mn0 now [e0, e1]) < agB now (mn1 now [e0, e1]) := by
          rw [m0, m1]; rw [m0, m1] at ml; unfold agB; omega
        rcases g1 with z | z
        · exact absurd z g
        · intro e he
          rw [List.mem_singleton] at he
          rw [he]
          rw [k0, k1] at z
          exact z.1
      | cons y p =>
        cases p with
        | nil => simp at h
        | cons w p => simp at h
  | e0 :: e1 :: e2 :: M, h, ml, g1, g2, g3 =>
    have m0 : mn0 now (e0 :: e1 :: e2 :: M) = e0.1 / 200 := rfl
    have m1 : mn1 now (e0 :: e1 :: e2 :: M) = e1.1 / 200 := rfl
    have m2 : mn2 now (e0 :: e1 :: e2 :: M) = e2.1 / 200 := rfl
    have k0 : tyL ty (e0 :: e1 :: e2 :: M) 0 = ty e0.1 e0.2.2 := rfl
    have k1 : tyL ty (e0 :: e1 :: e2 :: M) 1 = ty e1.1 e1.2.2 := rfl
    have k2 : tyL ty (e0 :: e1 :: e2 :: M) 2 = ty e2.1 e2.2.2 := rfl
    cases p with
    | nil =>
      simp only [List.take_succ_cons, List.take_nil, List.take_zero, List.nil_append, List.cons.injEq] at h
      obtain ⟨ha, hb, hr⟩ := h
      subst ha; subst hb; subst hr
      have hb3 := h3 rfl
      have g : ¬ ¬ 5 ≤ agB now (mn0 now (e0 :: e1 :: e2 :: M)) := by
        rw [m0]; unfold agB; omega
      rcases g3 with z | z
      · exact absurd z g
      · intro e he
        rw [k0, k1, k2] at z
        rcases List.mem_cons.mp he with w | w
        · rw [w]; exact z.1
        · rcases List.mem_cons.mp w with v | v
          · rw [v]; exact z.2.1
          · rw [List.mem_singleton] at v
            rw [v]; exact z.2.2
    | cons x p =>
      cases p with
      | nil =>
        simp only [List.take_succ_cons, List.take_nil, List.take_zero, List.nil_append, List.cons_append, List.cons.injEq] at h
        obtain ⟨hx, ha, hb, hr⟩ := h
        subst ha; subst hb; subst hr
        have g : ¬ ¬ agB now (mn0 now (e0 :: e1 :: e2 :: M)) < agB now (mn1 now (e0 :: e1 :: e2 :: M)) := by
          rw [m0, m1]; rw [m0, m1] at ml; unfold agB; omega
        rcases g1 with z | z
        · exact absurd z g
        · intro e he
          rw [k0, k1, k2] at z
          rcases List.mem_cons.mp he with w | w
          · rw [w]; exact z.1
          · rw [List.mem_singleton] at w
            rw [w]; exact z.2
      | cons y p =>
        cases p with
        | nil =>
          simp only [List.take_succ_cons, List.take_nil, List.take_zero, List.nil_append, List.cons_append, List.cons.injEq] at h
          obtain ⟨hx, hy, ha, hb, hr⟩ := h
          subst ha; subst hb; subst hr
          have g : ¬ ¬ agB now (mn1 now (e0 :: e1 :: e2 :: M)) < agB now (mn2 now (e0 :: e1 :: e2 :: M)) := by
            rw [m1, m2]; rw [m0, m1, m2] at ml; unfold agB; omega
          rcases g2 with z | z
          · exact absurd z g
          · intro e he
            rw [List.mem_singleton] at he
            rw [he]
            rw [k1, k2] at z
            exact z
        | cons w p =>
          cases p with
          | nil => simp at h
          | cons v p => simp at h
/-- a depth level from a relation that does not hold -/
theorem DQ.of_rel {AW : Int → Int → Prop} {K : Int} (hS : SF now ka tq T0 L fa f la) (hA : ∀ e ∈ L, AW e.1 e.2.2) (hd : AW now d) (hg : grel (prR pr) ty now d L = false) (hK : ∀ t1 d1 t2 d2, AW t1 d1 → AW t2 d2 → pr (ty t1 d1) (ty t2 d2) = false → d1 - d2 + 1 ≤ K) : DQ K now (ackL tq T0 now d L) := by
  intro p a b r h h1 h2 h3 e he
  have hall : ∀ x ∈ ackL tq T0 now d L, AW x.1 x.2.2 := by
    intro x hx
    rcases List.mem_cons.mp (List.mem_of_mem_take hx) with q | q
    · rw [q]; exact hd
    · exact hA x q
  have a1 : AW a.1 a.2.2 := hall a (by rw [h]; exact List.mem_append_right _ List.mem_cons_self)
  have a2 : AW e.1 e.2.2 := hall e (by rw [h]; exact List.mem_append_right _ (List.mem_cons_of_mem _ he))
  exact hK _ _ _ _ a1 a2 (grel_pair hS hg h h1 h2 h3 e he)
theorem DQ.all {AW : Int → Int → Prop} {K : Int} (hA : ∀ e ∈ L, AW e.1 e.2.2) (hd : AW now d) (hK : ∀ t1 d1 t2 d2, AW t1 d1 → AW t2 d2 → d1 - d2 + 1 ≤ K) : DQ K now (ackL tq T0 now d L) := by
  intro p a b r h _ _ _ e he
  have hall : ∀ x ∈ ackL tq T0 now d L, AW x.1 x.2.2 := by
    intro x hx
    rcases List.mem_cons.mp (List.mem_of_mem_take hx) with q | q
    · rw [q]; exact hd
    · exact hA x q
  exact hK _ _ _ _ (hall a (by rw [h]; exact List.mem_append_right _ List.mem_cons_self)) (hall e (by rw [h]; exact List.mem_append_right _ (List.mem_cons_of_mem _ he)))
end PAIR
