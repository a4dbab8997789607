/-! Bounds: acknowledgments with queueing below zero; how far queueing may rise -/
theorem omin_two {a b : Option Int} {v : Int} (h : omin a b = some v) : (a = some v ∨ b = some v) ∧ (∀ w, a = some w → v ≤ w) ∧ ∀ w, b = some w → v ≤ w := by
  cases a with
  | none =>
    have h : b = some v := h
    subst h
    exact ⟨Or.inr rfl, fun w hw => (by cases hw), fun w hw => by cases hw; exact Int.le_refl _⟩
  | some x =>
    cases b with
    | none =>
      have h : some x = some v := h
      have h := Option.some.inj h
      subst h
      exact ⟨Or.inl rfl, fun w hw => (by cases hw; exact Int.le_refl _), fun w hw => (by cases hw)⟩
    | some y =>
      have h : some (if y < x then y else x) = some v := h
      have h := Option.some.inj h
      by_cases q : y < x
      · rw [if_pos q] at h
        subst h
        exact ⟨Or.inr rfl, fun w hw => (by cases hw; omega), fun w hw => (by cases hw; omega)⟩
      · rw [if_neg q] at h
        subst h
        exact ⟨Or.inl rfl, fun w hw => (by cases hw; omega), fun w hw => (by cases hw; omega)⟩
theorem omin_none {a b : Option Int} (h : omin a b = none) : a = none ∧ b = none := by
  cases a with
  | none => exact ⟨rfl, h⟩
  | some x =>
    cases b with
    | none => cases h
    | some y => cases h
theorem base_mem {f : Int → Option Int} {mi b : Int} (h : baseM f mi = some b) : (∃ j, mi - 4 ≤ j ∧ j ≤ mi ∧ f j = some b) ∧ ∀ j v, mi - 4 ≤ j → j ≤ mi → f j = some v → b ≤ v := by
  unfold baseM at h
  have h1 := omin_two h
  obtain ⟨c1, a1, b1⟩ := h1
  constructor
  · rcases c1 with z | z
    · obtain ⟨c2, a2, b2⟩ := omin_two z
      rcases c2 with y | y
      · obtain ⟨c3, a3, b3⟩ := omin_two y
        rcases c3 with x | x
        · obtain ⟨c4, a4, b4⟩ := omin_two x
          rcases c4 with w | w
          · exact ⟨mi - 4, by omega, by omega, w⟩
          · exact ⟨mi - 3, by omega, by omega, w⟩
        · exact ⟨mi - 2, by omega, by omega, x⟩
      · exact ⟨mi - 1, by omega, by omega, y⟩
    · exact ⟨mi, by omega, by omega, z⟩
  · -- least
    have low : ∀ (x y : Option Int) (u v : Int), (∀ w, omin x y = some w → b ≤ w) → (x = some v → b ≤ v) ∧ (y = some u → b ≤ u) := by
      intro x y u v hh
      cases hxy : omin x y with
      | none =>
        obtain ⟨e1, e2⟩ := omin_none hxy
        exact ⟨fun z => (by rw [e1] at z; cases z), fun z => (by rw [e2] at z; cases z)⟩
      | some w =>
        have hb := hh w hxy
        obtain ⟨-, p1, p2⟩ := omin_two hxy
        exact ⟨fun z => (by have := p1 v z; omega), fun z => (by have := p2 u z; omega)⟩
    intro j v hj1 hj2 hv
    have l4 := fun w => a1 w
    by_cases q0 : j = mi
    · subst q0
      exact b1 v hv
    · have l3 := fun w hw => (low (omin (omin (f (mi - 4)) (f (mi - 3))) (f (mi - 2))) (f (mi - 1)) v w l4).1 hw
      by_cases q1 : j = mi - 1
      · subst q1
        exact (low _ _ v 0 l4).2 hv
      · have l2 := fun w hw => (low (omin (f (mi - 4)) (f (mi - 3))) (f (mi - 2)) v w l3).1 hw
        by_cases q2 : j = mi - 2
        · subst q2
          exact (low _ _ v 0 l3).2 hv
        · by_cases q3 : j = mi - 3
          · subst q3
            exact (low _ _ v 0 l2).2 hv
          · have e : j = mi - 4 := by omega
            subst e
            exact (low _ _ 0 v l2).1 hv
theorem base_ex {f : Int → Option Int} {mi v : Int} (h : f mi = some v) : ∃ b, baseM f mi = some b := by
  cases hb : baseM f mi with
  | some b => exact ⟨b, rfl⟩
  | none =>
    unfold baseM at hb
    have := (omin_none hb).2
    rw [this] at h
    cases h
theorem lmin_mem : ∀ {l : List Int}, l ≠ [] → ∃ x ∈ l, lmin l = some x ∧ ∀ y ∈ l, x ≤ y := by
  intro l
  induction l with
  | nil => intro h; exact absurd rfl h
  | cons a l ih =>
    intro _
    by_cases q : l = []
    · subst q
      exact ⟨a, List.mem_cons_self, rfl, fun y hy => by rw [List.mem_singleton] at hy; omega⟩
    · obtain ⟨x, hx, hm, hl⟩ := ih q
      have e : lmin (a :: l) = omin (some a) (some x) := by
        show omin (some a) (lmin l) = _
        rw [hm]
      have e2 : omin (some a) (some x) = some (if x < a then x else a) := rfl
      by_cases z : x < a
      · refine ⟨x, List.mem_cons_of_mem _ hx, by rw [e, e2, if_pos z], fun y hy => ?_⟩
        rcases List.mem_cons.mp hy with w | w
        · omega
        · exact hl y w
      · refine ⟨a, List.mem_cons_self, by rw [e, e2, if_neg z], fun y hy => ?_⟩
        rcases List.mem_cons.mp hy with w | w
        · omega
        · have := hl y w
          omega
/-- the first one that is not kept, behind one that is -/
theorem split_kept {P : EnF → Prop} : ∀ (M : List EnF) (x e : EnF), P x → e ∈ M → ¬ P e → ∃ p a b r, x :: M = p ++ a :: b :: r ∧ P a ∧ ¬ P b ∧ e ∈ b :: r := by
  intro M
  induction M with
  | nil => intro x e _ he; cases he
  | cons y M ih =>
    intro x e hx he hne
    by_cases hy : P y
    · have he2 : e ∈ M := by
        rcases List.mem_cons.mp he with w | w
        · rw [w] at hne; exact absurd hy hne
        · exact w
      obtain ⟨p, a, b, r, h1, h2, h3, h4⟩ := ih y e hy he2 hne
      exact ⟨x :: p, a, b, r, by rw [h1]; rfl, h2, h3, h4⟩
    · exact ⟨[], x, y, M, rfl, hx, hy, he⟩
/-- queueing below zero: the first one of a minute lies among the latest, and the ones behind it lower -/
theorem SF.neg {now ka tq T0 : Int} {L : List EnF} {fa : Int → Int} {s : SdM} {x : EnF} {M : List EnF} (h : SF now ka tq T0 L fa s.2.1 s.2.2) (hL : L = x :: M) (hx : x.1 = now) (hq : queueM s (now / 200) < 0) :
    ∃ p a b r, L = p ++ a :: b :: r ∧ b.1 / 200 < a.1 / 200 ∧ (s.2.1 (b.1 / 200) = none ∨ b.1 / 200 < now / 200 - 4) ∧ (s.2.1 (a.1 / 200) ≠ none ∧ now / 200 - 4 ≤ a.1 / 200) ∧ ∃ e ∈ b :: r, - queueM s (now / 200) ≤ a.2.2 - e.2.2 ∧ (tq < a.2.1 → - queueM s (now / 200) ≤ a.2.1 - e.2.1) ∧ ∀ j v, now / 200 - 4 ≤ j → s.2.1 j = some v → e.2.2 < v := by
  obtain ⟨h1, h2, h3, h4, h5, h6, h7⟩ := h
  obtain ⟨hxk, hxl⟩ := h5 x M hL
  rw [hx] at hxk hxl
  cases hfx : s.2.1 (now / 200) with
  | none => exact absurd hfx hxk
  | some vx =>
    obtain ⟨b0, hb0⟩ := base_ex hfx
    have hla : s.2.2 ≠ [] := by rw [h1, hL]; simp
    obtain ⟨d, hd, hm, hl⟩ := lmin_mem hla
    have eq : queueM s (now / 200) = d - b0 := by
      unfold queueM
      rw [hm, hb0]
      rfl
    rw [eq] at hq ⊢
    have hbm := base_mem hb0
    rw [h1] at hd
    obtain ⟨e, heL, hed⟩ := List.mem_map.mp hd
    -- e is not kept
    have hne : ¬ (s.2.1 (e.1 / 200) ≠ none ∧ now / 200 - 4 ≤ e.1 / 200) := by
      intro z
      cases hfe : s.2.1 (e.1 / 200) with
      | none => exact z.1 hfe
      | some v =>
        have a1 := h4 e heL v hfe
        have a2 := hxl _ v hfe
        have a3 := hbm.2 _ v z.2 a2 hfe
        omega
    have hxP : s.2.1 (x.1 / 200) ≠ none ∧ now / 200 - 4 ≤ x.1 / 200 := by
      rw [hx, hfx]
      exact ⟨by simp, by omega⟩
    have heM : e ∈ M := by
      rw [hL] at heL
      rcases List.mem_cons.mp heL with w | w
      · rw [w] at hne; exact absurd hxP hne
      · exact w
    obtain ⟨p, a, b, r, e1, e2, e3, e4⟩ := split_kept (P := fun y => s.2.1 (y.1 / 200) ≠ none ∧ now / 200 - 4 ≤ y.1 / 200) M x e hxP heM hne
    rw [← hL] at e1
    have hp := h2
    rw [e1, List.pairwise_append] at hp
    have hp2 := hp.2.1
    rw [List.pairwise_cons] at hp2
    have hab := (hp2.1 b List.mem_cons_self).1
    have hae := hp2.1 e e4
    have haL : a ∈ L := by rw [e1]; simp
    have key : b0 ≤ a.2.2 := by
      cases hfa : s.2.1 (a.1 / 200) with
      | none => exact absurd hfa e2.1
      | some v =>
        have a1 := h4 a haL v hfa
        have a2 := hxl _ v hfa
        have a3 := hbm.2 _ v e2.2 a2 hfa
        omega
    have hbn : s.2.1 (b.1 / 200) = none ∨ b.1 / 200 < now / 200 - 4 := by
      by_cases z : s.2.1 (b.1 / 200) = none
      · exact Or.inl z
      · right
        apply Decidable.byContradiction
        intro y
        exact e3 ⟨z, by omega⟩
    refine ⟨p, a, b, r, e1, ?_, hbn, e2, e, e4, by omega, fun z => ?_, fun j v hj hv => ?_⟩
    · have d1 := div200 hab
      by_cases z : b.1 / 200 = a.1 / 200
      · rw [← z] at e2
        exact absurd e2 e3
      · omega
    · have := hae.2 z
      omega
    · have a2 := hxl _ v hv
      have a3 := hbm.2 _ v hj a2 hv
      omega
/-- queueing above zero: not more than the time since the first acknowledgment of a minute that is kept -/
theorem SF.pos {now ka tq T0 : Int} {L : List EnF} {fa : Int → Int} {s : SdM} {x : EnF} {M : List EnF} (h : SF now ka tq T0 L fa s.2.1 s.2.2) (hL : L = x :: M) (hx : x.1 = now) (hk : now - x.2.2 = ka) :
    ∃ j, now / 200 - 4 ≤ j ∧ j ≤ now / 200 ∧ s.2.1 j ≠ none ∧ queueM s (now / 200) ≤ now - fa j := by
  obtain ⟨h1, h2, h3, h4, h5, h6, h7⟩ := h
  obtain ⟨hxk, hxl⟩ := h5 x M hL
  rw [hx] at hxk hxl
  cases hfx : s.2.1 (now / 200) with
  | none => exact absurd hfx hxk
  | some vx =>
    obtain ⟨b0, hb0⟩ := base_ex hfx
    have hla : s.2.2 ≠ [] := by rw [h1, hL]; simp
    obtain ⟨d, hd, hm, hl⟩ := lmin_mem hla
    have eq : queueM s (now / 200) = d - b0 := by
      unfold queueM
      rw [hm, hb0]
      rfl
    obtain ⟨j, j1, j2, j3⟩ := (base_mem hb0).1
    refine ⟨j, j1, j2, by rw [j3]; simp, ?_⟩
    have a1 : d ≤ x.2.2 := hl _ (by rw [h1, hL]; exact List.mem_map.mpr ⟨x, List.mem_cons_self, rfl⟩)
    have a2 := (h7 j b0 j3).1
    omega
/-- no queueing below zero: every one of the latest lies above some minute that is kept -/
theorem SF.nonneg {now ka tq T0 : Int} {L : List EnF} {fa : Int → Int} {s : SdM} {x : EnF} {M : List EnF} (h : SF now ka tq T0 L fa s.2.1 s.2.2) (hL : L = x :: M) (hx : x.1 = now) (hq : 0 ≤ queueM s (now / 200)) :
    ∃ j v, s.2.1 j = some v ∧ now / 200 - 4 ≤ j ∧ ∀ e ∈ L, v ≤ e.2.2 := by
  obtain ⟨h1, h2, h3, h4, h5, h6, h7⟩ := h
  obtain ⟨hxk, hxl⟩ := h5 x M hL
  rw [hx] at hxk hxl
  cases hfx : s.2.1 (now / 200) with
  | none => exact absurd hfx hxk
  | some vx =>
    obtain ⟨b0, hb0⟩ := base_ex hfx
    have hla : s.2.2 ≠ [] := by rw [h1, hL]; simp
    obtain ⟨d, hd, hm, hl⟩ := lmin_mem hla
    have eq : queueM s (now / 200) = d - b0 := by
      unfold queueM
      rw [hm, hb0]
      rfl
    obtain ⟨j, j1, j2, j3⟩ := (base_mem hb0).1
    refine ⟨j, b0, j3, j1, fun e he => ?_⟩
    have a1 : d ≤ e.2.2 := hl _ (by rw [h1]; exact List.mem_map.mpr ⟨e, he, rfl⟩)
    omega
