/-! Bounds, ledger by ages: the minutes kept since the last slow-down's end that dropped any -/
/-- the oldest minute that may count -/
def jxP (now jg : Int) : Int := max jg (now / 200 - 4)
/-- jg: no minute that counts is older; entries from then on are kept; a minute's value stands among the latest, or four came since; minutes behind tq have their true time -/
def AJ (now tq jg : Int) (L : List EnF) (fa : Int → Int) (f : Int → Option Int) : Prop :=
  L.length ≤ 4 ∧ jg ≤ now / 200 ∧ (∀ j v, f j = some v → now / 200 - 4 ≤ j → jg ≤ j) ∧ (∀ e ∈ L, jg ≤ e.1 / 200 → f (e.1 / 200) ≠ none) ∧ (∀ j v, f j = some v → (∃ e ∈ L, e.1 / 200 = j ∧ e.2.2 = v) ∨ (L.length = 4 ∧ ∀ e ∈ L, j ≤ e.1 / 200)) ∧ ∀ j v, f j = some v → tq < 200 * j → 200 * j ≤ fa j
theorem take3 {P : EnF → EnF → Prop} {L : List EnF} (h4 : L.length ≤ 4) (hp : L.Pairwise (fun a b => b.1 ≤ a.1 ∧ P a b)) {e : EnF} (he : e ∈ L) : e ∈ L.take 3 ∨ (L.length = 4 ∧ ∀ x ∈ L, e.1 ≤ x.1) := by
  match L, h4, hp, he with
  | [a], _, _, he => exact Or.inl he
  | [a, b], _, _, he => exact Or.inl he
  | [a, b, c], _, _, he => exact Or.inl he
  | [a, b, c, d], _, hp, he =>
    by_cases q : e ∈ [a, b, c]
    · exact Or.inl q
    · right
      have e1 : e = d := by
        simp only [List.mem_cons, List.not_mem_nil, or_false] at he q
        rcases he with w | w | w | w
        · exact absurd (Or.inl w) q
        · exact absurd (Or.inr (Or.inl w)) q
        · exact absurd (Or.inr (Or.inr w)) q
        · exact w
      refine ⟨rfl, fun x hx => ?_⟩
      simp only [List.pairwise_cons, List.mem_cons, List.not_mem_nil, or_false] at hp hx
      rcases hx with w | w | w | w
      · rw [w, e1]; exact (hp.1 d (by simp)).1
      · rw [w, e1]; exact (hp.2.1 d (by simp)).1
      · rw [w, e1]; exact (hp.2.2.1 d rfl).1
      · rw [w, e1]; exact Int.le_refl _
  | _ :: _ :: _ :: _ :: _ :: _, h4, _, _ =>
    simp only [List.length_cons] at h4
    omega
section AJS
variable {now ka k2 tq T0 jg d : Int} {L : List EnF} {fa : Int → Int} {f : Int → Option Int} {la : List Int}
theorem jx_rng (h : jg ≤ now / 200) : jg ≤ jxP now jg ∧ now / 200 - 4 ≤ jxP now jg ∧ jxP now jg ≤ now / 200 := by
  unfold jxP
  omega
/-- an acknowledgment enters -/
theorem AJ.ack (hA : AJ now tq jg L fa f) (h : SF now ka tq T0 L fa f la) : AJ now tq jg (ackL tq T0 now d L) (ackF tq T0 now f fa) (fun j => if j = now / 200 then omin (f (now / 200)) (some d) else f j) := by
  obtain ⟨a1, a2, a3, a4, a5, a6⟩ := hA
  obtain ⟨h1, h2, h3, h4, h5, h6, h7⟩ := h
  have hL : ackL tq T0 now d L = (now, tN tq T0 now, d) :: L.take 3 := by
    unfold ackL
    rw [List.take_succ_cons]
  have old : ∀ j v, f j = some v → (∃ e ∈ ackL tq T0 now d L, e.1 / 200 = j ∧ e.2.2 = v) ∨ ((ackL tq T0 now d L).length = 4 ∧ ∀ e ∈ ackL tq T0 now d L, j ≤ e.1 / 200) := by
    intro j v hj
    have jle : ∀ e ∈ L, j ≤ e.1 / 200 → j ≤ now / 200 := fun e he q => by
      have := div200 (h3 e he).1
      omega
    have len : L.length = 4 → (ackL tq T0 now d L).length = 4 := by
      intro q
      rw [hL, List.length_cons, List.length_take]
      omega
    rcases a5 j v hj with ⟨e, he, e1, e2⟩ | ⟨q1, q2⟩
    · rcases take3 a1 h2 he with w | ⟨w1, w2⟩
      · left
        exact ⟨e, by rw [hL]; exact List.mem_cons_of_mem _ w, e1, e2⟩
      · right
        refine ⟨len w1, fun x hx => ?_⟩
        rw [hL] at hx
        rcases List.mem_cons.mp hx with y | y
        · rw [y]
          exact jle e he (by omega)
        · have := div200 (w2 x (List.mem_of_mem_take y))
          omega
    · right
      refine ⟨len q1, fun x hx => ?_⟩
      rw [hL] at hx
      rcases List.mem_cons.mp hx with y | y
      · rw [y]
        cases hLL : L with
        | nil => rw [hLL] at q1; simp at q1
        | cons z M =>
          have hz : z ∈ L := by rw [hLL]; exact List.mem_cons_self
          exact jle z hz (q2 z hz)
      · exact q2 x (List.mem_of_mem_take y)
  refine ⟨?_, a2, fun j v hj hw => ?_, fun e he hg => ?_, fun j v hj => ?_, fun j v hj hq => ?_⟩
  · rw [hL, List.length_cons, List.length_take]
    omega
  · dsimp only at hj
    by_cases q : j = now / 200
    · omega
    · rw [if_neg q] at hj
      exact a3 j v hj hw
  · dsimp only
    by_cases q : e.1 / 200 = now / 200
    · rw [if_pos q]
      exact omin_ne
    · rw [if_neg q]
      rw [hL] at he
      rcases List.mem_cons.mp he with y | y
      · rw [y] at q
        exact absurd rfl q
      · exact a4 e (List.mem_of_mem_take y) hg
  · dsimp only at hj
    by_cases q : j = now / 200
    · rw [if_pos q] at hj
      rcases (omin_le hj).2.2 with w | w
      · left
        exact ⟨(now, tN tq T0 now, d), by rw [hL]; exact List.mem_cons_self, q.symm, w.symm⟩
      · rw [← q] at w
        exact old j v w
    · rw [if_neg q] at hj
      exact old j v hj
  · dsimp only at hj
    have hnow : j = now / 200 → tq < now := fun q => by omega
    unfold ackF
    by_cases q : j = now / 200
    · cases hf : f (now / 200) with
      | none =>
        rw [if_pos rfl]
        rw [if_pos q]
        unfold tN
        rw [if_neg (by have := hnow q; omega)]
        omega
      | some u =>
        rw [if_neg (by simp), q]
        have := a6 (now / 200) u hf (by rw [← q]; exact hq)
        exact this
    · rw [if_neg q] at hj
      have := a6 j v hj hq
      split
      · dsimp only
        rw [if_neg q]
        exact this
      · exact this
/-- minutes dropped at a slow-down's end -/
theorem AJ.only (hA : AJ now tq jg L fa f) (h : SF now ka tq T0 L fa f la) (hf : (f (now / 200)).isSome = true) : AJ now tq (now / 200) L fa (onlyM f (now / 200)) := by
  obtain ⟨a1, a2, a3, a4, a5, a6⟩ := hA
  have e : onlyM f (now / 200) = fun j => if j = now / 200 then f j else none := by
    unfold onlyM
    rw [if_pos hf]
  have sub : ∀ j v, onlyM f (now / 200) j = some v → f j = some v ∧ j = now / 200 := by
    intro j v hj
    rw [e] at hj
    dsimp only at hj
    by_cases z : j = now / 200
    · rw [if_pos z] at hj; exact ⟨hj, z⟩
    · rw [if_neg z] at hj; cases hj
  refine ⟨a1, Int.le_refl _, fun j v hj _ => ?_, fun x hx hg => ?_, fun j v hj => a5 j v (sub j v hj).1, fun j v hj => a6 j v (sub j v hj).1⟩
  · have := (sub j v hj).2
    omega
  · have := div200 (h.2.2.1 x hx).1
    have q : x.1 / 200 = now / 200 := by omega
    rw [q, e]
    dsimp only
    rw [if_pos rfl]
    intro z
    rw [z] at hf
    cases hf
theorem AJ.only0 (hf : ¬ (f (now / 200)).isSome = true) : onlyM f (now / 200) = f := by
  unfold onlyM
  rw [if_neg hf]
theorem AJ.nxt (hA : AJ now tq jg L fa f) : AJ (now + 1) tq jg L fa f := by
  obtain ⟨a1, a2, a3, a4, a5, a6⟩ := hA
  exact ⟨a1, by omega, fun j v hj hw => a3 j v hj (by omega), a4, a5, a6⟩
/-- nothing is kept that counts -/
theorem AJ.reset (hA : AJ now tq jg L fa f) (h : SF now ka tq T0 L fa f la) (hm : mn0 now L < now / 200 - 4) : AJ now tq (now / 200) L fa f := by
  obtain ⟨a1, a2, a3, a4, a5, a6⟩ := hA
  obtain ⟨h1, h2, h3, h4, h5, h6, h7⟩ := h
  have hx : ∀ e ∈ L, e.1 / 200 ≤ mn0 now L := by
    intro e he
    cases hL : L with
    | nil => rw [hL] at he; cases he
    | cons x M =>
      show e.1 / 200 ≤ x.1 / 200
      rw [hL] at he h2
      rw [List.pairwise_cons] at h2
      rcases List.mem_cons.mp he with w | w
      · rw [w]; exact Int.le_refl _
      · exact div200 (h2.1 e w).1
  refine ⟨a1, Int.le_refl _, fun j v hj hw => ?_, fun e he hg => ?_, a5, a6⟩
  · exfalso
    cases hL : L with
    | nil => rw [h6 hL j] at hj; cases hj
    | cons x M =>
      have := (h5 x M hL).2 j v hj
      rw [hL] at hm
      have hm : x.1 / 200 < now / 200 - 4 := hm
      omega
  · have := hx e he
    omega
end AJS
section AJQ
variable {now ka k2 tq T0 jg d : Int} {L : List EnF} {fa : Int → Int} {s : SdM}
/-- a negative acknowledgment: an entry among the latest three is dropped -/
theorem neg_j (hA : AJ now tq jg L fa s.2.1) (h : SF now ka tq T0 L fa s.2.1 s.2.2) (h2 : SF now k2 tq T0 (ackL tq T0 now d L) (ackF tq T0 now s.2.1 fa) (enterM s d (now / 200)).2.1 (enterM s d (now / 200)).2.2) (hneg : queueM (enterM s d (now / 200)) (now / 200) < 0) : mn2 now L < jxP now jg := by
  have hL : ackL tq T0 now d L = (now, tN tq T0 now, d) :: L.take 3 := by
    unfold ackL
    rw [List.take_succ_cons]
  have hA2 := hA.ack (d := d) h
  obtain ⟨p, a, b, r, e1, e2, e3, -, -⟩ := SF.neg h2 hL rfl hneg
  have hbL : b ∈ ackL tq T0 now d L := by
    rw [e1]
    exact List.mem_append_right _ (List.mem_cons_of_mem _ List.mem_cons_self)
  have hb : b ∈ L.take 3 := by
    rw [hL] at e1
    cases p with
    | nil =>
      have := (List.cons.inj e1).2
      rw [this]
      exact List.mem_cons_self
    | cons x p =>
      have := (List.cons.inj e1).2
      rw [this]
      exact List.mem_append_right _ (List.mem_cons_of_mem _ List.mem_cons_self)
  have m := far_mn2 h hb
  have jr := jx_rng (now := now) hA.2.1
  rcases e3 with q | q
  · have : ¬ jg ≤ b.1 / 200 := fun z => hA2.2.2.2.1 b hbL z q
    omega
  · omega
/-- such an entry is there: no queueing above zero -/
theorem q_perm (hA : AJ now tq jg L fa s.2.1) (h : SF now ka tq T0 L fa s.2.1 s.2.2) (hm : mn2 now L < jxP now jg) : queueM (enterM s d (now / 200)) (now / 200) ≤ 0 := by
  have hL : ackL tq T0 now d L = (now, tN tq T0 now, d) :: L.take 3 := by
    unfold ackL
    rw [List.take_succ_cons]
  have hA2 := hA.ack (d := d) h
  have ef : (enterM s d (now / 200)).2.1 = fun j => if j = now / 200 then omin (s.2.1 (now / 200)) (some d) else s.2.1 j := rfl
  have el : (enterM s d (now / 200)).2.2 = (d :: s.2.2).take 4 := rfl
  have em : (d :: s.2.2).take 4 = (ackL tq T0 now d L).map (fun e => e.2.2) := by
    unfold ackL
    rw [List.map_take, h.1]
    rfl
  rw [← ef] at hA2
  cases ho : omin (s.2.1 (now / 200)) (some d) with
  | none => exact absurd ho omin_ne
  | some v =>
    have hv : (enterM s d (now / 200)).2.1 (now / 200) = some v := by
      rw [ef]
      dsimp only
      rw [if_pos rfl, ho]
    obtain ⟨b, hb⟩ := base_ex hv
    have hne : (enterM s d (now / 200)).2.2 ≠ [] := by
      rw [el, List.take_succ_cons]
      simp
    obtain ⟨x, hx, hmn, hl⟩ := lmin_mem hne
    have eq : queueM (enterM s d (now / 200)) (now / 200) = x - b := by
      unfold queueM
      rw [hmn, hb]
      rfl
    rw [eq]
    obtain ⟨j, j1, j2, j3⟩ := (base_mem hb).1
    have jr := jx_rng (now := now) hA.2.1
    have hj := hA2.2.2.1 j b j3 j1
    have hjx : jxP now jg ≤ j := by
      unfold jxP
      omega
    rcases hA2.2.2.2.2.1 j b j3 with ⟨e, he, e1, e2⟩ | ⟨q1, q2⟩
    · have : x ≤ b := by
        refine hl b ?_
        rw [el, em]
        exact List.mem_map.mpr ⟨e, he, e2⟩
      omega
    · exfalso
      rw [hL, List.length_cons, List.length_take] at q1
      match L, hm, q1, hL, q2 with
      | e0 :: f1 :: f2 :: M, hm, q1, hL, q2 =>
        have : j ≤ f2.1 / 200 := q2 f2 (by rw [hL]; simp)
        have hm : f2.1 / 200 < jxP now jg := hm
        omega
      | [], _, q1, _, _ => simp at q1
      | [_], _, q1, _, _ => simp at q1
      | [_, _], _, q1, _, _ => simp at q1
end AJQ
/-- first in, first out: queueing is not above the age of the oldest minute that counts -/
theorem q_age {now c dl tq T0 R jg : Int} {s : SdM} {o : List Int} {l1 l2 : List NtM} {n : NtM} {g : Gh} (hV : VM now c dl tq T0 R s o (l1 ++ n :: l2) g) (hA : AJ now tq jg g.2.1 g.2.2 s.2.1) (hn : isA n) (ht : n.1 = now) (htq : tq < 200 * jxP now jg) : queueM (enterM s n.2.2.2 (now / 200)) (now / 200) ≤ now - 200 * jxP now jg := by
  obtain ⟨s1, s2, s3⟩ := hV.stor hn ht
  have h := hV.2.2.1
  have eg : stepG tq T0 now s.2.1 g n = (kaN tq now g.1 n, ackL tq T0 now n.2.2.2 g.2.1, ackF tq T0 now s.2.1 g.2.2) := if_pos ⟨ht, hn⟩
  rw [eg] at s1 s2 s3
  dsimp only at s1 s2 s3
  have hA2 := hA.ack (d := n.2.2.2) h
  generalize n.2.2.2 = d at *
  have ef : (enterM s d (now / 200)).2.1 = fun j => if j = now / 200 then omin (s.2.1 (now / 200)) (some d) else s.2.1 j := rfl
  have el : (enterM s d (now / 200)).2.2 = (d :: s.2.2).take 4 := rfl
  rw [← ef] at hA2
  have jr := jx_rng (now := now) hA.2.1
  cases ho : omin (s.2.1 (now / 200)) (some d) with
  | none => exact absurd ho omin_ne
  | some v =>
    have hv : (enterM s d (now / 200)).2.1 (now / 200) = some v := by
      rw [ef]
      dsimp only
      rw [if_pos rfl, ho]
    obtain ⟨b, hb⟩ := base_ex hv
    have hne : (enterM s d (now / 200)).2.2 ≠ [] := by
      rw [el, List.take_succ_cons]
      simp
    obtain ⟨x, hx, hmn, hl⟩ := lmin_mem hne
    have eq : queueM (enterM s d (now / 200)) (now / 200) = x - b := by
      unfold queueM
      rw [hmn, hb]
      rfl
    rw [eq]
    obtain ⟨j, j1, j2, j3⟩ := (base_mem hb).1
    have hj := hA2.2.2.1 j b j3 j1
    have hjx : jxP now jg ≤ j := by
      unfold jxP
      omega
    have xd := hl d (by rw [el, List.take_succ_cons]; exact List.mem_cons_self)
    have k1 := (s1.2.2.2.2.2.2 j b j3).1
    have k2 := hA2.2.2.2.2.2 j b j3 (by omega)
    have k3 := s3 (by omega)
    omega
