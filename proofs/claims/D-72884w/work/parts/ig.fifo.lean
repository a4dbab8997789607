/-! Bounds: first in, first out: the keys (arrival less delay) of a sender's acknowledgments do not fall -/
abbrev EnF : Type := Int × Int × Int
def kyN (n : NtM) : Int := n.1 - n.2.2.2
abbrev isA (n : NtM) : Prop := n.2.2.1 = 0
/-- what is on its way; c: way back less offset; dl: way forward and offset; notices up to tq: anything; ka: keys to come are not below it -/
def FO (now c dl tq T0 R ka : Int) (o : List Int) (l : List NtM) : Prop :=
  o.Pairwise (fun a b => a ≤ b) ∧ (∀ x ∈ o, x ≤ now ∧ ka ≤ x + c) ∧ ka ≤ now + c ∧ (T0 ≤ ka + dl ∧ T0 ≤ now ∧ T0 ≤ tq) ∧ l.Pairwise (fun a b => isA a → isA b → tq < a.1 → tq < b.1 → kyN a ≤ kyN b ∧ a.1 ≤ b.1) ∧ ∀ n ∈ l, isA n → (tq < n.1 → ka ≤ kyN n ∧ kyN n ≤ now + c ∧ n.1 ≤ now + R ∧ ∀ x ∈ o, kyN n ≤ x + c) ∧ (n.1 ≤ tq → T0 ≤ ka + n.2.2.2)
section FIFO
variable {now c dl tq T0 R ka : Int} {o : List Int} {l : List NtM}
theorem FO.nxt (h : FO now c dl tq T0 R ka o l) : FO (now + 1) c dl tq T0 R ka o l := by
  obtain ⟨h1, h2, h3, h4, h5, h6⟩ := h
  refine ⟨h1, fun x hx => ?_, by omega, by omega, h5, fun n hn ha => ⟨fun hq => ?_, (h6 n hn ha).2⟩⟩
  · have := h2 x hx
    omega
  · obtain ⟨a, b, d, e⟩ := (h6 n hn ha).1 hq
    exact ⟨a, by omega, by omega, e⟩
theorem FO.enq (h : FO now c dl tq T0 R ka o l) : FO now c dl tq T0 R ka (o ++ [now]) l := by
  obtain ⟨h1, h2, h3, h4, h5, h6⟩ := h
  refine ⟨?_, fun x hx => ?_, h3, h4, h5, fun n hn ha => ⟨fun hq => ?_, (h6 n hn ha).2⟩⟩
  · rw [List.pairwise_append]
    refine ⟨h1, List.pairwise_singleton _ _, fun a ha b hb => ?_⟩
    rw [List.mem_singleton] at hb
    rw [hb]
    exact (h2 a ha).1
  · rcases List.mem_append.mp hx with q | q
    · exact h2 x q
    · rw [List.mem_singleton] at q
      rw [q]
      omega
  · obtain ⟨a, b, d, e⟩ := (h6 n hn ha).1 hq
    refine ⟨a, b, d, fun x hx => ?_⟩
    rcases List.mem_append.mp hx with q | q
    · exact e x q
    · rw [List.mem_singleton] at q
      rw [q]
      exact b
theorem FO.los {n : NtM} (h : FO now c dl tq T0 R ka o l) (hn : ¬ isA n) : FO now c dl tq T0 R ka o (l ++ [n]) := by
  obtain ⟨h1, h2, h3, h4, h5, h6⟩ := h
  refine ⟨h1, h2, h3, h4, ?_, fun a ha hA => ?_⟩
  · rw [List.pairwise_append]
    refine ⟨h5, List.pairwise_singleton _ _, fun a ha b hb _ hB => ?_⟩
    rw [List.mem_singleton] at hb
    rw [hb] at hB
    exact absurd hB hn
  · rcases List.mem_append.mp ha with q | q
    · exact h6 a q hA
    · rw [List.mem_singleton] at q
      rw [q] at hA
      exact absurd hA hn
theorem FO.fin {k : Nat} {x fw bk of : Int} {t : List Int} (h : FO now c dl tq T0 R ka (x :: t) l) (hc : c = bk - of) (hd : dl = fw + of) (hR : R = fw + bk) : FO now c dl tq T0 R ka t (l ++ [(now + fw + bk, k, 0, now + fw - x + of)]) := by
  obtain ⟨h1, h2, h3, h4, h5, h6⟩ := h
  rw [List.pairwise_cons] at h1
  have hx := h2 x List.mem_cons_self
  refine ⟨h1.2, fun y hy => h2 y (List.mem_cons_of_mem _ hy), h3, h4, ?_, fun b hb hA => ?_⟩
  · rw [List.pairwise_append]
    refine ⟨h5, List.pairwise_singleton _ _, fun b hb d hd2 hA _ hq _ => ?_⟩
    rw [List.mem_singleton] at hd2
    rw [hd2]
    obtain ⟨e1, e2, e3, e4⟩ := (h6 b hb hA).1 hq
    have e5 := e4 x List.mem_cons_self
    unfold kyN at *
    dsimp only at *
    omega
  · rcases List.mem_append.mp hb with q | q
    · refine ⟨fun hq => ?_, (h6 b q hA).2⟩
      obtain ⟨e1, e2, e3, e4⟩ := (h6 b q hA).1 hq
      exact ⟨e1, e2, e3, fun y hy => e4 y (List.mem_cons_of_mem _ hy)⟩
    · rw [List.mem_singleton] at q
      rw [q]
      refine ⟨fun _ => ⟨?_, ?_, ?_, fun y hy => ?_⟩, fun _ => ?_⟩
      · unfold kyN
        dsimp only
        omega
      · unfold kyN
        dsimp only
        omega
      · dsimp only
        omega
      · have := h1.1 y hy
        unfold kyN
        dsimp only
        omega
      · dsimp only
        omega
theorem FO.sub {l2 : List NtM} (h : FO now c dl tq T0 R ka o l) (hs : l2.Sublist l) : FO now c dl tq T0 R ka o l2 := by
  obtain ⟨h1, h2, h3, h4, h5, h6⟩ := h
  exact ⟨h1, h2, h3, h4, h5.sublist hs, fun n hn => h6 n (hs.subset hn)⟩
/-- keys to come behind a notice -/
def kaN (tq now ka : Int) (n : NtM) : Int := if isA n ∧ n.1 = now ∧ tq < now then kyN n else ka
theorem kaN_ge {n : NtM} (h : FO now c dl tq T0 R ka o l) (hn : n ∈ l) : ka ≤ kaN tq now ka n := by
  unfold kaN
  split
  · rename_i q
    exact ((h.2.2.2.2.2 n hn q.1).1 (by omega)).1
  · exact Int.le_refl _
/-- a notice of now comes in; those ahead of it that stay are later ones -/
theorem FO.hand {l1 l2 : List NtM} {n : NtM} (h : FO now c dl tq T0 R ka o (l1 ++ n :: l2)) (hn : n.1 = now) (hl : ∀ a ∈ l1, now < a.1) (hr : ∀ a ∈ l2, now ≤ a.1) : FO now c dl tq T0 R (kaN tq now ka n) o (l1 ++ l2) := by
  have hs : (l1 ++ l2).Sublist (l1 ++ n :: l2) := List.Sublist.append (List.Sublist.refl _) (List.sublist_cons_self _ _)
  unfold kaN
  by_cases q : isA n ∧ n.1 = now ∧ tq < now
  · rw [if_pos q]
    obtain ⟨qA, -, qt⟩ := q
    obtain ⟨h1, h2, h3, h4, h5, h6⟩ := h
    have hm : n ∈ l1 ++ n :: l2 := List.mem_append_right _ List.mem_cons_self
    obtain ⟨e1, e2, e3, e4⟩ := (h6 n hm qA).1 (by omega)
    refine ⟨h1, fun x hx => ⟨(h2 x hx).1, e4 x hx⟩, e2, by omega, h5.sublist hs, fun b hb hA => ⟨fun hq => ?_, fun hq => ?_⟩⟩
    · obtain ⟨f1, f2, f3, f4⟩ := (h6 b (hs.subset hb) hA).1 hq
      refine ⟨?_, f2, f3, f4⟩
      rw [List.pairwise_append] at h5
      rcases List.mem_append.mp hb with w | w
      · have := (h5.2.2 b w n List.mem_cons_self hA qA hq (by omega)).2
        have := hl b w
        omega
      · have := h5.2.1
        rw [List.pairwise_cons] at this
        exact (this.1 b w qA hA (by omega) hq).1
    · rcases List.mem_append.mp hb with w | w
      · have := hl b w
        omega
      · have := hr b w
        omega
  · rw [if_neg q]
    exact h.sub hs
end FIFO
