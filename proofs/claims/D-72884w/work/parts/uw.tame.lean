/-! Bounds: own losses bound queueing: the range of the delays of a sender whose losses never cease -/
theorem LOW.of {k : Nat} {t2 : Int} {m : MS} (h : 1 ≤ vF (vwK k m)) (hn : ∀ n ∈ (vwK k m).2.2, mg m 5 < n.1) (ht : t2 ≤ mg m 5 + 1) : LOW k t2 m := by
  have h2 : 0 < (vwK k m).2.2.countP (fun n : NtM => decide (¬ n.2.2.1 = 0 ∧ (vwK k m).1.1 9 ≤ n.2.2.2)) := h
  obtain ⟨n, a, b⟩ := List.countP_pos_iff.1 h2
  have b2 := of_decide_eq_true b
  have c := hn n a
  have d := List.mem_filter.1 a
  exact ⟨n, d.1, of_decide_eq_true d.2, b2.1, by omega, c⟩
theorem wC_none {s C0 t1 : Int} : ∀ {l : List PkM} {e : Int}, (∀ p ∈ l, p.2.2 < t1) → wC s C0 t1 e l := by
  intro l
  induction l with
  | nil => intro e _; trivial
  | cons a l ih =>
    intro e h
    refine ⟨fun h2 => ?_, ih (fun p hp => h p (List.mem_cons_of_mem _ hp))⟩
    have := h a (List.mem_cons_self ..)
    omega
theorem WC.start {C0 t1 : Int} {m : MS} (h : WQ m) (hv : ∀ p, mv m = some p → p.2.2 < t1) (hq : ∀ p ∈ mq m, p.2.2 < t1) : WC C0 (mg m 5) t1 m := by
  refine ⟨fun p hp => ?_, wC_none hq⟩
  have a := h.1 p hp
  have b := hv p hp
  refine ⟨by omega, by omega, fun z => by omega⟩
section FRT
variable {nS nC k : Nat} {m : MS} {B t0 t1 t2 C0 : Int}
/-- the delays of a tame sender lie in a range of the ways + 59 -/
theorem frT (h : LWG k B t1 t2 m) (hC : WC C0 t0 t1 m) (hC0 : mg m 0 ≤ C0) (ht : t0 + 20 ≤ t1) (hw : WQ m) (hc : mg m 0 ≤ 60) (hs : 1 ≤ mg m 1 ∧ mg m 1 ≤ 20) (hB : B + 61 + (mg m 2 + mg m 3) ≤ mg m 1 * mg m 0 + mg m 1) (h5 : t1 + 1220 ≤ mg m 5 + 1) (hz : fnB k (beginM (midM nS nC m)) = true) : ∀ x t, own k (beginM (midM nS nC m)) = x :: t → mg m 2 + B + (ms m k).1 2 ≤ mg m 5 + 1 + mg m 2 - x + (ms m k).1 2 ∧ mg m 5 + 1 + mg m 2 - x + (ms m k).1 2 ≤ mg m 2 + (mg m 1 * C0 + mg m 1 - 2) + (ms m k).1 2 := by
  intro x t hx
  obtain ⟨a, u, e, e2⟩ := fnB_wait hw hc hs hz
  obtain ⟨a2, u2, f, f2⟩ := h.wait hs.1 hB hz
  obtain ⟨a3, u3, g, g2⟩ := fnB_waitC hC hC0 hs.1 ht hz
  rw [hx] at e f g
  have i1 : x = a := (List.cons.inj e).1
  have i2 : x = a2 := (List.cons.inj f).1
  have i3 : x = a3 := (List.cons.inj g).1
  subst i1
  subst i2
  subst i3
  have h1 : t1 ≤ x := by omega
  have j1 := f2 h1
  have j2 := g2 h1
  omega
end FRT
