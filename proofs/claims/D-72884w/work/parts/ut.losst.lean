/-! Bounds: own losses bound queueing: a tick -/
section LWT
variable {k : Nat} {B t1 t2 W : Int}
theorem LWm.begin {m : MS} (h : LWm k B t1 t2 W m) (hs : 1 ≤ mg m 1) : LWb k B t1 t2 W (beginM m) := by
  unfold beginM
  split
  · rename_i p l hv hq
    have h2 := h.2.2.1
    have hW := h.2.2.2.1
    have hL := h.2.2.2.2
    have ee : eQ9 m (mg m 5 - 1) = mg m 5 - 1 := by
      unfold eQ9
      rw [hv]
    have ew : WlM m (mg m 5 - 1) = mg m 5 + mg m 1 - 1 + mg m 1 * (l.length : Int) := by
      unfold WlM
      rw [ee, hq, List.length_cons]
      push_cast
      rw [Int.mul_add, Int.mul_one]
      omega
    rw [ee, hq] at h2
    obtain ⟨x, y⟩ := h2
    rw [ew] at hW hL
    refine ⟨?_, ?_, ?_, hW, hL⟩
    · intro p2 _
      show mg m 5 ≤ mg m 5 + mg m 1 - 1
      omega
    · intro p2 hp2 a b
      have hp2 : some p = some p2 := hp2
      have e : p = p2 := Option.some.inj hp2
      subst e
      show p.2.2 + B ≤ mg m 5 + mg m 1 - 1
      have := x a b
      omega
    · show wlL (mg m 1) k B t1 (mg m 5 + mg m 1 - 1) l
      rw [show mg m 5 + mg m 1 - 1 = mg m 5 - 1 + mg m 1 by omega]
      exact y
  · rename_i hne
    cases hv : mv m with
    | none =>
      cases hq : mq m with
      | nil =>
        have hW := h.2.2.2.1
        have hL := h.2.2.2.2
        have ew : WlM m (mg m 5 - 1) = mg m 5 - 1 := by
          unfold WlM eQ9
          rw [hv, hq]
          show mg m 5 - 1 + mg m 1 * 0 = _
          rw [Int.mul_zero]
          omega
        have ew2 : WlM m (mg m 5) = mg m 5 := by
          unfold WlM eQ9
          rw [hv, hq]
          show mg m 5 + mg m 1 * 0 = _
          rw [Int.mul_zero]
          omega
        refine ⟨fun p hp => (by rw [hv] at hp; cases hp), fun p hp => (by rw [hv] at hp; cases hp), (by rw [hq]; trivial), ?_, ?_⟩
        · rw [ew2]
          omega
        · intro n hn a b
          have := hL n hn a b
          rw [ew2]
          omega
      | cons p l => exact absurd hq (hne p l hv)
    | some p =>
      have e : eQ9 m (mg m 5) = eQ9 m (mg m 5 - 1) := by
        unfold eQ9
        rw [hv]
      have ew : WlM m (mg m 5) = WlM m (mg m 5 - 1) := by
        unfold WlM
        rw [e]
      refine ⟨h.1, h.2.1, ?_, ?_, ?_⟩
      · rw [e]
        exact h.2.2.1
      · rw [ew]
        exact h.2.2.2.1
      · rw [ew]
        exact h.2.2.2.2
theorem LWb.fini {m : MS} (h : LWb k B t1 t2 W m) : LW k B t1 t2 W (finiM m) := by
  cases hv : mv m with
  | none =>
    have em : finiM m = m := by
      unfold finiM
      rw [hv]
    rw [em]
    exact ⟨fun p hp => (by rw [hv] at hp; cases hp), h.2⟩
  | some p =>
    by_cases he : mg m 14 = mg m 5
    · have h3 := h.2.2.1
      have hW := h.2.2.2.1
      have hL := h.2.2.2.2
      have ee : eQ9 m (mg m 5) = mg m 5 := by
        unfold eQ9
        rw [hv]
        exact he
      have ew : WlM m (mg m 5) = mg m 5 + mg m 1 * ((mq m).length : Int) := by
        unfold WlM
        rw [ee]
      rw [ee] at h3
      rw [ew] at hW hL
      have key : ∀ (g : Nat → Int) (f : Nat → SdM) (c : Nat → Nat → Int) (l : List NtM), g 5 = mg m 5 → g 1 = mg m 1 → g 0 = mg m 0 → g 2 = mg m 2 → g 3 = mg m 3 → (∀ n ∈ l, n.2.2.1 ≠ 0 → n ∈ mnt m) → LW k B t1 t2 W (g, mq m, none, f, c, l) := by
        intro g f c l g5 g1 g0 g2 g3 hl
        refine ⟨fun p hp => (by cases hp), fun p hp => (by cases hp), ?_, ?_, ?_⟩
        · show wlL (g 1) k B t1 (g 5) (mq m)
          rw [g1, g5]
          exact h3
        · show W ≤ g 5 + g 1 * ((mq m).length : Int)
          rw [g1, g5]
          exact hW
        · intro n hn a b
          show n.1 - (g 2 + g 3) - 1 + g 1 * g 0 ≤ g 5 + g 1 * ((mq m).length : Int)
          rw [g0, g1, g2, g3, g5]
          exact hL n (hl n hn a) a b
      unfold finiM
      rw [hv]
      dsimp only
      rw [if_pos he]
      split
      · refine key _ _ _ _ rfl rfl rfl rfl rfl ?_
        intro n hn a
        rcases List.mem_append.1 hn with x | x
        · exact x
        · have en := List.mem_singleton.1 x
          subst en
          exact absurd rfl a
      · exact key _ _ _ _ rfl rfl rfl rfl rfl (fun n hn _ => hn)
    · have em : finiM m = m := by
        unfold finiM
        rw [hv]
        exact if_neg he
      rw [em]
      refine ⟨fun p2 hp2 => ?_, h.2⟩
      have := h.1 p2 hp2
      omega
theorem LW.tick {nS nC : Nat} {m : MS} (h : LW k B t1 t2 W m) (hs : 1 ≤ mg m 1) (hB : mg m 5 + 1 + B ≤ W + mg m 1) : LW k B t1 t2 W (tickM nS nC m) ∧ ∀ p, mv (beginM (midM nS nC m)) = some p → p.1 = k → t1 ≤ p.2.2 → mg (beginM (midM nS nC m)) 14 = mg (beginM (midM nS nC m)) 5 → p.2.2 + B ≤ mg m 5 + 1 := by
  have hm : LWm k B t1 t2 W (midM nS nC m) := h.mid hs hB
  have hbg := hm.begin (by rw [mid_g]; exact hs)
  have hf := hbg.fini
  refine ⟨?_, ?_⟩
  · show LW k B t1 t2 W (countM (finiM (beginM (midM nS nC m))))
    generalize finiM (beginM (midM nS nC m)) = x at hf
    refine ⟨hf.1, hf.2.1, ?_, ?_, ?_⟩
    · have h2 := hf.2.2.1
      unfold eQ9 at h2 ⊢
      exact h2
    · have h2 := hf.2.2.2.1
      unfold WlM eQ9 at h2 ⊢
      exact h2
    · have h2 := hf.2.2.2.2
      unfold WlM eQ9 at h2 ⊢
      exact h2
  · intro p hp a b he
    have := hbg.2.1 p hp a b
    have e5 : mg (beginM (midM nS nC m)) 5 = mg m 5 + 1 := by
      rw [(begin_keep (m := midM nS nC m)).2.2 5 (by decide), mid_g]
      rfl
    omega
/-- the finished one of sender k has waited at least B -/
theorem fnB_waitL {nS nC : Nat} {m : MS} (h : LW k B t1 t2 W m) (hs : 1 ≤ mg m 1) (hB : mg m 5 + 1 + B ≤ W + mg m 1) (hz : fnB k (beginM (midM nS nC m)) = true) : ∃ a t, own k (beginM (midM nS nC m)) = a :: t ∧ (t1 ≤ a → a + B ≤ mg m 5 + 1) := by
  have hw := (h.tick (nS := nS) (nC := nC) hs hB).2
  unfold fnB at hz
  cases hv : mv (beginM (midM nS nC m)) with
  | none => rw [hv] at hz; cases hz
  | some p =>
    rw [hv] at hz
    dsimp only at hz
    have z := of_decide_eq_true hz
    refine ⟨p.2.2, ownL k (mq (beginM (midM nS nC m))), ?_, fun b => hw p hv z.2 b z.1⟩
    unfold own ownV
    rw [hv]
    dsimp only
    rw [if_pos z.2]
    rfl
/-- less is asked later -/
theorem LW.weak {m : MS} {B2 t3 t4 W2 : Int} (h : LW k B t1 t2 W m) (hB : B2 ≤ B) (h1 : t1 ≤ t3) (h2 : t2 ≤ t4) (hW : W2 ≤ W) : LW k B2 t3 t4 W2 m := by
  refine ⟨h.1, fun p hp a b => ?_, ?_, Int.le_trans hW h.2.2.2.1, fun n hn a b => h.2.2.2.2 n hn a (by omega)⟩
  · have := h.2.1 p hp a (by omega)
    omega
  · have key : ∀ (l : List PkM) (e : Int), wlL (mg m 1) k B t1 e l → wlL (mg m 1) k B2 t3 e l := by
      intro l
      induction l with
      | nil => intro e _; trivial
      | cons a l ih =>
        intro e x
        refine ⟨fun a1 b => ?_, ih _ x.2⟩
        have := x.1 a1 (by omega)
        omega
    exact key _ _ h.2.2.1
end LWT
