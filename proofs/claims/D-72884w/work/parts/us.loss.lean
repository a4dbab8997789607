/-! Bounds: own losses bound queueing: the work ahead never falls, a loss shows a full queue -/
def WlM (m : MS) (t : Int) : Int := eQ9 m t + mg m 1 * ((mq m).length : Int)
/-- packets of sender k sent from t1 on wait at least B -/
def wlL (s : Int) (k : Nat) (B t1 : Int) : Int → List PkM → Prop
  | _, [] => True
  | e, p :: l => (p.1 = k → t1 ≤ p.2.2 → p.2.2 + B ≤ e + s) ∧ wlL s k B t1 (e + s) l
theorem wlL_snoc {s : Int} {k : Nat} {B t1 : Int} : ∀ {l : List PkM} {e : Int} {p : PkM}, wlL s k B t1 e l → p.2.2 + B ≤ e + s * (l.length + 1) → wlL s k B t1 e (l ++ [p]) := by
  intro l
  induction l with
  | nil =>
    intro e p _ hp
    refine ⟨fun _ _ => ?_, trivial⟩
    simp at hp
    omega
  | cons a l ih =>
    intro e p h hp
    refine ⟨h.1, ih h.2 ?_⟩
    rw [List.length_cons] at hp
    push_cast at hp
    have e1 : s * ((l.length : Int) + 1 + 1) = s * ((l.length : Int) + 1) + s := by rw [Int.mul_add s _ 1, Int.mul_one]
    rw [e1] at hp
    omega
theorem wlL_none {s : Int} {k : Nat} {B t1 : Int} : ∀ {l : List PkM} {e : Int}, (∀ p ∈ l, p.2.2 < t1) → wlL s k B t1 e l := by
  intro l
  induction l with
  | nil => intro e _; trivial
  | cons a l ih =>
    intro e h
    refine ⟨fun _ h2 => ?_, ih (fun p hp => h p (List.mem_cons_of_mem _ hp))⟩
    have := h a (List.mem_cons_self ..)
    omega
def LWx (k : Nat) (B t1 t2 W t v : Int) (m : MS) : Prop := (∀ p, mv m = some p → v ≤ mg m 14) ∧ (∀ p, mv m = some p → p.1 = k → t1 ≤ p.2.2 → p.2.2 + B ≤ mg m 14) ∧ wlL (mg m 1) k B t1 (eQ9 m t) (mq m) ∧ W ≤ WlM m t ∧ (∀ n ∈ mnt m, n.2.2.1 ≠ 0 → t2 ≤ n.1 → n.1 - (mg m 2 + mg m 3) - 1 + mg m 1 * mg m 0 ≤ WlM m t)
/-- between ticks; within a tick before the server's step; behind it -/
def LW (k : Nat) (B t1 t2 W : Int) (m : MS) : Prop := LWx k B t1 t2 W (mg m 5) (mg m 5 + 1) m
def LWm (k : Nat) (B t1 t2 W : Int) (m : MS) : Prop := LWx k B t1 t2 W (mg m 5 - 1) (mg m 5) m
def LWb (k : Nat) (B t1 t2 W : Int) (m : MS) : Prop := LWx k B t1 t2 W (mg m 5) (mg m 5) m
section LWS
variable {k : Nat} {B t1 t2 W : Int}
/-- from any state on: nothing is known of the packets and losses of before -/
theorem LW.start {m : MS} (hv : ∀ p, mv m = some p → mg m 5 < mg m 14 ∧ p.2.2 < t1) (hq : ∀ p ∈ mq m, p.2.2 < t1) (hn : ∀ n ∈ mnt m, n.1 < t2) (hW : W ≤ WlM m (mg m 5)) : LW k B t1 t2 W m := by
  refine ⟨fun p hp => ?_, fun p hp _ h1 => ?_, wlL_none hq, hW, fun n hn1 _ h2 => ?_⟩
  · have := hv p hp
    omega
  · have := hv p hp
    omega
  · have := hn n hn1
    omega
/-- a loss on its way raises what is known of the work ahead -/
theorem LW.raise {m : MS} {n : NtM} (h : LW k B t1 t2 W m) (hn : n ∈ mnt m) (h1 : n.2.2.1 ≠ 0) (h2 : t2 ≤ n.1) (h3 : mg m 5 < n.1) : LW k B t1 t2 (mg m 5 - (mg m 2 + mg m 3) + mg m 1 * mg m 0) m := by
  refine ⟨h.1, h.2.1, h.2.2.1, ?_, h.2.2.2.2⟩
  have := h.2.2.2.2 n hn h1 h2
  omega
theorem LW.now {m : MS} (h : LW k B t1 t2 W m) : LWm k B t1 t2 W (nowM m) := by
  have e5 : mg (nowM m) 5 = mg m 5 + 1 := rfl
  have e : eQ9 (nowM m) (mg (nowM m) 5 - 1) = eQ9 m (mg m 5) := by
    unfold eQ9
    show (match mv m with | some _ => mg (nowM m) 14 | none => mg (nowM m) 5 - 1) = _
    rw [e5]
    cases mv m with
    | none => show mg m 5 + 1 - 1 = mg m 5; omega
    | some p => rfl
  have ew : WlM (nowM m) (mg (nowM m) 5 - 1) = WlM m (mg m 5) := by
    unfold WlM
    rw [e]
    rfl
  refine ⟨h.1, h.2.1, ?_, ?_, ?_⟩
  · rw [e]
    exact h.2.2.1
  · rw [ew]
    exact h.2.2.2.1
  · rw [ew]
    exact h.2.2.2.2
theorem LWm.same {m m2 : MS} (h : LWm k B t1 t2 W m) (hg : mg m2 = mg m) (hv : mv m2 = mv m) (hq : mq m2 = mq m) (hn : ∀ n ∈ mnt m2, n ∈ mnt m) : LWm k B t1 t2 W m2 := by
  unfold LWm LWx WlM eQ9 at h ⊢
  rw [hg, hv, hq]
  exact ⟨h.1, h.2.1, h.2.2.1, h.2.2.2.1, fun n h1 => h.2.2.2.2 n (hn n h1)⟩
theorem LWm.enq {m : MS} {w : Nat} {nu : Int} (h : LWm k B t1 t2 W m) (hs : 1 ≤ mg m 1) (hB : mg m 5 + B ≤ W + mg m 1) : LWm k B t1 t2 W (enqM m w nu) ∧ mg (enqM m w nu) = mg m := by
  unfold enqM
  by_cases q : ((mq m).length : Int) < mg m 0
  · rw [if_pos q]
    have e1 : mg m 1 * (((mq m).length : Int) + 1) = mg m 1 * ((mq m).length : Int) + mg m 1 := by rw [Int.mul_add, Int.mul_one]
    have hW := h.2.2.2.1
    have ew : WlM (mg m, mq m ++ [(w, nu, mg m 5)], m.2.2) (mg m 5 - 1) = WlM m (mg m 5 - 1) + mg m 1 := by
      show eQ9 m (mg m 5 - 1) + mg m 1 * ((mq m ++ [(w, nu, mg m 5)]).length : Int) = eQ9 m (mg m 5 - 1) + mg m 1 * ((mq m).length : Int) + mg m 1
      rw [List.length_append]
      push_cast
      show eQ9 m (mg m 5 - 1) + mg m 1 * (((mq m).length : Int) + 1) = _
      omega
    refine ⟨⟨h.1, h.2.1, ?_, ?_, ?_⟩, rfl⟩
    · show wlL (mg m 1) k B t1 (eQ9 m (mg m 5 - 1)) (mq m ++ [(w, nu, mg m 5)])
      refine wlL_snoc h.2.2.1 ?_
      show mg m 5 + B ≤ eQ9 m (mg m 5 - 1) + mg m 1 * (((mq m).length : Int) + 1)
      unfold WlM at hW
      omega
    · show W ≤ WlM (mg m, mq m ++ [(w, nu, mg m 5)], m.2.2) (mg m 5 - 1)
      rw [ew]
      omega
    · intro n hn a b
      show n.1 - (mg m 2 + mg m 3) - 1 + mg m 1 * mg m 0 ≤ WlM (mg m, mq m ++ [(w, nu, mg m 5)], m.2.2) (mg m 5 - 1)
      rw [ew]
      have := h.2.2.2.2 n hn a b
      omega
  · rw [if_neg q]
    exact ⟨h, rfl⟩
theorem LWm.send1 {m : MS} {i : Nat} (h : LWm k B t1 t2 W m) (hs : 1 ≤ mg m 1) (hB : mg m 5 + B ≤ W + mg m 1) : LWm k B t1 t2 W (sendM1 i m) := by
  have h2 : LWm k B t1 t2 W (setSM m i (sentM (ms m i))) := h.same rfl rfl rfl (fun _ x => x)
  unfold sendM1
  split
  · exact (h2.enq hs hB).1
  · rename_i q
    refine ⟨h2.1, h2.2.1, h2.2.2.1, h2.2.2.2.1, ?_⟩
    intro n hn a b
    show n.1 - (mg m 2 + mg m 3) - 1 + mg m 1 * mg m 0 ≤ WlM m (mg m 5 - 1)
    have hn2 : n ∈ mnt m ++ [(mg m 5 + mg m 2 + mg m 3, i, 1, (ms m i).1 6)] := hn
    rcases List.mem_append.1 hn2 with x | x
    · exact h.2.2.2.2 n x a b
    · have en := List.mem_singleton.1 x
      subst en
      show mg m 5 + mg m 2 + mg m 3 - (mg m 2 + mg m 3) - 1 + mg m 1 * mg m 0 ≤ WlM m (mg m 5 - 1)
      have a2 : mg m 1 * mg m 0 ≤ mg m 1 * ((mq m).length : Int) := Int.mul_le_mul_of_nonneg_left (by omega) (by omega)
      have he : mg m 5 - 1 ≤ eQ9 m (mg m 5 - 1) := by
        unfold eQ9
        cases hv : mv m with
        | none => exact Int.le_refl _
        | some p =>
          have := h.1 p hv
          show mg m 5 - 1 ≤ mg m 14
          omega
      unfold WlM
      omega
theorem LWm.sends {i : Nat} : ∀ (n : Nat) {m : MS}, LWm k B t1 t2 W m → 1 ≤ mg m 1 → mg m 5 + B ≤ W + mg m 1 → LWm k B t1 t2 W (sendsM n i m) := by
  intro n
  induction n with
  | zero => intro m h _ _; exact h
  | succ n ih =>
    intro m h hs hB
    show LWm k B t1 t2 W (if _ then _ else _)
    split
    · exact ih (h.send1 hs hB) (by rw [send1_g]; exact hs) (by rw [send1_g]; exact hB)
    · exact h
theorem LWm.acts {m : MS} (h : LWm k B t1 t2 W m) (hs : 1 ≤ mg m 1) (hB : mg m 5 + B ≤ W + mg m 1) : ∀ n, LWm k B t1 t2 W (actsM n m) := by
  intro n
  induction n with
  | zero => exact h
  | succ n ih =>
    have e : mg (slowMk n (actsM n m)) = mg m := acts_g n
    exact LWm.sends _ (ih.same rfl rfl rfl (fun _ x => x)) (by rw [e]; exact hs) (by rw [e]; exact hB)
theorem LWm.enqS {m : MS} {i : Nat} (h : LWm k B t1 t2 W m) (hs : 1 ≤ mg m 1) (hB : mg m 5 + B ≤ W + mg m 1) : LWm k B t1 t2 W (enqSM i m) := by
  unfold enqSM
  split
  · exact (h.enq hs hB).1
  · exact h.same rfl rfl rfl (fun _ x => x)
theorem LWm.burN {i : Nat} : ∀ (n : Nat) {m : MS}, LWm k B t1 t2 W m → 1 ≤ mg m 1 → mg m 5 + B ≤ W + mg m 1 → LWm k B t1 t2 W (burstNM n i m) := by
  intro n
  induction n with
  | zero => intro m h _ _; exact h
  | succ n ih => intro m h hs hB; exact ih (h.enqS hs hB) (by rw [enqS_keep.2.1]; exact hs) (by rw [enqS_keep.2.1]; exact hB)
theorem LWm.burs {m : MS} (h : LWm k B t1 t2 W m) (hs : 1 ≤ mg m 1) (hB : mg m 5 + B ≤ W + mg m 1) : ∀ n, LWm k B t1 t2 W (burstsM n m) := by
  intro n
  induction n with
  | zero => exact h
  | succ n ih => exact LWm.burN _ ih (by rw [(burs_keep n).2.1]; exact hs) (by rw [(burs_keep n).2.1]; exact hB)
theorem LW.mid {nS nC : Nat} {m : MS} (h : LW k B t1 t2 W m) (hs : 1 ≤ mg m 1) (hB : mg m 5 + 1 + B ≤ W + mg m 1) : LWm k B t1 t2 W (midM nS nC m) := by
  have h1 : LWm k B t1 t2 W (handM (nowM m)) := h.now.same rfl rfl rfl (fun n hn => (List.mem_filter.1 hn).1)
  have h2 := h1.acts hs hB nS
  exact h2.burs (by rw [acts_g]; exact hs) (by rw [acts_g]; exact hB) nC
end LWS
