/-! Bounds: waiting times under a constant service time, turned from km.ws: packets sent at t1 or later wait s - 1 to s (C0 + 1) - 2 ticks, C0 at least the capacity -/
def wC (s C0 t1 : Int) : Int → List PkM → Prop
  | _, [] => True
  | e, p :: l => (t1 ≤ p.2.2 → p.2.2 + s - 1 ≤ e + s ∧ e + s ≤ p.2.2 + s * C0 + s - 2) ∧ wC s C0 t1 (e + s) l
theorem wC_snoc {s C0 t1 : Int} : ∀ {l : List PkM} {e : Int} {p : PkM}, wC s C0 t1 e l → (t1 ≤ p.2.2 → p.2.2 + s - 1 ≤ e + s * (l.length + 1) ∧ e + s * (l.length + 1) ≤ p.2.2 + s * C0 + s - 2) → wC s C0 t1 e (l ++ [p]) := by
  intro l
  induction l with
  | nil =>
    intro e p _ hp
    refine ⟨fun h => ?_, trivial⟩
    have := hp h
    simp at this
    omega
  | cons a l ih =>
    intro e p h hp
    refine ⟨h.1, ih h.2 (fun q => ?_)⟩
    have := hp q
    rw [List.length_cons] at this
    push_cast at this
    have e1 : s * ((l.length : Int) + 1 + 1) = s * ((l.length : Int) + 1) + s := by rw [Int.mul_add s _ 1, Int.mul_one]
    rw [e1] at this
    omega
/-- between ticks; t0: when the service time was set -/
def WC (C0 t0 t1 : Int) (m : MS) : Prop := (∀ p, mv m = some p → mg m 5 < mg m 14 ∧ mg m 14 ≤ max (mg m 5 + mg m 1 - 1) (t0 + 19) ∧ (t1 ≤ p.2.2 → p.2.2 + mg m 1 - 1 ≤ mg m 14 ∧ mg m 14 ≤ p.2.2 + mg m 1 * C0 + mg m 1 - 2)) ∧ wC (mg m 1) C0 t1 (eQ9 m (mg m 5)) (mq m)
/-- within a tick, before the server's step -/
def WCm (C0 t0 t1 : Int) (m : MS) : Prop := (∀ p, mv m = some p → mg m 5 ≤ mg m 14 ∧ mg m 14 ≤ max (mg m 5 + mg m 1 - 2) (t0 + 19) ∧ (t1 ≤ p.2.2 → p.2.2 + mg m 1 - 1 ≤ mg m 14 ∧ mg m 14 ≤ p.2.2 + mg m 1 * C0 + mg m 1 - 2)) ∧ wC (mg m 1) C0 t1 (eQ9 m (mg m 5 - 1)) (mq m)
section WCS
variable {C0 t0 t1 : Int}
theorem WC.now {m : MS} (h : WC C0 t0 t1 m) : WCm C0 t0 t1 (nowM m) := by
  have e5 : mg (nowM m) 5 = mg m 5 + 1 := rfl
  have e14 : mg (nowM m) 14 = mg m 14 := rfl
  have e1 : mg (nowM m) 1 = mg m 1 := rfl
  refine ⟨?_, ?_⟩
  · intro p hp
    have := h.1 p hp
    rw [e5, e14, e1]
    omega
  · have e : eQ9 (nowM m) (mg (nowM m) 5 - 1) = eQ9 m (mg m 5) := by
      unfold eQ9
      show (match mv m with | some _ => mg (nowM m) 14 | none => mg (nowM m) 5 - 1) = _
      rw [e5, e14]
      cases mv m with
      | none => show mg m 5 + 1 - 1 = mg m 5; omega
      | some p => rfl
    rw [e]
    exact h.2
theorem WCm.same {m m2 : MS} (h : WCm C0 t0 t1 m) (hg : mg m2 = mg m) (hv : mv m2 = mv m) (hq : mq m2 = mq m) : WCm C0 t0 t1 m2 := by
  unfold WCm eQ9 at h ⊢
  rw [hg, hv, hq]
  exact h
theorem WCm.e {m : MS} (h : WCm C0 t0 t1 m) (hs : 1 ≤ mg m 1) : mg m 5 - 1 ≤ eQ9 m (mg m 5 - 1) ∧ (t0 + 20 ≤ mg m 5 → eQ9 m (mg m 5 - 1) ≤ mg m 5 + mg m 1 - 2) := by
  unfold eQ9
  cases hv : mv m with
  | none =>
    show mg m 5 - 1 ≤ mg m 5 - 1 ∧ (_ → mg m 5 - 1 ≤ _)
    omega
  | some p =>
    have := h.1 p hv
    show mg m 5 - 1 ≤ mg m 14 ∧ (_ → mg m 14 ≤ _)
    omega
theorem WCm.enq {m : MS} {w : Nat} {nu : Int} (h : WCm C0 t0 t1 m) (hc : mg m 0 ≤ C0) (hs : 1 ≤ mg m 1) (ht : t0 + 20 ≤ t1) : WCm C0 t0 t1 (enqM m w nu) ∧ mg (enqM m w nu) = mg m := by
  unfold enqM
  by_cases q : ((mq m).length : Int) < mg m 0
  · rw [if_pos q]
    refine ⟨⟨h.1, ?_⟩, rfl⟩
    have he := h.e hs
    show wC (mg m 1) C0 t1 (eQ9 m (mg m 5 - 1)) (mq m ++ [(w, nu, mg m 5)])
    refine wC_snoc h.2 (fun z => ?_)
    have z : t1 ≤ mg m 5 := z
    show mg m 5 + mg m 1 - 1 ≤ eQ9 m (mg m 5 - 1) + mg m 1 * (((mq m).length : Int) + 1) ∧ eQ9 m (mg m 5 - 1) + mg m 1 * (((mq m).length : Int) + 1) ≤ mg m 5 + mg m 1 * C0 + mg m 1 - 2
    have h2 := he.2 (by omega)
    have a1 : mg m 1 * 1 ≤ mg m 1 * (((mq m).length : Int) + 1) := Int.mul_le_mul_of_nonneg_left (by omega) (by omega)
    have a2 : mg m 1 * (((mq m).length : Int) + 1) ≤ mg m 1 * C0 := Int.mul_le_mul_of_nonneg_left (by omega) (by omega)
    omega
  · rw [if_neg q]
    exact ⟨h, rfl⟩
theorem WCm.send1 {m : MS} {k : Nat} (h : WCm C0 t0 t1 m) (hc : mg m 0 ≤ C0) (hs : 1 ≤ mg m 1) (ht : t0 + 20 ≤ t1) : WCm C0 t0 t1 (sendM1 k m) := by
  have h2 : WCm C0 t0 t1 (setSM m k (sentM (ms m k))) := h.same rfl rfl rfl
  unfold sendM1
  split
  · exact (h2.enq hc hs ht).1
  · exact h2.same rfl rfl rfl
theorem WCm.sends {k : Nat} (ht : t0 + 20 ≤ t1) : ∀ (n : Nat) {m : MS}, WCm C0 t0 t1 m → mg m 0 ≤ C0 → 1 ≤ mg m 1 → WCm C0 t0 t1 (sendsM n k m) := by
  intro n
  induction n with
  | zero => intro m h _ _; exact h
  | succ n ih =>
    intro m h hc hs
    show WCm C0 t0 t1 (if _ then _ else _)
    split
    · exact ih (h.send1 hc hs ht) (by rw [send1_g]; exact hc) (by rw [send1_g]; exact hs)
    · exact h
theorem WCm.acts {m : MS} (h : WCm C0 t0 t1 m) (hc : mg m 0 ≤ C0) (hs : 1 ≤ mg m 1) (ht : t0 + 20 ≤ t1) : ∀ n, WCm C0 t0 t1 (actsM n m) := by
  intro n
  induction n with
  | zero => exact h
  | succ n ih =>
    have e : mg (slowMk n (actsM n m)) = mg m := acts_g n
    exact WCm.sends ht _ (ih.same rfl rfl rfl) (by rw [e]; exact hc) (by rw [e]; exact hs)
theorem WCm.enqS {m : MS} {k : Nat} (h : WCm C0 t0 t1 m) (hc : mg m 0 ≤ C0) (hs : 1 ≤ mg m 1) (ht : t0 + 20 ≤ t1) : WCm C0 t0 t1 (enqSM k m) := by
  unfold enqSM
  split
  · exact (h.enq hc hs ht).1
  · exact h.same rfl rfl rfl
theorem WCm.burN {k : Nat} (ht : t0 + 20 ≤ t1) : ∀ (n : Nat) {m : MS}, WCm C0 t0 t1 m → mg m 0 ≤ C0 → 1 ≤ mg m 1 → WCm C0 t0 t1 (burstNM n k m) := by
  intro n
  induction n with
  | zero => intro m h _ _; exact h
  | succ n ih => intro m h hc hs; exact ih (h.enqS hc hs ht) (by rw [enqS_keep.2.1]; exact hc) (by rw [enqS_keep.2.1]; exact hs)
theorem WCm.burs {m : MS} (h : WCm C0 t0 t1 m) (hc : mg m 0 ≤ C0) (hs : 1 ≤ mg m 1) (ht : t0 + 20 ≤ t1) : ∀ n, WCm C0 t0 t1 (burstsM n m) := by
  intro n
  induction n with
  | zero => exact h
  | succ n ih => exact WCm.burN ht _ ih (by rw [(burs_keep n).2.1]; exact hc) (by rw [(burs_keep n).2.1]; exact hs)
/-- behind the server's beginning -/
def WCb (C0 t0 t1 : Int) (m : MS) : Prop := (∀ p, mv m = some p → mg m 5 ≤ mg m 14 ∧ mg m 14 ≤ max (mg m 5 + mg m 1 - 1) (t0 + 19) ∧ (t1 ≤ p.2.2 → p.2.2 + mg m 1 - 1 ≤ mg m 14 ∧ mg m 14 ≤ p.2.2 + mg m 1 * C0 + mg m 1 - 2)) ∧ wC (mg m 1) C0 t1 (eQ9 m (mg m 5)) (mq m)
theorem WCm.begin {m : MS} (h : WCm C0 t0 t1 m) (hs : 1 ≤ mg m 1) : WCb C0 t0 t1 (beginM m) := by
  unfold beginM
  split
  · rename_i p l hv hq
    have h2 := h.2
    unfold eQ9 at h2
    rw [hv, hq] at h2
    obtain ⟨a, b⟩ := h2
    dsimp only at a b
    refine ⟨?_, ?_⟩
    · intro p2 hp2
      have hp2 : some p = some p2 := hp2
      have e : p = p2 := Option.some.inj hp2
      subst e
      show mg m 5 ≤ mg m 5 + mg m 1 - 1 ∧ mg m 5 + mg m 1 - 1 ≤ max (mg m 5 + mg m 1 - 1) (t0 + 19) ∧ (t1 ≤ p.2.2 → p.2.2 + mg m 1 - 1 ≤ mg m 5 + mg m 1 - 1 ∧ mg m 5 + mg m 1 - 1 ≤ p.2.2 + mg m 1 * C0 + mg m 1 - 2)
      refine ⟨by omega, by omega, fun z => ?_⟩
      have := a z
      omega
    · show wC (mg m 1) C0 t1 (mg m 5 + mg m 1 - 1) l
      rw [show mg m 5 + mg m 1 - 1 = mg m 5 - 1 + mg m 1 by omega]
      exact b
  · rename_i hne
    refine ⟨fun p hp => ?_, ?_⟩
    · have := h.1 p hp
      omega
    · cases hv : mv m with
      | none =>
        cases hq : mq m with
        | nil => trivial
        | cons p l => exact absurd hq (hne p l hv)
      | some p =>
        have h2 := h.2
        unfold eQ9 at h2 ⊢
        rw [hv] at h2 ⊢
        exact h2
theorem WCb.fini {m : MS} (h : WCb C0 t0 t1 m) : WC C0 t0 t1 (finiM m) := by
  have h2 := h.2
  unfold finiM
  split
  · rename_i p hv
    have h1 := h.1 p hv
    unfold eQ9 at h2
    rw [hv] at h2
    dsimp only at h2
    split
    · rename_i he
      have key : ∀ (g : Nat → Int) (r : (Nat → SdM) × (Nat → Nat → Int) × List NtM), g 5 = mg m 5 → g 1 = mg m 1 → WC C0 t0 t1 (g, mq m, none, r) := by
        intro g r hg hg1
        refine ⟨fun p hp => (by cases hp), ?_⟩
        show wC (g 1) C0 t1 (g 5) (mq m)
        rw [hg, hg1, ← he]
        exact h2
      split
      · exact key _ _ rfl rfl
      · exact key _ _ rfl rfl
    · rename_i he
      refine ⟨fun p2 hp2 => ?_, ?_⟩
      · have h3 := h.1 p2 hp2
        omega
      · unfold eQ9
        rw [hv]
        exact h2
  · rename_i hv
    unfold eQ9 at h2
    rw [hv] at h2
    refine ⟨fun p hp => (by rw [hv] at hp; cases hp), ?_⟩
    unfold eQ9
    rw [hv]
    exact h2
theorem WC.mid {nS nC : Nat} {m : MS} (h : WC C0 t0 t1 m) (hc : mg m 0 ≤ C0) (hs : 1 ≤ mg m 1) (ht : t0 + 20 ≤ t1) : WCm C0 t0 t1 (midM nS nC m) := by
  have h1 : WCm C0 t0 t1 (handM (nowM m)) := h.now.same rfl rfl rfl
  have h2 := h1.acts hc hs ht nS
  exact h2.burs (by rw [acts_g]; exact hc) (by rw [acts_g]; exact hs) ht nC
theorem WC.tick {nS nC : Nat} {m : MS} (h : WC C0 t0 t1 m) (hc : mg m 0 ≤ C0) (hs : 1 ≤ mg m 1) (ht : t0 + 20 ≤ t1) : WC C0 t0 t1 (tickM nS nC m) ∧ ∀ p, mv (beginM (midM nS nC m)) = some p → mg (beginM (midM nS nC m)) 14 = mg (beginM (midM nS nC m)) 5 → t1 ≤ p.2.2 → p.2.2 + mg m 1 - 1 ≤ mg m 5 + 1 ∧ mg m 5 + 1 ≤ p.2.2 + mg m 1 * C0 + mg m 1 - 2 := by
  have hm : WCm C0 t0 t1 (midM nS nC m) := h.mid hc hs ht
  have hb := hm.begin (by rw [mid_g]; exact hs)
  have hf := hb.fini
  refine ⟨?_, ?_⟩
  · show WC C0 t0 t1 (countM (finiM (beginM (midM nS nC m))))
    generalize finiM (beginM (midM nS nC m)) = x at hf
    refine ⟨hf.1, ?_⟩
    have h2 := hf.2
    unfold eQ9 at h2 ⊢
    exact h2
  · intro p hp he hz
    have := (hb.1 p hp).2.2 hz
    have e5 : mg (beginM (midM nS nC m)) 5 = mg m 5 + 1 := by
      rw [(begin_keep (m := midM nS nC m)).2.2 5 (by decide), mid_g]
      rfl
    have e1 : mg (beginM (midM nS nC m)) 1 = mg m 1 := by
      rw [(begin_keep (m := midM nS nC m)).2.2 1 (by decide), mid_g]
      rfl
    rw [e1, he, e5] at this
    omega
/-- how long the finished one of sender k has waited -/
theorem fnB_waitC {nS nC k : Nat} {m : MS} (h : WC C0 t0 t1 m) (hc : mg m 0 ≤ C0) (hs : 1 ≤ mg m 1) (ht : t0 + 20 ≤ t1) (hz : fnB k (beginM (midM nS nC m)) = true) : ∃ a t, own k (beginM (midM nS nC m)) = a :: t ∧ (t1 ≤ a → a + mg m 1 - 1 ≤ mg m 5 + 1 ∧ mg m 5 + 1 ≤ a + mg m 1 * C0 + mg m 1 - 2) := by
  have hw := (h.tick (nS := nS) (nC := nC) hc hs ht).2
  unfold fnB at hz
  cases hv : mv (beginM (midM nS nC m)) with
  | none => rw [hv] at hz; cases hz
  | some p =>
    rw [hv] at hz
    dsimp only at hz
    have z := of_decide_eq_true hz
    refine ⟨p.2.2, ownL k (mq (beginM (midM nS nC m))), ?_, hw p hv z.1⟩
    unfold own ownV
    rw [hv]
    dsimp only
    rw [if_pos z.2]
    rfl
end WCS
