/-! Bounds: where a packet has waited long in the queue few acknowledgments are on their way: those finished behind its coming stood ahead of it -/
def cA (N : List NtM) (t : Int) : Nat := N.countP (fun n => decide (n.2.2.1 = 0 ∧ t < n.1))
/-- the packet at place i (counted behind the one that is served): acknowledgments finished behind its coming, and i, are at most 60 -/
def qaL (N : List NtM) : Nat → List PkM → Prop
  | _, [] => True
  | i, p :: l => cA N (p.2.2 + 200) + i ≤ 60 ∧ qaL N (i + 1) l
theorem qaL_le {N N2 : List NtM} (h : ∀ t, cA N2 t ≤ cA N t) : ∀ {l : List PkM} {i j : Nat}, j ≤ i → qaL N i l → qaL N2 j l := by
  intro l
  induction l with
  | nil => intro i j _ _; trivial
  | cons p l ih =>
    intro i j hj hl
    have := h (p.2.2 + 200)
    exact ⟨by have := hl.1; omega, ih (by omega) hl.2⟩
theorem qaL_fin {N N2 : List NtM} (h : ∀ t, cA N2 t ≤ cA N t + 1) : ∀ {l : List PkM} {i : Nat}, qaL N (i + 1) l → qaL N2 i l := by
  intro l
  induction l with
  | nil => intro i _; trivial
  | cons p l ih =>
    intro i hl
    have := h (p.2.2 + 200)
    exact ⟨by have := hl.1; omega, ih hl.2⟩
theorem qaL_snoc {N : List NtM} {p : PkM} : ∀ {l : List PkM} {i : Nat}, qaL N i l → cA N (p.2.2 + 200) + (i + l.length) ≤ 60 → qaL N i (l ++ [p]) := by
  intro l
  induction l with
  | nil =>
    intro i _ hp
    exact ⟨by simpa using hp, trivial⟩
  | cons a l ih =>
    intro i h hp
    refine ⟨h.1, ih h.2 ?_⟩
    rw [List.length_cons] at hp
    omega
def sVn : Option PkM → Nat
  | none => 0
  | some _ => 1
def QA (m : MS) : Prop := qaL (mnt m) (sVn (mv m)) (mq m) ∧ ∀ n ∈ mnt m, n.1 ≤ mg m 5 + 200
theorem cA_0 {N : List NtM} {t : Int} (h : ∀ n ∈ N, n.1 ≤ t) : cA N t = 0 := by
  unfold cA
  rw [List.countP_eq_zero]
  intro n hn hd
  have := (of_decide_eq_true hd).2
  have := h n hn
  omega
theorem cA_app {N : List NtM} {n : NtM} {t : Int} : cA (N ++ [n]) t ≤ cA N t + 1 ∧ (n.2.2.1 ≠ 0 → cA (N ++ [n]) t = cA N t) := by
  unfold cA
  rw [List.countP_append, List.countP_singleton]
  refine ⟨by split <;> omega, fun h => ?_⟩
  rw [if_neg (by
    intro hd
    exact h (of_decide_eq_true hd).1)]
  omega
theorem QA.same {m m2 : MS} (h : QA m) (hg : mg m2 5 = mg m 5) (hv : mv m2 = mv m) (hq : mq m2 = mq m) (hn : mnt m2 = mnt m) : QA m2 := by
  unfold QA at h ⊢
  rw [hg, hv, hq, hn]
  exact h
theorem QA.now {m : MS} (h : QA m) : QA (nowM m) := by
  refine ⟨h.1, fun n hn => ?_⟩
  have := h.2 n hn
  show n.1 ≤ mg m 5 + 1 + 200
  omega
theorem QA.hand {m : MS} (h : QA m) : QA (handM m) := by
  have e : mnt (handM m) = (mnt m).filter (fun n => n.1 ≠ mg m 5) := rfl
  refine ⟨qaL_le (fun t => ?_) (Nat.le_refl _) h.1, fun n hn => ?_⟩
  · rw [e]
    exact List.filter_sublist.countP_le
  · rw [e] at hn
    exact h.2 n (List.mem_filter.1 hn).1
theorem QA.enq {m : MS} {w : Nat} {nu : Int} (h : QA m) (hc : mg m 0 ≤ 60) : QA (enqM m w nu) ∧ mg (enqM m w nu) = mg m := by
  unfold enqM
  by_cases q : ((mq m).length : Int) < mg m 0
  · rw [if_pos q]
    refine ⟨⟨?_, h.2⟩, rfl⟩
    show qaL (mnt m) (sVn (mv m)) (mq m ++ [(w, nu, mg m 5)])
    refine qaL_snoc h.1 ?_
    have e : cA (mnt m) (mg m 5 + 200) = 0 := cA_0 h.2
    show cA (mnt m) (mg m 5 + 200) + (sVn (mv m) + (mq m).length) ≤ 60
    have : sVn (mv m) ≤ 1 := by
      cases mv m with
      | none => exact Nat.zero_le _
      | some p => exact Nat.le_refl _
    omega
  · rw [if_neg q]
    exact ⟨h, rfl⟩
theorem QA.push {m : MS} {n : NtM} (h : QA m) (hn : n.2.2.1 ≠ 0) (ht : n.1 ≤ mg m 5 + 200) : QA (pushM m n) := by
  have e : mnt (pushM m n) = mnt m ++ [n] := rfl
  refine ⟨?_, fun a ha => ?_⟩
  · refine qaL_le (fun t => ?_) (Nat.le_refl _) h.1
    rw [e, cA_app.2 hn]
    exact Nat.le_refl _
  · rw [e] at ha
    rcases List.mem_append.1 ha with x | x
    · exact h.2 a x
    · rw [List.mem_singleton.1 x]
      exact ht
theorem QA.send1 {m : MS} {k : Nat} (h : QA m) (hc : mg m 0 ≤ 60) (hR : mg m 2 + mg m 3 ≤ 200) : QA (sendM1 k m) := by
  have h2 : QA (setSM m k (sentM (ms m k))) := h.same rfl rfl rfl rfl
  unfold sendM1
  split
  · exact (h2.enq hc).1
  · refine h2.push (by show (1 : Int) ≠ 0; decide) ?_
    show mg m 5 + mg m 2 + mg m 3 ≤ mg m 5 + 200
    omega
theorem QA.sends {k : Nat} : ∀ (n : Nat) {m : MS}, QA m → mg m 0 ≤ 60 → mg m 2 + mg m 3 ≤ 200 → QA (sendsM n k m) := by
  intro n
  induction n with
  | zero => intro m h _ _; exact h
  | succ n ih =>
    intro m h hc hR
    show QA (if _ then _ else _)
    split
    · exact ih (h.send1 hc hR) (by rw [send1_g]; exact hc) (by rw [send1_g]; exact hR)
    · exact h
theorem QA.acts {m : MS} (h : QA m) (hc : mg m 0 ≤ 60) (hR : mg m 2 + mg m 3 ≤ 200) : ∀ n, QA (actsM n m) := by
  intro n
  induction n with
  | zero => exact h
  | succ n ih =>
    have e : mg (slowMk n (actsM n m)) = mg m := acts_g n
    exact QA.sends _ (ih.same rfl rfl rfl rfl) (by rw [e]; exact hc) (by rw [e]; exact hR)
theorem QA.enqS {m : MS} {k : Nat} (h : QA m) (hc : mg m 0 ≤ 60) : QA (enqSM k m) := by
  unfold enqSM
  split
  · exact (h.enq hc).1
  · exact h.same rfl rfl rfl rfl
theorem QA.burN {k : Nat} : ∀ (n : Nat) {m : MS}, QA m → mg m 0 ≤ 60 → QA (burstNM n k m) := by
  intro n
  induction n with
  | zero => intro m h _; exact h
  | succ n ih => intro m h hc; exact ih (h.enqS hc) (by rw [enqS_keep.2.1]; exact hc)
theorem QA.burs {m : MS} (h : QA m) (hc : mg m 0 ≤ 60) : ∀ n, QA (burstsM n m) := by
  intro n
  induction n with
  | zero => exact h
  | succ n ih => exact QA.burN _ ih (by rw [(burs_keep n).2.1]; exact hc)
theorem QA.begin {m : MS} (h : QA m) : QA (beginM m) := by
  have h5 : mg (beginM m) 5 = mg m 5 := (begin_keep (m := m)).2.2 5 (by decide)
  unfold beginM at h5 ⊢
  split at h5
  · rename_i p l hv hq
    have h1 := h.1
    rw [hv, hq] at h1
    refine ⟨?_, fun n hn => ?_⟩
    · show qaL (mnt m) 1 l
      exact h1.2
    · have := h.2 n hn
      rw [h5]
      exact this
  · exact h
theorem QA.fini {m : MS} (h : QA m) (hR : mg m 2 + mg m 3 ≤ 200) : QA (finiM m) := by
  have h1 := h.1
  unfold finiM
  split
  · rename_i p hv
    rw [hv] at h1
    have h1 : qaL (mnt m) 1 (mq m) := h1
    split
    · split
      · refine ⟨?_, fun n hn => ?_⟩
        · exact qaL_fin (fun t => cA_app.1) h1
        · rcases List.mem_append.1 hn with x | x
          · exact h.2 n x
          · rw [List.mem_singleton.1 x]
            show mg m 5 + mg m 2 + mg m 3 ≤ mg m 5 + 200
            omega
      · exact ⟨qaL_le (fun t => Nat.le_refl _) (Nat.zero_le _) h1, h.2⟩
    · exact h
  · exact h
theorem QA.tick {nS nC : Nat} {m : MS} (h : QA m) (hc : mg m 0 ≤ 60) (hR : mg m 2 + mg m 3 ≤ 200) : QA (tickM nS nC m) := by
  have h1 : QA (handM (nowM m)) := h.now.hand
  have h2 := h1.acts hc hR nS
  have h3 : QA (midM nS nC m) := h2.burs (by rw [acts_g]; exact hc) nC
  have h4 := h3.begin.fini (by
    rw [(begin_keep (m := midM nS nC m)).2.2 2 (by decide), (begin_keep (m := midM nS nC m)).2.2 3 (by decide), mid_g]
    exact hR)
  exact h4.same rfl rfl rfl rfl
/-- where one of the queue came 200 ticks ago -/
theorem QA.few {m : MS} (h : QA m) (hn : ∀ n ∈ mnt m, mg m 5 < n.1) {p : PkM} (hp : p ∈ mq m) (ht : p.2.2 + 200 ≤ mg m 5) : (mnt m).countP (fun n => decide (n.2.2.1 = 0)) ≤ 60 := by
  have key : ∀ (l : List PkM) (i : Nat), qaL (mnt m) i l → p ∈ l → cA (mnt m) (p.2.2 + 200) ≤ 60 := by
    intro l
    induction l with
    | nil => intro i _ hl; cases hl
    | cons a l ih =>
      intro i h1 hl
      rcases List.mem_cons.1 hl with x | x
      · have := h1.1
        rw [x]
        omega
      · exact ih _ h1.2 x
  refine Nat.le_trans ?_ (key _ _ h.1 hp)
  unfold cA
  refine List.countP_mono_left (fun n hn2 hd => ?_)
  have := hn n hn2
  exact decide_eq_true ⟨of_decide_eq_true hd, by omega⟩
