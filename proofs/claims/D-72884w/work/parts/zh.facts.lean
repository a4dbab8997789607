/-! Bounds, the account: facts of every state over ticks; senders off; drains -/
section BAF
variable {nS nC : Nat} {m : MS} {lo hi : Nat → Int}
theorem BAs.fi (h : BAs nS m lo hi) (T : Nat) (hT : mg m 5 + T ≤ tqB) {k : Nat} (hk : k < nS) : FI (vwK k (tkN nS nC T m)) := by
  obtain ⟨g, hG, -⟩ := (h.run (nC := nC) T hT).2.2.2.2.2.2.2.1 k hk
  exact hG.1.1.1.1
theorem BAs.own2 (h : BAs nS m lo hi) {T : Nat} (hT : mg m 5 + T ≤ tqB) : ∀ i, i ≤ T → (∀ n ∈ mnt (tkN nS nC i m), n.2.1 < nS) ∧ ∀ k, k < nS → FI (vwK k (tkN nS nC i m)) := fun i hi => ⟨(h.2.2.2.2.2.2.2.2.2.2.1.run i).1, fun _ hk => h.fi (nC := nC) i (by omega) hk⟩
theorem BAs.q60 (h : BAs nS m lo hi) {T : Nat} (hT : mg m 5 + T ≤ tqB) : (mq (tkN nS nC T m)).length ≤ 60 := (h.run (nC := nC) T hT).2.2.1
theorem BAs.snt (h : BAs nS m lo hi) {T : Nat} (hT : mg m 5 + T ≤ tqB) : ∀ j, j < nS → (ms (tkN nS nC T m) j).1 6 ≤ (ms m j).1 6 + crN nS nC T m + 61 := sent_crN h.1 (h.own2 hT) (h.q60 (nC := nC) (T := 0) (by omega)) (h.q60 hT)
theorem BAs.crn (h : BAs nS m lo hi) {T : Nat} (hT : mg m 5 + T ≤ tqB) : (crN nS nC T m : Int) ≤ sntM nS (tkN nS nC T m) - sntM nS m + 61 := crN_le h.1 (h.own2 hT) (h.q60 (nC := nC) (T := 0) (by omega)) (h.q60 hT)
theorem BAs.nts (h : BAs nS m lo hi) {T : Nat} (hT : mg m 5 + T ≤ tqB) {Λ : Int} (hf : ∀ i, i ≤ T → ∀ k, k < nS → (ms (tkN nS nC i m) k).1 5 ≤ Λ) (h4 : nS * Λ ≤ 4096) : nOK nS nC T m := by
  have key : ∀ i, i ≤ T → (mnt (tkN nS nC i m)).length ≤ 4096 := by
    intro i hi
    obtain ⟨a, b⟩ := h.own2 (nC := nC) hT i hi
    have e := notes_le (Bf := fun _ => 6400 * Λ) a b (fun k hk => by have := hf i hi k hk; omega)
    rw [sumN_c] at e
    have e2 : (nS : Int) * (6400 * Λ) = 6400 * (nS * Λ) := Int.mul_left_comm _ _ _
    omega
  exact ⟨key 0 (Nat.zero_le _), fun k hk => key (k + 1) (by omega)⟩
theorem BAs.drain (h : BAs nS m lo hi) {T : Nat} (hT : mg m 5 + T ≤ tqB) (hoff : ∀ k, k < nS → (ms m k).1 3 = 0) (hn : (mnt m).length ≤ 4000) : nOK nS nC T m ∧ crN nS nC T m ≤ 61 := by
  have hs : ∀ i k : Nat, k < nS → (ms (tkN nS nC i m) k).1 6 = (ms m k).1 6 := fun i k hk => (off_runs (nC := nC) hk h.1 (hoff k hk) i).1
  have snt : ∀ i : Nat, sntM nS (tkN nS nC i m) = sntM nS m := fun i => sumN_congr nS (fun k hk => hs i k hk)
  have cr : ∀ i, i ≤ T → (crN nS nC i m : Int) ≤ 61 := by
    intro i hi
    have a := h.crn (nC := nC) (T := i) (by omega)
    rw [snt i] at a
    omega
  have fl : ∀ i, i ≤ T → ∀ k, k < nS → (ms (tkN nS nC i m) k).1 5 ≤ (ms m k).1 5 := by
    intro i
    induction i with
    | zero => intro _ k _; exact Int.le_refl _
    | succ i ih =>
      intro hi k hk
      have a := ih (by omega) k hk
      have b := tick_56 (nC := nC) (m := tkN nS nC i m) hk h.1
      have e : tkN nS nC (i + 1) m = tickM nS nC (tkN nS nC i m) := rfl
      have c := hs (i + 1) k hk
      have d := hs i k hk
      rw [e] at c ⊢
      omega
  have key : ∀ i, i ≤ T → (mnt (tkN nS nC i m)).length ≤ 4096 := by
    intro i hi
    obtain ⟨a, b⟩ := h.own2 (nC := nC) hT i hi
    obtain ⟨a0, b0⟩ := h.own2 (nC := nC) hT 0 (Nat.zero_le _)
    have e := fl_sum a b
    have e0 := fl_sum a0 b0
    have q := (qsM_le h.1 (h.q60 (nC := nC) (T := i) (by omega))).1
    have q0 := (qsM_le h.1 (h.q60 (nC := nC) (T := 0) (by omega))).2
    have s := sumN_le nS (fun k hk => fl i hi k hk)
    have e00 : tkN nS nC 0 m = m := rfl
    rw [e00] at e0 q0
    omega
  exact ⟨⟨key 0 (Nat.zero_le _), fun k hk => key (k + 1) (by omega)⟩, by have := cr T (Nat.le_refl _); omega⟩
theorem BAs.off (h : BAs nS m lo hi) (h5 : mg m 5 ≤ 100000) (k : Nat) : BAs nS (offSM m k) lo hi := by
  have e : offSM m k = fldM m k 3 0 := rfl
  rw [e]
  exact h.fld h5 (by omega) (fun z => by omega) (fun z => by omega) (fun z => by omega) (fun k hk => ⟨Int.le_refl _, Int.le_refl _⟩) (fun z => by omega)
theorem off_3 {i j : Nat} : (ms (offSM m i) j).1 3 = if j = i then 0 else (ms m j).1 3 := by
  have e : offSM m i = fldM m i 3 0 := rfl
  rw [e, fld_s]
  split
  · rfl
  · rfl
theorem BAs.offs (h : BAs nS m lo hi) (h5 : mg m 5 ≤ 100000) : ∀ K : Nat, BAs nS (offK K m) lo hi ∧ mg (offK K m) = mg m ∧ mnt (offK K m) = mnt m ∧ ∀ k, k < K → (ms (offK K m) k).1 3 = 0 := by
  intro K
  induction K with
  | zero => exact ⟨h, rfl, rfl, fun k hk => by omega⟩
  | succ K ih =>
    obtain ⟨a, b, c, d⟩ := ih
    refine ⟨a.off (by rw [b]; exact h5) K, b, c, fun k hk => ?_⟩
    show (ms (offSM (offK K m) K) k).1 3 = 0
    rw [off_3]
    split
    · rfl
    · exact d k (by omega)
/-- drainTime -/
theorem BAs.hdr {u : CuM} (h : BAs u.1 u.2.2 lo hi) (hn : (mnt u.2.2).length ≤ 4000) {K : Nat} (hK : K ≤ 500) (h5 : mg u.2.2 5 + K ≤ 100000) : nOK u.1 u.2.1 K (offK u.1 u.2.2) ∧ (∀ j, j < u.1 → (ms (tkN u.1 u.2.1 K (offK u.1 u.2.2)) j).1 6 ≤ (ms (offK u.1 u.2.2) j).1 6 + crN u.1 u.2.1 K (offK u.1 u.2.2) + 61) ∧ crN u.1 u.2.1 K (offK u.1 u.2.2) ≤ 100 := by
  obtain ⟨a, b, c, d⟩ := h.offs (by omega) u.1
  have hT : mg (offK u.1 u.2.2) 5 + K ≤ tqB := by
    rw [b]
    show _ ≤ (1000000 : Int)
    omega
  have e := a.drain (nC := u.2.1) hT d (by rw [c]; exact hn)
  exact ⟨e.1, a.snt hT, by omega⟩
end BAF
