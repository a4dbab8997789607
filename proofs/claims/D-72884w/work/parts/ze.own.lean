/-! Bounds, the account: owners of notices and packets are senders; drains -/
def OW (nS : Nat) (m : MS) : Prop := (∀ n ∈ mnt m, n.2.1 < nS) ∧ (∀ p ∈ mq m, p.1 < 4 → p.1 < nS) ∧ ∀ p, mv m = some p → p.1 < 4 → p.1 < nS
section OWS
variable {nS : Nat} {m m' : MS}
theorem OW.of (h : OW nS m) (e1 : mq m' = mq m) (e2 : mv m' = mv m) (e3 : mnt m' = mnt m) : OW nS m' := by
  unfold OW at h ⊢
  rw [e1, e2, e3]
  exact h
theorem OW.setS {k : Nat} {s : SdM} (h : OW nS m) : OW nS (setSM m k s) := h.of rfl rfl rfl
theorem OW.enq {w : Nat} {nu : Int} (h : OW nS m) (hw : w < 4 → w < nS) : OW nS (enqM m w nu) := by
  unfold enqM
  split
  · refine ⟨h.1, fun p hp => ?_, h.2.2⟩
    have hp : p ∈ mq m ++ [(w, nu, mg m 5)] := hp
    rcases List.mem_append.mp hp with q | q
    · exact h.2.1 p q
    · rw [List.mem_singleton] at q
      rw [q]
      exact hw
  · exact h
theorem OW.push {n : NtM} (h : OW nS m) (hn : n.2.1 < nS) : OW nS (pushM m n) := by
  refine ⟨fun a ha => ?_, h.2.1, h.2.2⟩
  have ha : a ∈ mnt m ++ [n] := ha
  rcases List.mem_append.mp ha with q | q
  · exact h.1 a q
  · rw [List.mem_singleton] at q
    rw [q]
    exact hn
theorem OW.send {k : Nat} (h : OW nS m) (hk : k < nS) : OW nS (sendM1 k m) := by
  unfold sendM1
  split
  · exact h.setS.enq (fun _ => hk)
  · exact h.setS.push hk
theorem OW.sends {k : Nat} (hk : k < nS) : ∀ (n : Nat) (m : MS), OW nS m → OW nS (sendsM n k m) := by
  intro n
  induction n with
  | zero => intro m h; exact h
  | succ n ih =>
    intro m h
    show OW nS (if (ms m k).1 3 ≠ 0 ∧ (ms m k).1 5 < (ms m k).1 4 / 256 then sendsM n k (sendM1 k m) else m)
    split
    · exact ih _ (h.send hk)
    · exact h
theorem OW.act {k : Nat} (h : OW nS m) (hk : k < nS) : OW nS (actM k m) := OW.sends hk _ _ h.setS
theorem OW.acts (h : OW nS m) : ∀ n : Nat, n ≤ nS → OW nS (actsM n m) := by
  intro n
  induction n with
  | zero => intro _; exact h
  | succ n ih => intro hn; exact (ih (by omega)).act (by omega)
theorem OW.hand (h : OW nS m) : OW nS (handM m) := ⟨fun n hn => h.1 n (List.mem_filter.mp hn).1, h.2.1, h.2.2⟩
theorem OW.enqS {k : Nat} (h : OW nS m) : OW nS (enqSM k m) := by
  unfold enqSM
  split
  · exact h.enq (fun z => by omega)
  · exact h.of rfl rfl rfl
theorem OW.burN {k : Nat} : ∀ (n : Nat) (m : MS), OW nS m → OW nS (burstNM n k m) := by
  intro n
  induction n with
  | zero => intro m h; exact h
  | succ n ih => intro m h; exact ih _ h.enqS
theorem OW.burs (h : OW nS m) : ∀ n : Nat, OW nS (burstsM n m) := by
  intro n
  induction n with
  | zero => exact h
  | succ n ih => exact OW.burN _ _ ih
theorem OW.begin (h : OW nS m) : OW nS (beginM m) := by
  unfold beginM
  split
  · rename_i p l e1 e2
    refine ⟨h.1, fun a ha => h.2.1 a ?_, fun a ha => ?_⟩
    · rw [e2]
      exact List.mem_cons_of_mem _ ha
    · have ha : some p = some a := ha
      rw [← Option.some.inj ha]
      exact h.2.1 p (by rw [e2]; exact List.mem_cons_self)
  · exact h
theorem OW.fin (h : OW nS m) : OW nS (finiM m) := by
  unfold finiM
  split
  · rename_i p e1
    split
    · split
      · rename_i q
        refine ⟨fun a ha => ?_, h.2.1, fun a ha => by cases ha⟩
        have ha : a ∈ mnt m ++ [(mg m 5 + mg m 2 + mg m 3, p.1, 0, mg m 5 + mg m 2 - p.2.2 + (ms m p.1).1 2)] := ha
        rcases List.mem_append.mp ha with w | w
        · exact h.1 a w
        · rw [List.mem_singleton] at w
          rw [w]
          exact h.2.2 p e1 q
      · exact ⟨h.1, h.2.1, fun a ha => by cases ha⟩
    · exact h
  · exact h
theorem OW.tick {nC : Nat} (h : OW nS m) : OW nS (tickM nS nC m) := by
  have h1 : OW nS (nowM m) := h.of rfl rfl rfl
  have h2 := ((((h1.hand).acts nS (Nat.le_refl _)).burs nC).begin).fin
  exact h2.of rfl rfl rfl
theorem OW.run {nC : Nat} (h : OW nS m) : ∀ T : Nat, OW nS (tkN nS nC T m) := by
  intro T
  induction T with
  | zero => exact h
  | succ T ih => exact ih.tick
end OWS
section BSO
variable {nS nC : Nat} {m : MS}
theorem BS.own2 (h : BS nS m) (hO : OW nS m) {T : Nat} (hT : mg m 5 + T ≤ tqB) : ∀ i, i ≤ T → (∀ n ∈ mnt (tkN nS nC i m), n.2.1 < nS) ∧ ∀ k, k < nS → FI (vwK k (tkN nS nC i m)) := fun i hi => ⟨(hO.run i).1, fun _ hk => h.fi (nC := nC) i (by omega) hk⟩
theorem BS.q60 (h : BS nS m) {T : Nat} (hT : mg m 5 + T ≤ tqB) : (mq (tkN nS nC T m)).length ≤ 60 := by
  obtain ⟨-, -, hq, hc, -⟩ := h.run (nC := nC) T hT
  unfold QL at hq
  omega
/-- packets' numbers over a run -/
theorem BS.snt (h : BS nS m) (hO : OW nS m) {T : Nat} (hT : mg m 5 + T ≤ tqB) : ∀ j, j < nS → (ms (tkN nS nC T m) j).1 6 ≤ (ms m j).1 6 + crN nS nC T m + 61 := sent_crN h.1 (h.own2 hO hT) (h.q60 (nC := nC) (T := 0) (by omega)) (h.q60 hT)
/-- notices made against packets sent -/
theorem BS.crn (h : BS nS m) (hO : OW nS m) {T : Nat} (hT : mg m 5 + T ≤ tqB) : (crN nS nC T m : Int) ≤ sntM nS (tkN nS nC T m) - sntM nS m + 61 := crN_le h.1 (h.own2 hO hT) (h.q60 (nC := nC) (T := 0) (by omega)) (h.q60 hT)
/-- notices waiting against flights -/
theorem BS.nts (h : BS nS m) (hO : OW nS m) {T : Nat} (hT : mg m 5 + T ≤ tqB) {Λ : Int} (hf : ∀ i, i ≤ T → ∀ k, k < nS → (ms (tkN nS nC i m) k).1 5 ≤ Λ) (h4 : nS * Λ ≤ 4096) : nOK nS nC T m := by
  have key : ∀ i, i ≤ T → (mnt (tkN nS nC i m)).length ≤ 4096 := by
    intro i hi
    obtain ⟨a, b⟩ := h.own2 (nC := nC) hO hT i hi
    have e := notes_le (Bf := fun _ => 6400 * Λ) a b (fun k hk => by have := hf i hi k hk; omega)
    rw [sumN_c] at e
    have e2 : (nS : Int) * (6400 * Λ) = 6400 * (nS * Λ) := Int.mul_left_comm _ _ _
    omega
  exact ⟨key 0 (Nat.zero_le _), fun k hk => key (k + 1) (by omega)⟩
/-- a run with all senders off -/
theorem BS.drain (h : BS nS m) (hO : OW nS m) {T : Nat} (hT : mg m 5 + T ≤ tqB) (hoff : ∀ k, k < nS → (ms m k).1 3 = 0) (hn : (mnt m).length ≤ 4000) : nOK nS nC T m ∧ crN nS nC T m ≤ 61 := by
  have hs : ∀ i k : Nat, k < nS → (ms (tkN nS nC i m) k).1 6 = (ms m k).1 6 := fun i k hk => (off_runs (nC := nC) hk h.1 (hoff k hk) i).1
  have snt : ∀ i : Nat, sntM nS (tkN nS nC i m) = sntM nS m := fun i => sumN_congr nS (fun k hk => hs i k hk)
  have cr : ∀ i, i ≤ T → (crN nS nC i m : Int) ≤ 61 := by
    intro i hi
    have a := h.crn (nC := nC) hO (T := i) (by omega)
    rw [snt i] at a
    omega
  -- flights do not rise
  have fl : ∀ i, i ≤ T → ∀ k, k < nS → (ms (tkN nS nC i m) k).1 5 ≤ (ms m k).1 5 := by
    intro i
    induction i with
    | zero => intro _ k _; exact Int.le_refl _
    | succ i ih =>
      intro hi k hk
      have a := ih (by omega) k hk
      have b := tick_56 (nC := nC) (m := tkN nS nC i m) hk h.1
      have e : tkN nS nC (i + 1) m = tickM nS nC (tkN nS nC i m) := rfl
      have c := hs (i + 1) k hk
      have d := hs i k hk
      rw [e] at c ⊢
      omega
  have key : ∀ i, i ≤ T → (mnt (tkN nS nC i m)).length ≤ 4096 := by
    intro i hi
    obtain ⟨a, b⟩ := h.own2 (nC := nC) hO hT i hi
    obtain ⟨a0, b0⟩ := h.own2 (nC := nC) hO hT 0 (Nat.zero_le _)
    have e := fl_sum a b
    have e0 := fl_sum a0 b0
    have q := (qsM_le h.1 (h.q60 (nC := nC) (T := i) (by omega))).1
    have q0 := (qsM_le h.1 (h.q60 (nC := nC) (T := 0) (by omega))).2
    have s := sumN_le nS (fun k hk => fl i hi k hk)
    have e00 : tkN nS nC 0 m = m := rfl
    rw [e00] at e0 q0
    omega
  exact ⟨⟨key 0 (Nat.zero_le _), fun k hk => key (k + 1) (by omega)⟩, by have := cr T (Nat.le_refl _); omega⟩
end BSO
