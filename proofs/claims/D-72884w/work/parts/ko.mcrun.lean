/-! Bounds, mode C: a run of ticks; packets in the queue that were sent behind t1 -/
section MCR
variable {nS nC : Nat} {m : MS} {r : Int} {lo hi : Nat → Int} {K M U1 C1 Z Q : Int} {A X C3 w1 : Nat} {y : Nat → Int}
theorem MC.run (hP : PCs K M A X U1 C1 Z C3 w1) (hKQ : ∀ k, k < nS → hi k - lo k + 1 ≤ K ∧ hi k - lo k ≤ Q) (hQ0 : 0 ≤ Q) (hMQ : 4194304 * Q ≤ M * (A + 1)) (h4 : nS ≤ 4) (h : MC nS m r lo hi M U1 C1 Z X A y) (h0 : 0 ≤ mg m 5 + 1) (hr0 : 1 ≤ r) (hrR : r ≤ mg m 2 + mg m 3) (hs : 1 ≤ mg m 1) : ∀ T : Nat, (∀ i, i < T → frOK nS nC (tkN nS nC i m) lo hi) → ∃ y2, MC nS (tkN nS nC T m) r lo hi M U1 C1 Z X A y2 ∧ mg m 1 * sumN y2 nS + 183 * (mg m 1 * (r * (M * (sntM nS (tkN nS nC T m) - sntM nS m)))) ≤ mg m 1 * sumN y nS + 183 * (r * (M * (A : Int)) * (phM (tkN nS nC T m) - phM m)) + mg m 1 * (nS * (T * (183 * M + 3 * (r * M)) + 61 * (r * (M * Z * ((mg m 5 + T) / 200 - mg m 5 / 200))))) := by
  intro T
  induction T with
  | zero =>
    intro _
    refine ⟨y, h, ?_⟩
    have e : tkN nS nC 0 m = m := rfl
    rw [e, Int.sub_self, Int.sub_self]
    have : (mg m 5 + ((0 : Nat) : Int)) / 200 - mg m 5 / 200 = 0 := by
      rw [show mg m 5 + ((0 : Nat) : Int) = mg m 5 by omega]
      omega
    rw [this]
    simp
  | succ T ih =>
    intro hf
    obtain ⟨y2, hM2, hY⟩ := ih (fun i hi => hf i (by omega))
    have hfT := hf T (by omega)
    have g1 := tkN_g (nS := nS) (nC := nC) (m := m) (i := 1) (by decide) (by decide) (by decide) (by decide) (by decide) (by decide) T
    have g2 := tkN_g (nS := nS) (nC := nC) (m := m) (i := 2) (by decide) (by decide) (by decide) (by decide) (by decide) (by decide) T
    have g3 := tkN_g (nS := nS) (nC := nC) (m := m) (i := 3) (by decide) (by decide) (by decide) (by decide) (by decide) (by decide) T
    have g5 := tkN_5 (nS := nS) (nC := nC) (m := m) T
    have et : tkN nS nC (T + 1) m = tickM nS nC (tkN nS nC T m) := rfl
    rw [et]
    generalize tkN nS nC T m = x at *
    have hM0 : 0 < M := hP.1
    have hMA : 0 ≤ M * (A : Int) := Int.mul_nonneg (by omega) (by omega)
    have hrMA : 0 ≤ r * (M * (A : Int)) := Int.mul_nonneg (by omega) hMA
    have hM3 := hM2.tick (nC := nC) hP hKQ hQ0 hMQ h4 (by rw [g5]; omega) hr0 (by rw [g2, g3]; exact hrR) hfT
    have hS := yC_sum (nS := nS) (nC := nC) (m := x) (r := r) (M := M) (Z := Z) (A := A) (y := y2) hrMA
    have hPh := (phM_tick (nS := nS) (nC := nC) (m := x) (by rw [g1]; exact hs)).1
    refine ⟨yC nS nC x r M Z A y2, hM3, ?_⟩
    rw [g5] at hS
    rw [g1] at hPh
    generalize mg m 1 = sv at *
    generalize mg m 5 = a at *
    generalize sumN (yC nS nC x r M Z A y2) nS = Y3 at *
    generalize sumN y2 nS = Y2 at *
    generalize sumN y nS = Y1 at *
    generalize sntM nS (tickM nS nC x) = S3 at *
    generalize sntM nS x = S2 at *
    generalize sntM nS m = S1 at *
    generalize phM (tickM nS nC x) = P3 at *
    generalize phM x = P2 at *
    generalize phM m = P1 at *
    generalize fiB (beginM (midM nS nC x)) = F at *
    have eT : a + ((T + 1 : Nat) : Int) = a + T + 1 := by omega
    rw [eT]
    generalize hD1 : (a + (T : Int)) / 200 - a / 200 = D1 at *
    have hD2 : (a + (T : Int) + 1) / 200 - a / 200 = D1 + ((a + (T : Int) + 1) / 200 - (a + (T : Int)) / 200) := by omega
    rw [hD2]
    generalize (a + (T : Int) + 1) / 200 - (a + (T : Int)) / 200 = D2 at *
    generalize r * (M * (A : Int)) = B at *
    have b1 : sv * (Y3 + 183 * (r * (M * (S3 - S2)))) ≤ sv * (Y2 + 183 * (B * F) + nS * (61 * (r * (M * Z * D2)) + 183 * M + 3 * (r * M))) := Int.mul_le_mul_of_nonneg_left hS (by omega)
    have b2 : B * (sv * F) ≤ B * (P3 - P2) := Int.mul_le_mul_of_nonneg_left hPh hrMA
    have c1 : sv * (Y3 + 183 * (r * (M * (S3 - S2)))) = sv * Y3 + 183 * (sv * (r * (M * (S3 - S2)))) := by
      rw [Int.mul_add, Int.mul_left_comm sv 183]
    have c2 : sv * (Y2 + 183 * (B * F) + nS * (61 * (r * (M * Z * D2)) + 183 * M + 3 * (r * M))) = sv * Y2 + 183 * (B * (sv * F)) + sv * (nS * (61 * (r * (M * Z * D2)) + 183 * M + 3 * (r * M))) := by
      rw [Int.mul_add, Int.mul_add, Int.mul_left_comm sv 183, Int.mul_left_comm sv B F]
    have c3 : sv * (r * (M * (S3 - S1))) = sv * (r * (M * (S3 - S2))) + sv * (r * (M * (S2 - S1))) := by
      rw [← Int.mul_add, ← Int.mul_add, ← Int.mul_add]
      congr 3
      omega
    have c4 : B * (P3 - P1) = B * (P3 - P2) + B * (P2 - P1) := by
      rw [← Int.mul_add]
      congr 1
      omega
    have c5 : sv * (nS * (((T + 1 : Nat) : Int) * (183 * M + 3 * (r * M)) + 61 * (r * (M * Z * (D1 + D2))))) = sv * (nS * (T * (183 * M + 3 * (r * M)) + 61 * (r * (M * Z * D1)))) + sv * (nS * (61 * (r * (M * Z * D2)) + 183 * M + 3 * (r * M))) := by
      rw [← Int.mul_add, ← Int.mul_add]
      congr 2
      push_cast
      rw [Int.add_mul, Int.one_mul, Int.mul_add (M * Z), Int.mul_add r]
      omega
    rw [c3, c4, c5]
    omega
/-- all packets in the queue and the server were sent at t1 or later -/
def CQ (t1 : Int) (m : MS) : Prop := (∀ p, mv m = some p → t1 ≤ p.2.2) ∧ ∀ p ∈ mq m, t1 ≤ p.2.2
end MCR
section CQS
variable {t1 : Int}
theorem CQ.same {m m2 : MS} (h : CQ t1 m) (hv : mv m2 = mv m) (hq : mq m2 = mq m) : CQ t1 m2 := by
  unfold CQ at h ⊢
  rw [hv, hq]
  exact h
theorem CQ.enq {m : MS} {w : Nat} {nu : Int} (h : CQ t1 m) (ht : t1 ≤ mg m 5) : CQ t1 (enqM m w nu) := by
  unfold enqM
  split
  · refine ⟨h.1, fun p hp => ?_⟩
    have hp : p ∈ mq m ++ [(w, nu, mg m 5)] := hp
    rcases List.mem_append.mp hp with q | q
    · exact h.2 p q
    · rw [List.mem_singleton] at q
      rw [q]
      exact ht
  · exact h
theorem CQ.send1 {m : MS} {k : Nat} (h : CQ t1 m) (ht : t1 ≤ mg m 5) : CQ t1 (sendM1 k m) := by
  have h2 : CQ t1 (setSM m k (sentM (ms m k))) := h.same rfl rfl
  unfold sendM1
  split
  · exact h2.enq ht
  · exact h2.same rfl rfl
theorem CQ.sends {k : Nat} : ∀ (n : Nat) {m : MS}, CQ t1 m → t1 ≤ mg m 5 → CQ t1 (sendsM n k m) := by
  intro n
  induction n with
  | zero => intro m h _; exact h
  | succ n ih =>
    intro m h ht
    show CQ t1 (if _ then _ else _)
    split
    · exact ih (h.send1 ht) (by rw [send1_g]; exact ht)
    · exact h
theorem CQ.acts {m : MS} (h : CQ t1 m) (ht : t1 ≤ mg m 5) : ∀ n, CQ t1 (actsM n m) := by
  intro n
  induction n with
  | zero => exact h
  | succ n ih =>
    have e : mg (slowMk n (actsM n m)) = mg m := acts_g n
    exact CQ.sends _ (ih.same rfl rfl) (by rw [e]; exact ht)
theorem CQ.enqS {m : MS} {k : Nat} (h : CQ t1 m) (ht : t1 ≤ mg m 5) : CQ t1 (enqSM k m) := by
  unfold enqSM
  split
  · exact h.enq ht
  · exact h.same rfl rfl
theorem CQ.burN {k : Nat} : ∀ (n : Nat) {m : MS}, CQ t1 m → t1 ≤ mg m 5 → CQ t1 (burstNM n k m) := by
  intro n
  induction n with
  | zero => intro m h _; exact h
  | succ n ih => intro m h ht; exact ih (h.enqS ht) (by rw [enqS_keep.2.1]; exact ht)
theorem CQ.burs {m : MS} (h : CQ t1 m) (ht : t1 ≤ mg m 5) : ∀ n, CQ t1 (burstsM n m) := by
  intro n
  induction n with
  | zero => exact h
  | succ n ih => exact CQ.burN _ ih (by rw [(burs_keep n).2.1]; exact ht)
theorem CQ.mid {nS nC : Nat} {m : MS} (h : CQ t1 m) (ht : t1 ≤ mg m 5 + 1) : CQ t1 (midM nS nC m) := by
  have h1 : CQ t1 (handM (nowM m)) := h.same rfl rfl
  have h2 := h1.acts (show t1 ≤ mg (handM (nowM m)) 5 from ht) nS
  exact h2.burs (by rw [acts_g]; exact ht) nC
theorem CQ.begin {m : MS} (h : CQ t1 m) : CQ t1 (beginM m) := by
  unfold beginM
  split
  · rename_i p l hv hq
    refine ⟨fun p2 hp2 => ?_, fun p2 hp2 => h.2 p2 ?_⟩
    · have e : p = p2 := Option.some.inj hp2
      rw [← e]
      exact h.2 p (by rw [hq]; exact List.mem_cons_self)
    · rw [hq]
      exact List.mem_cons_of_mem _ hp2
  · exact h
theorem CQ.fini {m : MS} (h : CQ t1 m) : CQ t1 (finiM m) := by
  unfold finiM
  split
  · split
    · split
      · exact ⟨fun p hp => (by cases hp), h.2⟩
      · exact ⟨fun p hp => (by cases hp), h.2⟩
    · exact h
  · exact h
theorem CQ.tick {nS nC : Nat} {m : MS} (h : CQ t1 m) (ht : t1 ≤ mg m 5 + 1) : CQ t1 (tickM nS nC m) := by
  have h1 := (h.mid (nS := nS) (nC := nC) ht).begin.fini
  exact h1.same rfl rfl
/-- so the delays lie in a range of 60 s -/
theorem CQ.fr {nS nC : Nat} {m : MS} {t0 : Int} (h : CQ t1 m) (hW : WS t0 t1 m) (hc : mg m 0 ≤ 60) (hs : 1 ≤ mg m 1) (ht : t0 + 20 ≤ t1) (ht1 : t1 ≤ mg m 5 + 1) : frOK nS nC m (fun k => mg m 1 - 1 + mg m 2 + (ms m k).1 2) (fun k => 61 * mg m 1 - 2 + mg m 2 + (ms m k).1 2) := by
  intro k hk hz x t hx
  obtain ⟨a, t2, e, hw⟩ := fnB_waitS hW hc hs ht hz
  rw [hx] at e
  have ex : x = a := (List.cons.inj e).1
  have hb := (h.mid (nS := nS) (nC := nC) ht1).begin
  -- the first of its own is old enough
  have ha : t1 ≤ a := by
    have hz2 := hz
    unfold fnB at hz2
    cases hv : mv (beginM (midM nS nC m)) with
    | none => rw [hv] at hz2; cases hz2
    | some p =>
      rw [hv] at hz2
      dsimp only at hz2
      have z := of_decide_eq_true hz2
      have hp := hb.1 p hv
      have eo : own k (beginM (midM nS nC m)) = p.2.2 :: ownL k (mq (beginM (midM nS nC m))) := by
        unfold own ownV
        rw [hv]
        dsimp only
        rw [if_pos z.2]
        rfl
      rw [hx] at eo
      have : x = p.2.2 := (List.cons.inj eo).1
      omega
  have := hw ha
  dsimp only
  omega
end CQS
