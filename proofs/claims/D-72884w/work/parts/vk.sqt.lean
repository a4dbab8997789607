/-! Bounds, levels by squares: a tick of a sender; one sender of a state -/
section SQT
variable {now c dl tq R lo hi jg ts D F dm Q : Int} {i : Nat} {v : SV} {g : Gh}
theorem LQ.tick {fw bk iv : Int} {k : Nat} {bs : List Bool} {z : Bool} (hP : SQn F dm) (hQ : hi - lo ≤ Q) (hQ0 : 0 ≤ Q) (hD : D = 4194304 * Q) (h1 : CA now c dl tq R lo hi jg ts D i v.1 v.2.1 v.2.2 g) (h2 : ∀ n ∈ v.2.2, now < n.1) (h0 : 0 ≤ now + 1) (hc : c = bk - v.1.1 2) (hd : dl = fw + v.1.1 2) (hRR : R = fw + bk) (hR1 : 1 ≤ R) (hR2 : R ≤ 200)
    (hs : sndOK (now + 1) (now + 1 + fw + bk) k bs (slowM (hndV (now + 1) v).1 (now + 1) iv, (hndV (now + 1) v).2)) (hz : z = true → (sndV (now + 1) (now + 1 + fw + bk) k bs (slowM (hndV (now + 1) v).1 (now + 1) iv, (hndV (now + 1) v).2)).2.1 ≠ [])
    (hr : z = true → ∀ x t, (sndV (now + 1) (now + 1 + fw + bk) k bs (slowM (hndV (now + 1) v).1 (now + 1) iv, (hndV (now + 1) v).2)).2.1 = x :: t → lo ≤ now + 1 + fw - x + v.1.1 2 ∧ now + 1 + fw - x + v.1.1 2 ≤ hi) :
    ∃ g2 jg2 ts2 i2, CA (now + 1) c dl tq R lo hi jg2 ts2 D i2 (finV (now + 1 + fw) (now + 1 + fw + bk) k z (sndV (now + 1) (now + 1 + fw + bk) k bs (slowM (hndV (now + 1) v).1 (now + 1) iv, (hndV (now + 1) v).2))).1 (finV (now + 1 + fw) (now + 1 + fw + bk) k z (sndV (now + 1) (now + 1 + fw + bk) k bs (slowM (hndV (now + 1) v).1 (now + 1) iv, (hndV (now + 1) v).2))).2.1 (finV (now + 1 + fw) (now + 1 + fw + bk) k z (sndV (now + 1) (now + 1 + fw + bk) k bs (slowM (hndV (now + 1) v).1 (now + 1) iv, (hndV (now + 1) v).2))).2.2 g2 ∧
      (∀ n ∈ (finV (now + 1 + fw) (now + 1 + fw + bk) k z (sndV (now + 1) (now + 1 + fw + bk) k bs (slowM (hndV (now + 1) v).1 (now + 1) iv, (hndV (now + 1) v).2))).2.2, now + 1 < n.1) ∧
      0 ≤ ZE F (now + 1) tq jg2 (finV (now + 1 + fw) (now + 1 + fw + bk) k z (sndV (now + 1) (now + 1 + fw + bk) k bs (slowM (hndV (now + 1) v).1 (now + 1) iv, (hndV (now + 1) v).2))) g2.2.1 ∧
      ZE F (now + 1) tq jg2 (finV (now + 1 + fw) (now + 1 + fw + bk) k z (sndV (now + 1) (now + 1 + fw + bk) k bs (slowM (hndV (now + 1) v).1 (now + 1) iv, (hndV (now + 1) v).2))) g2.2.1 * ZE F (now + 1) tq jg2 (finV (now + 1 + fw) (now + 1 + fw + bk) k z (sndV (now + 1) (now + 1 + fw + bk) k bs (slowM (hndV (now + 1) v).1 (now + 1) iv, (hndV (now + 1) v).2))) g2.2.1 + kSq dm * (aNl (finV (now + 1 + fw) (now + 1 + fw + bk) k z (sndV (now + 1) (now + 1 + fw + bk) k bs (slowM (hndV (now + 1) v).1 (now + 1) iv, (hndV (now + 1) v).2))).2.2 : Int) ≤ (ZE F now tq jg v g.2.1 + 128) * (ZE F now tq jg v g.2.1 + 128) + kSq dm * ((aNl v.2.2 : Int) + (if z = true then 1 else 0)) := by
  obtain ⟨hN, hN2⟩ := h1.nxt CSP_0 (Int.le_refl 0)
  have z1 := ZE_0 (o := v.2.1) (l := v.2.2) hP hN
  have p1 : ZE F (now + 1) tq (jgN now jg g.2.1) v g.2.1 ≤ ZE F now tq jg v g.2.1 + 128 := by
    have c0 := cvI_0 (W := 0) CSP_0 (Int.le_refl 0) h1.2.2.2.1.2.1
    unfold ZE
    split at hN2 <;> omega
  have hpt : ∀ a ∈ v.2.2, now + 1 ≤ a.1 := fun a ha => by have := h2 a ha; omega
  obtain ⟨g2, i2, k1, k4⟩ := ZE.hnd (F := F) hP hQ hQ0 hD v.2.2 [] v.1 g (iN now tq jg i g.2.1) hN (fun a ha => by cases ha) hpt
  have e2 : hndV (now + 1) v = (v.2.2.foldl (hndS (now + 1)) v.1, v.2.1, v.2.2.filter (fun n => decide (n.1 ≠ now + 1))) := rfl
  have e3 : ([] : List NtM) ++ v.2.2.filter (fun n => decide (n.1 ≠ now + 1)) = v.2.2.filter (fun n => decide (n.1 ≠ now + 1)) := rfl
  rw [e3] at k1 k4
  have k4 : ZE F (now + 1) tq (jgN now jg g.2.1) (v.2.2.foldl (hndS (now + 1)) v.1, v.2.1, v.2.2.filter (fun n => decide (n.1 ≠ now + 1))) g2.2.1 * ZE F (now + 1) tq (jgN now jg g.2.1) (v.2.2.foldl (hndS (now + 1)) v.1, v.2.1, v.2.2.filter (fun n => decide (n.1 ≠ now + 1))) g2.2.1 + kSq dm * (aNl (v.2.2.filter (fun n => decide (n.1 ≠ now + 1))) : Int) ≤ ZE F (now + 1) tq (jgN now jg g.2.1) v g.2.1 * ZE F (now + 1) tq (jgN now jg g.2.1) v g.2.1 + kSq dm * (aNl v.2.2 : Int) := k4
  rw [e2] at hs hz hr ⊢
  dsimp only at hs hz hr ⊢
  obtain ⟨jg3, i3, m1, m4⟩ := ZE.slow (F := F) (iv := iv) k1 h0
  obtain ⟨ts3, n1, n4, n5⟩ := ZE.snds (F := F) hP (k := k) (ar := now + 1 + fw + bk) (by omega) (by omega) bs (slowM (v.2.2.foldl (hndS (now + 1)) v.1) (now + 1) iv, v.2.1, v.2.2.filter (fun n => decide (n.1 ≠ now + 1))) ts m1 hs
  have f2 : (slowM (v.2.2.foldl (hndS (now + 1)) v.1) (now + 1) iv).1 2 = v.1.1 2 := by
    unfold slowM
    rw [begins_o (by decide) (by decide) (by decide), ends_o (by decide) (by decide) (by decide), hnd_2]
  have hsm : ∀ a ∈ (sndV (now + 1) (now + 1 + fw + bk) k bs (slowM (v.2.2.foldl (hndS (now + 1)) v.1) (now + 1) iv, v.2.1, v.2.2.filter (fun n => decide (n.1 ≠ now + 1)))).2.2, now + 1 < a.1 := by
    intro a ha
    rcases snd_mem _ _ _ ha with y | y
    · have y : a ∈ v.2.2.filter (fun n => decide (n.1 ≠ now + 1)) := y
      rw [List.mem_filter] at y
      have b1 := hpt a y.1
      have b2 := of_decide_eq_true y.2
      omega
    · omega
  dsimp only at n5
  generalize hvs : sndV (now + 1) (now + 1 + fw + bk) k bs (slowM (v.2.2.foldl (hndS (now + 1)) v.1) (now + 1) iv, v.2.1, v.2.2.filter (fun n => decide (n.1 ≠ now + 1))) = vs at *
  have f3 : vs.1.1 2 = v.1.1 2 := by
    rw [← hvs, snd_2]
    exact f2
  have r1 := n1.fin (k := k) (z := z) (fw := fw) (bk := bk) hz (by rw [f3]; exact hc) (by rw [f3]; exact hd) hRR (by rw [f3]; exact hr)
  have evs : (vs.1, vs.2.1, vs.2.2) = vs := rfl
  rw [evs] at r1
  have e1 : (finV (now + 1 + fw) (now + 1 + fw + bk) k z vs).1 = vs.1 := fin_s
  have zf := ZE_0 hP r1
  have ez : ZE F (now + 1) tq jg3 (finV (now + 1 + fw) (now + 1 + fw + bk) k z vs) g2.2.1 = ZE F (now + 1) tq jg3 vs g2.2.1 := by
    unfold ZE
    rw [e1]
  have an : (aNl (finV (now + 1 + fw) (now + 1 + fw + bk) k z vs).2.2 : Int) ≤ (aNl vs.2.2 : Int) + (if z = true then 1 else 0) := by
    cases z with
    | false =>
      rw [if_neg (by decide)]
      have : finV (now + 1 + fw) (now + 1 + fw + bk) k false vs = vs := rfl
      rw [this]
      omega
    | true =>
      rw [if_pos rfl]
      cases hvo : vs.2.1 with
      | nil => exact absurd hvo (hz rfl)
      | cons x t =>
        rw [fin_t hvo, aNl_app]
        split <;> push_cast <;> omega
  have kk0 : 0 ≤ kSq dm := by
    unfold kSq
    have := Int.mul_nonneg hP.2.1 hP.2.1
    have := hP.2.1
    omega
  have zf2 : 0 ≤ ZE F (now + 1) tq jg3 vs g2.2.1 := by rw [← ez]; exact zf
  refine ⟨g2, jg3, ts3, i3, r1, ?_, zf, ?_⟩
  · intro a ha
    rcases fin_mem ha with w | w
    · exact hsm a w
    · omega
  · rw [ez]
    have a1 := sq_le zf2 (Int.le_trans n4 m4)
    have a2 := sq_le z1 p1
    have a3 := Int.mul_le_mul_of_nonneg_left an kk0
    rw [n5, Int.mul_add] at a3
    have a4 : kSq dm * ((aNl v.2.2 : Int) + (if z = true then 1 else 0)) = kSq dm * (aNl v.2.2 : Int) + kSq dm * (if z = true then 1 else 0) := Int.mul_add _ _ _
    rw [a4]
    have v1 : (v.1, v.2.1, v.2.2) = v := rfl
    rw [v1] at a2
    omega
end SQT
/-- one sender of a state: its level with what is left of its permissions is at most Z / 6400 packets -/
def LQ1 (F Q : Int) (m : MS) (tq lo hi : Int) (k : Nat) (Z : Int) : Prop := ∃ g jg ts i, CA (mg m 5) (mg m 3 - (ms m k).1 2) (mg m 2 + (ms m k).1 2) tq (mg m 2 + mg m 3) lo hi jg ts (4194304 * Q) i (vwK k m).1 (vwK k m).2.1 (vwK k m).2.2 g ∧ (∀ n ∈ (vwK k m).2.2, mg m 5 < n.1) ∧ ZE F (mg m 5) tq jg (vwK k m) g.2.1 ≤ Z
section LQS
variable {nS nC k : Nat} {m : MS} {tq lo hi : Nat → Int} {F dm Q Z : Int}
theorem LQ1.fl {tq1 lo1 hi1 : Int} (h : LQ1 F Q m tq1 lo1 hi1 k Z) : 6400 * (ms m k).1 5 ≤ Z ∧ 25 * mW (ms m k) ≤ Z ∧ 25 * F ≤ Z := by
  obtain ⟨g, jg, ts, i, h1, h2, h3⟩ := h
  have r := (PT_rng h1).1
  have h3 : 25 * max (max (mW (ms m k)) (256 * (ms m k).1 5)) F + PT cS0 0 (mg m 5) tq1 jg g.2.1 ≤ Z := h3
  omega
theorem LQ1.mono {tq1 lo1 hi1 Z2 : Int} (h : LQ1 F Q m tq1 lo1 hi1 k Z) (hZ : Z ≤ Z2) : LQ1 F Q m tq1 lo1 hi1 k Z2 := by
  obtain ⟨g, jg, ts, i, h1, h2, h3⟩ := h
  exact ⟨g, jg, ts, i, h1, h2, by omega⟩
theorem LQ1.tick (hP : SQn F dm) (hk : k < nS) (hQ : hi k - lo k ≤ Q) (hQ0 : 0 ≤ Q) (h4 : nS ≤ 4) (h : LQ1 F Q m (tq k) (lo k) (hi k) k Z) (h0 : 0 ≤ mg m 5 + 1) (hR1 : 1 ≤ mg m 2 + mg m 3) (hR2 : mg m 2 + mg m 3 ≤ 200) (hf : frOK nS nC m lo hi) : ∃ Z2, 0 ≤ Z2 ∧ LQ1 F Q (tickM nS nC m) (tq k) (lo k) (hi k) k Z2 ∧ Z2 * Z2 + kSq dm * (aNl (vwK k (tickM nS nC m)).2.2 : Int) ≤ (Z + 128) * (Z + 128) + kSq dm * ((aNl (vwK k m).2.2 : Int) + (if fnB k (beginM (midM nS nC m)) = true then 1 else 0)) := by
  obtain ⟨g, jg, ts, i, c1, c2, c3⟩ := h
  obtain ⟨bs, z, h1, h2, h3, h5, h6, h7⟩ := tick_vo (nC := nC) hk h4 (m := m)
  have e2 := tick_s2 (nC := nC) hk h4 (m := m)
  have g2 := tick_g (nS := nS) (nC := nC) (m := m) (i := 2) (by decide) (by decide) (by decide) (by decide) (by decide) (by decide)
  have g3 := tick_g (nS := nS) (nC := nC) (m := m) (i := 3) (by decide) (by decide) (by decide) (by decide) (by decide) (by decide)
  have g5 := tick_g5 (nS := nS) (nC := nC) (m := m)
  have hr : z = true → ∀ x t, (sndV (mg m 5 + 1) (mg m 5 + 1 + mg m 2 + mg m 3) k bs (slowM (hndV (mg m 5 + 1) (vwK k m)).1 (mg m 5 + 1) (mg m 4), (hndV (mg m 5 + 1) (vwK k m)).2)).2.1 = x :: t → lo k ≤ mg m 5 + 1 + mg m 2 - x + (vwK k m).1.1 2 ∧ mg m 5 + 1 + mg m 2 - x + (vwK k m).1.1 2 ≤ hi k := by
    intro hz x t hx
    rw [h7] at hx
    rw [h5] at hz
    exact hf k hk hz x t hx
  have ef : (fnB k (beginM (midM nS nC m)) = true) = (z = true) := by rw [h5]
  have z0 := ZE_0 hP c1
  obtain ⟨g9, jg9, ts9, i9, d1, d2, d3, d4⟩ := LQ.tick (iv := mg m 4) hP hQ hQ0 rfl c1 c2 h0 rfl rfl rfl hR1 hR2 h1 h6 hr
  rw [← h2] at d1 d2 d3 d4
  refine ⟨_, d3, ⟨g9, jg9, ts9, i9, ?_, ?_, ?_⟩, ?_⟩
  · rw [g2, g3, g5, e2]
    exact d1
  · rw [g5]
    exact d2
  · rw [g5]
    exact Int.le_refl _
  · simp only [ef]
    have z0 : 0 ≤ ZE F (mg m 5) (tq k) jg (vwK k m) g.2.1 := z0
    have := sq_le (a := ZE F (mg m 5) (tq k) jg (vwK k m) g.2.1 + 128) (b := Z + 128) (by omega) (by omega)
    omega
end LQS
