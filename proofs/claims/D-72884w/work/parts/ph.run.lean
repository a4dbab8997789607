/-! Bounds, ledger by ages: a sender that is off; all senders; runs -/
def LHo (Rm now c dl tq R lo hi ed jg ts D : Int) (i : Nat) (v : SV) (g : Gh) (Bk : Int) : Prop := CA now c dl tq R lo hi jg ts D i v.1 v.2.1 v.2.2 g ∧ (∀ n ∈ v.2.2, now < n.1) ∧ AgR Rm now now ed v.1 v.2.2 ∧ (v.1.1 11 ≠ -1 → now < v.1.1 11 ∧ v.1.1 11 ≤ now + 60) ∧ AC now v.2.2 ∧ 25 * lvO v.1 ≤ Bk
section LHOF
variable {now c dl tq R lo hi jg ts D th ed Bk : Int} {i : Nat} {v : SV} {g : Gh} {kk cS : Nat → Int} {W kp J1 B w1 w2 Wm F0 z0 H0 e0 gr w3 Q de Fc Rm : Int}
theorem LHo.tick {fw bk iv : Int} {k : Nat} {bs : List Bool} {z : Bool} (h : LHo Rm now c dl tq R lo hi ed jg ts D i v g Bk) (hoff : v.1.1 3 = 0) (h0 : 0 ≤ now + 1) (hR2 : R ≤ Rm) (hc : c = bk - v.1.1 2) (hd : dl = fw + v.1.1 2) (hRR : R = fw + bk) (hR1 : 1 ≤ R)
    (hP : LR kk cS W kp J1 B w1 w2 Wm F0 z0 H0 e0 gr w3 Q de Fc Rm) (hQ : hi - lo ≤ Q) (hD : D = 4194304 * Q)
    (hs : sndOK (now + 1) (now + 1 + fw + bk) k bs (slowM (hndV (now + 1) v).1 (now + 1) iv, (hndV (now + 1) v).2)) (hz : z = true → (sndV (now + 1) (now + 1 + fw + bk) k bs (slowM (hndV (now + 1) v).1 (now + 1) iv, (hndV (now + 1) v).2)).2.1 ≠ [])
    (hr : z = true → ∀ x t, (sndV (now + 1) (now + 1 + fw + bk) k bs (slowM (hndV (now + 1) v).1 (now + 1) iv, (hndV (now + 1) v).2)).2.1 = x :: t → lo ≤ now + 1 + fw - x + v.1.1 2 ∧ now + 1 + fw - x + v.1.1 2 ≤ hi) :
    ∃ g2 ed2 jg2 i2, LHo Rm (now + 1) c dl tq R lo hi ed2 jg2 ts D i2 (finV (now + 1 + fw) (now + 1 + fw + bk) k z (sndV (now + 1) (now + 1 + fw + bk) k bs (slowM (hndV (now + 1) v).1 (now + 1) iv, (hndV (now + 1) v).2))) g2 Bk := by
  obtain ⟨h1, h2, hA, hS, hC, h7⟩ := h
  have hcS := hP.2.2.2.2.2.2.2.1
  have hW := hP.2.2.2.2.2.2.2.2.1
  have hQ0 : 0 ≤ Q := hP.2.2.2.2.2.2.2.2.2.2.2.1
  have hRm1 : 1 ≤ Rm := hP.2.2.2.2.2.2.2.2.2.2.2.2.2.2.2.2.2.2.1
  have hRm2 : Rm ≤ 200 := hP.2.2.2.2.2.2.2.2.2.2.2.2.2.2.2.2.2.2.2
  have hpt : ∀ a ∈ v.2.2, now + 1 ≤ a.1 := fun a ha => by have := h2 a ha; omega
  have hA1 : AgR Rm (now + 1) now ed v.1 ([] ++ v.2.2) := by
    obtain ⟨a1, a2, a3, a4⟩ := hA
    refine ⟨by omega, fun n hn => ?_, a3, fun q => ?_⟩
    · have := a2 n hn
      omega
    · have := a4 q
      exact ⟨by omega, this.2⟩
  have hM1 : MIX (now + 1) now (now + 1) Rm (v.1, v.2.1, [] ++ v.2.2) := by
    refine ⟨fun q => ?_, fun q => Or.inr (Or.inl (by omega)), Or.inl (by omega)⟩
    have := hS q
    exact ⟨by show v.1.1 11 ≤ _; omega, Or.inr (Or.inl (by show v.1.1 11 ≤ _; omega))⟩
  obtain ⟨g2, th2, i2, k1, k2, k3, hlv⟩ := CA.hnd hRm1 hQ hQ0 hD v.2.2 [] v.1 g now _ (h1.nxt hcS hW).1 hA1 hM1 (fun a ha => by cases ha) hpt
  have e2 : hndV (now + 1) v = (v.2.2.foldl (hndS (now + 1)) v.1, v.2.1, v.2.2.filter (fun n => decide (n.1 ≠ now + 1))) := rfl
  have e3 : ([] : List NtM) ++ v.2.2.filter (fun n => decide (n.1 ≠ now + 1)) = v.2.2.filter (fun n => decide (n.1 ≠ now + 1)) := rfl
  rw [e3] at k1 k2 k3
  have h3 : (v.2.2.foldl (hndS (now + 1)) v.1).1 3 = 0 := (hnd_3 _ _).trans hoff
  rw [e2] at hs hz hr ⊢
  dsimp only at hs hz hr ⊢
  obtain ⟨jg3, i3, m0, -, -⟩ := k1.ends hcS hW
  have m1 := m0.begins (iv := iv) h0
  have m1 : CA (now + 1) c dl tq R lo hi jg3 ts D i3 (slowM (v.2.2.foldl (hndS (now + 1)) v.1) (now + 1) iv) v.2.1 (v.2.2.filter (fun n => decide (n.1 ≠ now + 1))) g2 := m1
  have m3 := k3.slow (iv := iv) h0
  have e9 : (slowM (v.2.2.foldl (hndS (now + 1)) v.1) (now + 1) iv).1 9 = (v.2.2.foldl (hndS (now + 1)) v.1).1 9 := by
    unfold slowM
    rw [begins_o (by decide) (by decide) (by decide), ends_o (by decide) (by decide) (by decide)]
  have e33 : (slowM (v.2.2.foldl (hndS (now + 1)) v.1) (now + 1) iv).1 3 = 0 := by
    unfold slowM
    rw [begins_o (by decide) (by decide) (by decide), ends_o (by decide) (by decide) (by decide)]
    exact h3
  have f2 : (slowM (v.2.2.foldl (hndS (now + 1)) v.1) (now + 1) iv).1 2 = v.1.1 2 := by
    unfold slowM
    rw [begins_o (by decide) (by decide) (by decide), ends_o (by decide) (by decide) (by decide), hnd_2]
  have elv : lvO (slowM (v.2.2.foldl (hndS (now + 1)) v.1) (now + 1) iv) = lvO (v.2.2.foldl (hndS (now + 1)) v.1) := by
    unfold lvO slowM
    rw [mW_begins h0, mW_ends, begins_o (k := 5) (by decide) (by decide) (by decide), ends_o (k := 5) (by decide) (by decide) (by decide)]
  have eb : bs = [] := by
    cases bs with
    | nil => rfl
    | cons b bs => exact absurd e33 hs.1.1
  have hAC := AC.tick (fw := fw) (bk := bk) (k := k) (bs := bs) (z := z) (v := v) (s2 := slowM (v.2.2.foldl (hndS (now + 1)) v.1) (now + 1) iv) hC (by omega) rfl
  subst eb
  generalize hvs : (slowM (v.2.2.foldl (hndS (now + 1)) v.1) (now + 1) iv, v.2.1, v.2.2.filter (fun n => decide (n.1 ≠ now + 1))) = vs at *
  have ev : sndV (now + 1) (now + 1 + fw + bk) k [] vs = vs := rfl
  rw [ev] at hz hr hAC ⊢
  have s1 : vs.1 = slowM (v.2.2.foldl (hndS (now + 1)) v.1) (now + 1) iv := by rw [← hvs]
  have s2 : vs.2.1 = v.2.1 := by rw [← hvs]
  have s3 : vs.2.2 = v.2.2.filter (fun n => decide (n.1 ≠ now + 1)) := by rw [← hvs]
  rw [← s1, ← s2, ← s3] at m1
  have r1 := m1.fin (k := k) (z := z) (fw := fw) (bk := bk) hz (by rw [s1, f2]; exact hc) (by rw [s1, f2]; exact hd) hRR (by rw [s1, f2]; exact hr)
  have evs : (vs.1, vs.2.1, vs.2.2) = vs := rfl
  rw [evs] at r1
  have e1 : (finV (now + 1 + fw) (now + 1 + fw + bk) k z vs).1 = vs.1 := fin_s
  have hall : ∀ a ∈ (finV (now + 1 + fw) (now + 1 + fw + bk) k z vs).2.2, a ∈ v.2.2 ∧ now + 1 < a.1 ∨ (a.1 = now + 1 + fw + bk ∧ isA a) := by
    intro a ha
    rcases fin_mem ha with w | w
    · rw [s3, List.mem_filter] at w
      have b1 := hpt a w.1
      have b2 := of_decide_eq_true w.2
      exact Or.inl ⟨w.1, by omega⟩
    · exact Or.inr ⟨w.1, w.2.1⟩
  refine ⟨g2, ed, jg3, i3, r1, ?_, ?_, ?_, hAC, ?_⟩
  · intro a ha
    rcases hall a ha with w | w
    · exact w.2
    · omega
  · obtain ⟨a1, a2, a3, a4⟩ := k2
    refine ⟨Int.le_refl _, fun n hn => ?_, fun n hn _ _ => ?_, fun q => ?_⟩
    · rcases hall n hn with w | w
      · have := hA.2.1 n w.1
        omega
      · omega
    · rcases hall n hn with w | w
      · have := hA.2.1 n w.1
        omega
      · omega
    · rw [e1, s1, e9] at q ⊢
      have q2 : 1 ≤ lFl ((v.2.2.foldl (hndS (now + 1)) v.1).1 9) (v.2.2.filter (fun n => decide (n.1 ≠ now + 1))) := by
        cases z with
        | false =>
          rw [← s3]
          exact q
        | true =>
          cases hvo : vs.2.1 with
          | nil => exact absurd hvo (hz rfl)
          | cons x t =>
            rw [fin_t hvo, lFl_app, if_neg (fun y => y.1 rfl), s3] at q
            exact q
      obtain ⟨b1, m, hm, b2⟩ := a4 q2
      refine ⟨b1, m, ?_, b2⟩
      rw [← s3] at hm
      cases z with
      | false => exact hm
      | true =>
        cases hvo : vs.2.1 with
        | nil => exact absurd hvo (hz rfl)
        | cons x t =>
          rw [fin_t hvo]
          exact List.mem_append_left _ hm
  · rw [e1, s1]
    intro q
    have := m3 (by rw [s1]; exact q)
    rw [s1] at this
    exact ⟨this.1, this.2.1⟩
  · rw [e1, s1, elv]
    omega
theorem LHo.mono {B2 : Int} (h : LHo Rm now c dl tq R lo hi ed jg ts D i v g Bk) (hB : Bk ≤ B2) : LHo Rm now c dl tq R lo hi ed jg ts D i v g B2 := ⟨h.1, h.2.1, h.2.2.1, h.2.2.2.1, h.2.2.2.2.1, by have := h.2.2.2.2.2; omega⟩
theorem LHv.mono {B2 : Int} (h : LHv kk cS W kp J1 H0 de gr Rm now c dl tq R lo hi th ed jg ts D i v g Bk) (hB : Bk ≤ B2) : LHv kk cS W kp J1 H0 de gr Rm now c dl tq R lo hi th ed jg ts D i v g B2 := ⟨h.1, h.2.1, h.2.2.1, h.2.2.2.1, h.2.2.2.2.1, h.2.2.2.2.2.1, by have := h.2.2.2.2.2.2.1; omega, by have := h.2.2.2.2.2.2.2; omega⟩
theorem LHo.fl (h : LHo Rm now c dl tq R lo hi ed jg ts D i v g Bk) : 6400 * v.1.1 5 ≤ Bk ∧ 25 * mW v.1 ≤ Bk := by
  have := h.2.2.2.2.2
  unfold lvO at this
  omega
theorem LHv.fl (hP : LR kk cS W kp J1 B w1 w2 Wm F0 z0 H0 e0 gr w3 Q de Fc Rm) (h : LHv kk cS W kp J1 H0 de gr Rm now c dl tq R lo hi th ed jg ts D i v g Bk) : 6400 * v.1.1 5 ≤ Bk ∧ 25 * mW v.1 ≤ Bk := by
  have a := OA_fl (tq := tq) (v := v) (L := g.2.1) hP h.1.2.2.2.1.2.1 h.2.2.1 (fun a ha => by have := h.2.1 a ha; omega) h.1.2.2.1.2.1
  have b := h.2.2.2.2.2.2.1
  have a1 := a.1
  have a2 := a.2
  exact ⟨by omega, by omega⟩
end LHOF
/-- all senders; Bf k bounds the level of the k-th -/
def MLh (kk cS : Nat → Int) (W kp J1 H0 de gr Rm Q : Int) (nS : Nat) (m : MS) (tq lo hi : Nat → Int) (Bf : Nat → Int) : Prop := ∀ k, k < nS → ∃ g th ed jg ts i, ((ms m k).1 3 ≠ 0 → LHv kk cS W kp J1 H0 de gr Rm (mg m 5) (mg m 3 - (ms m k).1 2) (mg m 2 + (ms m k).1 2) (tq k) (mg m 2 + mg m 3) (lo k) (hi k) th ed jg ts (4194304 * Q) i (vwK k m) g (Bf k)) ∧ ((ms m k).1 3 = 0 → LHo Rm (mg m 5) (mg m 3 - (ms m k).1 2) (mg m 2 + (ms m k).1 2) (tq k) (mg m 2 + mg m 3) (lo k) (hi k) ed jg ts (4194304 * Q) i (vwK k m) g (Bf k))
section MLHS
variable {nS nC : Nat} {m : MS} {tq lo hi Bf : Nat → Int} {kk cS : Nat → Int} {W kp J1 B w1 w2 Wm F0 z0 H0 e0 gr w3 Q de Fc Rm : Int}
theorem MLh.fl (hP : LR kk cS W kp J1 B w1 w2 Wm F0 z0 H0 e0 gr w3 Q de Fc Rm) (h : MLh kk cS W kp J1 H0 de gr Rm Q nS m tq lo hi Bf) : ∀ k, k < nS → 6400 * (ms m k).1 5 ≤ Bf k ∧ 25 * mW (ms m k) ≤ Bf k := by
  intro k hk
  obtain ⟨g, th, ed, jg, ts, i, h1, h2⟩ := h k hk
  by_cases q : (ms m k).1 3 = 0
  · exact (h2 q).fl
  · exact (h1 q).fl hP
theorem MLh.tick (hP : LR kk cS W kp J1 B w1 w2 Wm F0 z0 H0 e0 gr w3 Q de Fc Rm) (hQ : ∀ k, k < nS → hi k - lo k ≤ Q) (h4 : nS ≤ 4) (h : MLh kk cS W kp J1 H0 de gr Rm Q nS m tq lo hi Bf) (hF : ∀ k, k < nS → Bf k + 128 ≤ 25 * Fc) (h0 : 0 ≤ mg m 5 + 1) (hq : (mq m).length ≤ 60) (hR1 : 1 ≤ mg m 2 + mg m 3) (hR2 : mg m 2 + mg m 3 ≤ Rm) (hf : frOK nS nC m lo hi) : MLh kk cS W kp J1 H0 de gr Rm Q nS (tickM nS nC m) tq lo hi (bfT nS nC m de gr Bf) := by
  intro k hk
  obtain ⟨g, th, ed, jg, ts, i, hon, hoff⟩ := h k hk
  obtain ⟨bs, z, h1, h2, h3, h5, h6, h7⟩ := tick_vo (nC := nC) hk h4 (m := m)
  have e2 := tick_s2 (nC := nC) hk h4 (m := m)
  have e3 := tick_s3 (nC := nC) hk h4 (m := m)
  have g2 := tick_g (nS := nS) (nC := nC) (m := m) (i := 2) (by decide) (by decide) (by decide) (by decide) (by decide) (by decide)
  have g3 := tick_g (nS := nS) (nC := nC) (m := m) (i := 3) (by decide) (by decide) (by decide) (by decide) (by decide) (by decide)
  have g5 := tick_g5 (nS := nS) (nC := nC) (m := m)
  have hr : z = true → ∀ x t, (sndV (mg m 5 + 1) (mg m 5 + 1 + mg m 2 + mg m 3) k bs (slowM (hndV (mg m 5 + 1) (vwK k m)).1 (mg m 5 + 1) (mg m 4), (hndV (mg m 5 + 1) (vwK k m)).2)).2.1 = x :: t → lo k ≤ mg m 5 + 1 + mg m 2 - x + (vwK k m).1.1 2 ∧ mg m 5 + 1 + mg m 2 - x + (vwK k m).1.1 2 ≤ hi k := by
    intro hz x t hx
    rw [h7] at hx
    rw [h5] at hz
    exact hf k hk hz x t hx
  have ho : (vwK k m).2.1.length ≤ 61 := by
    have := own_len (k := k) (m := m)
    show (own k m).length ≤ 61
    omega
  have ef : (fnB k (beginM (midM nS nC m)) = true) = (z = true) := by rw [h5]
  have hg : 0 ≤ gr := hP.2.2.2.2.2.2.2.2.2.2.2.2.1
  by_cases q : (ms m k).1 3 = 0
  · obtain ⟨g9, ed9, jg9, i9, h9⟩ := LHo.tick (iv := mg m 4) (hoff q) q h0 hR2 rfl rfl rfl hR1 hP (hQ k hk) rfl h1 h6 hr
    rw [← h2] at h9
    refine ⟨g9, 0, ed9, jg9, ts, i9, fun y => absurd q (by rw [← e3]; exact y), fun _ => ?_⟩
    rw [g2, g3, g5, e2]
    refine h9.mono ?_
    unfold bfT
    split <;> omega
  · obtain ⟨g9, th9, ed9, jg9, ts9, i9, h9⟩ := LHv.tick (iv := mg m 4) hP (hQ k hk) rfl (hon q) q ho h0 (hF k hk) hR2 rfl rfl rfl hR1 h1 h3 h6 hr
    rw [← h2] at h9
    refine ⟨g9, th9, ed9, jg9, ts9, i9, fun _ => ?_, fun y => absurd (by rw [← e3]; exact y) q⟩
    rw [g2, g3, g5, e2]
    refine h9.mono ?_
    unfold bfT
    simp only [ef]
    omega
theorem MLh.run (hP : LR kk cS W kp J1 B w1 w2 Wm F0 z0 H0 e0 gr w3 Q de Fc Rm) (hQ : ∀ k, k < nS → hi k - lo k ≤ Q) (h4 : nS ≤ 4) (h : MLh kk cS W kp J1 H0 de gr Rm Q nS m tq lo hi Bf) (h0 : 0 ≤ mg m 5 + 1) (hR1 : 1 ≤ mg m 2 + mg m 3) (hR2 : mg m 2 + mg m 3 ≤ Rm) : ∀ T : Nat, (∀ k, k < nS → Bf k + T * (max 0 (128 - de) + 25 * gr) + 128 ≤ 25 * Fc) → (∀ i, i < T → (mq (tkN nS nC i m)).length ≤ 60 ∧ frOK nS nC (tkN nS nC i m) lo hi) → ∃ B2 : Nat → Int, MLh kk cS W kp J1 H0 de gr Rm Q nS (tkN nS nC T m) tq lo hi B2 ∧ (∀ k, k < nS → Bf k ≤ B2 k ∧ B2 k ≤ Bf k + T * (max 0 (128 - de) + 25 * gr)) ∧ sumN B2 nS ≤ sumN Bf nS + nS * (T * max 0 (128 - de)) + 25 * (gr * fnT nS nC T m) := by
  have hg : 0 ≤ gr := hP.2.2.2.2.2.2.2.2.2.2.2.2.1
  intro T
  induction T with
  | zero =>
    intro _ _
    refine ⟨Bf, h, fun _ _ => ⟨Int.le_refl _, by omega⟩, ?_⟩
    have e : fnT nS nC 0 m = 0 := rfl
    rw [e]
    simp
  | succ T ih =>
    intro hT hf
    have ex : (((T + 1 : Nat) : Nat) : Int) * (max 0 (128 - de) + 25 * gr) = (T : Int) * (max 0 (128 - de) + 25 * gr) + (max 0 (128 - de) + 25 * gr) := by
      push_cast
      rw [Int.add_mul, Int.one_mul]
    rw [ex] at hT ⊢
    obtain ⟨B2, hM2, hB2, hS⟩ := ih (fun k hk => by have := hT k hk; omega) (fun i hi => hf i (by omega))
    have hfT := hf T (by omega)
    have g2 := tkN_g (nS := nS) (nC := nC) (m := m) (i := 2) (by decide) (by decide) (by decide) (by decide) (by decide) (by decide) T
    have g3 := tkN_g (nS := nS) (nC := nC) (m := m) (i := 3) (by decide) (by decide) (by decide) (by decide) (by decide) (by decide) T
    have g5 := tkN_5 (nS := nS) (nC := nC) (m := m) T
    have et : tkN nS nC (T + 1) m = tickM nS nC (tkN nS nC T m) := rfl
    have ef : fnT nS nC (T + 1) m = fnT nS nC T m + fiB (beginM (midM nS nC (tkN nS nC T m))) := rfl
    rw [et, ef]
    have hM3 := hM2.tick (nC := nC) hP hQ h4 (fun k hk => by have := hT k hk; have := (hB2 k hk).2; omega) (by rw [g5]; omega) hfT.1 (by rw [g2, g3]; exact hR1) (by rw [g2, g3]; exact hR2) hfT.2
    refine ⟨bfT nS nC (tkN nS nC T m) de gr B2, hM3, fun k hk => ?_, ?_⟩
    · have := hB2 k hk
      unfold bfT
      split <;> omega
    · have s := bfT_sum (nS := nS) (nC := nC) (m := tkN nS nC T m) (de := de) (Bf := B2) hg
      have e1 : gr * (fnT nS nC T m + fiB (beginM (midM nS nC (tkN nS nC T m)))) = gr * fnT nS nC T m + gr * fiB (beginM (midM nS nC (tkN nS nC T m))) := Int.mul_add _ _ _
      have e2 : (nS : Int) * (((T + 1 : Nat) : Int) * max 0 (128 - de)) = nS * (T * max 0 (128 - de)) + nS * max 0 (128 - de) := by
        push_cast
        rw [Int.add_mul, Int.mul_add, Int.one_mul]
      rw [e1, e2]
      omega
end MLHS
