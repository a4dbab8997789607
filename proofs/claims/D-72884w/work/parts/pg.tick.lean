/-! Bounds, ledger by ages: a whole tick of a sender that is on -/
/-- between ticks -/
def LHv (kk cS : Nat → Int) (W kp J1 H0 de gr Rm now c dl tq R lo hi th ed jg ts D : Int) (i : Nat) (v : SV) (g : Gh) (Bk : Int) : Prop := CA now c dl tq R lo hi jg ts D i v.1 v.2.1 v.2.2 g ∧ (∀ n ∈ v.2.2, now < n.1) ∧ AgR Rm now th ed v.1 v.2.2 ∧ SLr Rm now th v ∧ (¬ wantsM v.1 ∨ now ≤ th) ∧ AC now v.2.2 ∧ OA kk cS W kp J1 de gr Rm now th ed tq jg i v g.2.1 ≤ Bk ∧ bmA cS H0 de gr Rm + W * wcP now tq jg ≤ Bk
section LHT
variable {now c dl tq R lo hi jg ts D th ed Bk : Int} {i : Nat} {v : SV} {g : Gh} {kk cS : Nat → Int} {W kp J1 B w1 w2 Wm F0 z0 H0 e0 gr w3 Q de Fc Rm : Int}
theorem PT_0 {L : List EnF} (hc : CSP cS) (hW : 0 ≤ W) (hj : jg ≤ now / 200) : 0 ≤ PT cS W now tq jg L := by
  obtain ⟨c0, c1, c2, c3, c4, -, -, -⟩ := hc
  have g := ag_4 hj
  have ca : 0 ≤ cS (agP now jg) := by
    have : agP now jg = 0 ∨ agP now jg = 1 ∨ agP now jg = 2 ∨ agP now jg = 3 ∨ agP now jg = 4 := by omega
    rcases this with e | e | e | e | e <;> rw [e] <;> omega
  have w : 0 ≤ W * wcP now tq jg := Int.mul_nonneg hW wc_0
  unfold PT
  omega
theorem OA_lv {L : List EnF} (hP : LR kk cS W kp J1 B w1 w2 Wm F0 z0 H0 e0 gr w3 Q de Fc Rm) (hA : AgR Rm now th ed v.1 v.2.2) (hl : ∀ a ∈ v.2.2, now ≤ a.1) (hj : jg ≤ now / 200) : 25 * lvL (kk i) kp J1 v.1 (vF v) ≤ OA kk cS W kp J1 de gr Rm now th ed tq jg i v L := by
  have a := PT_0 (tq := tq) (L := L) hP.2.2.2.2.2.2.2.1 hP.2.2.2.2.2.2.2.2.1 hj
  have b := rmR_0 (o := v.2.1) hA hl hP.2.2.2.2.2.2.2.2.2.2.2.2.2.2.2.2.2.2.1
  have b2 : 0 ≤ de * rmR Rm now th ed (vF v) := Int.mul_nonneg hP.2.2.2.2.2.2.2.2.2.2.2.2.2.2.2.2.1 b
  have b3 : 0 ≤ gr * (aNl v.2.2 : Int) := Int.mul_nonneg hP.2.2.2.2.2.2.2.2.2.2.2.2.1 (by omega)
  unfold OA
  omega
theorem OA_fl {L : List EnF} (hP : LR kk cS W kp J1 B w1 w2 Wm F0 z0 H0 e0 gr w3 Q de Fc Rm) (hi5 : i ≤ 5) (hA : AgR Rm now th ed v.1 v.2.2) (hl : ∀ a ∈ v.2.2, now ≤ a.1) (hj : jg ≤ now / 200) : 25 * mW v.1 ≤ OA kk cS W kp J1 de gr Rm now th ed tq jg i v L ∧ 6400 * v.1.1 5 ≤ OA kk cS W kp J1 de gr Rm now th ed tq jg i v L := by
  have a := OA_lv (i := i) (tq := tq) (L := L) hP hA hl hj
  have b := lw_0 (s := v.1) (Lf := vF v) (hP.sc hi5)
  omega
/-- no loss on its way: the flight is small -/
theorem lh_few {x : Int} (h1 : CA now c dl tq R lo hi jg ts D i v.1 v.2.1 v.2.2 g) (h2 : ∀ n ∈ v.2.2, now < n.1) (h6 : AC now v.2.2) (ho : v.2.1.length ≤ 61) (hn : ∀ n ∈ v.2.2, ¬ isA n → n.1 ≤ x) (hx : x ≤ now) : v.1.1 5 ≤ 261 := by
  have a := h6.le200 h2
  have hall : ∀ n ∈ v.2.2, isA n := by
    intro n hn2
    apply Decidable.byContradiction
    intro q
    have := hn n hn2 q
    have := h2 n hn2
    omega
  have e := aNl_all hall
  have f : v.1.1 5 = ((v.2.1.length + v.2.2.length : Nat) : Int) := h1.1.1.1
  omega
theorem lh_few1 (h1 : CA now c dl tq R lo hi jg ts D i v.1 v.2.1 v.2.2 g) (h2 : ∀ n ∈ v.2.2, now < n.1) (h3 : AgR Rm now th ed v.1 v.2.2) (h6 : AC now v.2.2) (ho : v.2.1.length ≤ 61) (hl : ¬ 1 ≤ vF v) (ht : th + Rm ≤ now) : v.1.1 5 ≤ 261 := by
  refine lh_few h1 h2 h6 ho (fun n hn q => ?_) ht
  by_cases y : n.2.2.2 < v.1.1 9
  · exact h3.2.2.1 n hn q y
  · exfalso
    apply hl
    have : 0 < lFl (v.1.1 9) v.2.2 := by
      unfold lFl
      rw [List.countP_pos_iff]
      exact ⟨n, hn, decide_eq_true ⟨q, by omega⟩⟩
    exact this
theorem OA.nxt (hP : LR kk cS W kp J1 B w1 w2 Wm F0 z0 H0 e0 gr w3 Q de Fc Rm) (h : LHv kk cS W kp J1 H0 de gr Rm now c dl tq R lo hi th ed jg ts D i v g Bk) (hon : v.1.1 3 ≠ 0) (ho : v.2.1.length ≤ 61) (hF : Bk ≤ 25 * Fc) : OA kk cS W kp J1 de gr Rm (now + 1) th ed tq (jgN now jg g.2.1) (iN now tq jg i g.2.1) v g.2.1 ≤ max (OA kk cS W kp J1 de gr Rm now th ed tq jg i v g.2.1 + 128 - de) (bmA cS H0 de gr Rm + W * wcP (now + 1) tq (jgN now jg g.2.1)) := by
  obtain ⟨h1, h2, hA, h4, h5, h6, h7, h8⟩ := h
  have hf := fun hl ht => lh_few1 h1 h2 hA h6 ho hl ht
  have hc := hP.2.2.2.2.2.2.2.1
  have hW := hP.2.2.2.2.2.2.2.2.1
  have hR1 : 1 ≤ Rm := hP.2.2.2.2.2.2.2.2.2.2.2.2.2.2.2.2.2.2.1
  have hd : 0 ≤ de := hP.2.2.2.2.2.2.2.2.2.2.2.2.2.2.2.2.1
  obtain ⟨hC, p1⟩ := h1.nxt hc hW
  have i5 := h1.2.2.2.1.2.1
  have i52 := hC.2.2.2.1.2.1
  have hj : jg ≤ now / 200 := h1.2.2.1.2.1
  have ha := h6.le200 h2
  have hI := h1.1.2.2.2.2
  unfold sdB at hI
  have fl := (OA_fl (tq := tq) (L := g.2.1) hP i5 hA (fun a ha => by have := h2 a ha; omega) hj).2
  have hx := lw_ix (Lf := vF v) hP i5 i52 (by omega) (show 256 * v.1.1 5 ≤ Fc by omega)
  by_cases act : 1 ≤ vF v ∨ now < th + Rm + 62
  · have er : rmR Rm (now + 1) th ed (vF v) = rmR Rm now th ed (vF v) - 1 := by
      unfold rmR
      split <;> omega
    have ed2 : de * (rmR Rm now th ed (vF v) - 1) = de * rmR Rm now th ed (vF v) - de := by rw [Int.mul_sub, Int.mul_one]
    unfold OA
    rw [er, ed2]
    omega
  · have hl : ¬ 1 ≤ vF v := fun q => act (Or.inl q)
    have f := hf hl (by omega)
    have hm : mW v.1 ≤ 67328 := by
      by_cases q : v.1.1 11 = -1
      · rw [mW_n q]
        rcases h5 with h5 | h5
        · have : ¬ v.1.1 5 < v.1.1 4 / 256 := fun y => h5 ⟨hon, y⟩
          omega
        · omega
      · have := h4 q
        omega
    have low := lw_low (Lf := vF v) (hP.sc i52) hm (by omega) f
    have hr : rmR Rm (now + 1) th ed (vF v) ≤ 2 * Rm + 62 := by
      have := hA.1
      unfold rmR
      rw [if_neg hl]
      omega
    have hT := PT_le (W := W) hc hC.1.2.2.1 hC.2.2.2.1
    have := oa_low (de := de) (gr := gr) hP low hT hr ha
    omega
theorem LHv.tick {fw bk iv : Int} {k : Nat} {bs : List Bool} {z : Bool} (hP : LR kk cS W kp J1 B w1 w2 Wm F0 z0 H0 e0 gr w3 Q de Fc Rm) (hQ : hi - lo ≤ Q) (hD : D = 4194304 * Q) (h : LHv kk cS W kp J1 H0 de gr Rm now c dl tq R lo hi th ed jg ts D i v g Bk) (hon : v.1.1 3 ≠ 0) (ho : v.2.1.length ≤ 61) (h0 : 0 ≤ now + 1) (hF : Bk + 128 ≤ 25 * Fc) (hR2 : R ≤ Rm) (hc : c = bk - v.1.1 2) (hd : dl = fw + v.1.1 2) (hRR : R = fw + bk) (hR1 : 1 ≤ R)
    (hs : sndOK (now + 1) (now + 1 + fw + bk) k bs (slowM (hndV (now + 1) v).1 (now + 1) iv, (hndV (now + 1) v).2)) (hw : ¬ wantsM (sndV (now + 1) (now + 1 + fw + bk) k bs (slowM (hndV (now + 1) v).1 (now + 1) iv, (hndV (now + 1) v).2)).1) (hz : z = true → (sndV (now + 1) (now + 1 + fw + bk) k bs (slowM (hndV (now + 1) v).1 (now + 1) iv, (hndV (now + 1) v).2)).2.1 ≠ [])
    (hr : z = true → ∀ x t, (sndV (now + 1) (now + 1 + fw + bk) k bs (slowM (hndV (now + 1) v).1 (now + 1) iv, (hndV (now + 1) v).2)).2.1 = x :: t → lo ≤ now + 1 + fw - x + v.1.1 2 ∧ now + 1 + fw - x + v.1.1 2 ≤ hi) :
    ∃ g2 th2 ed2 jg2 ts2 i2, LHv kk cS W kp J1 H0 de gr Rm (now + 1) c dl tq R lo hi th2 ed2 jg2 ts2 D i2 (finV (now + 1 + fw) (now + 1 + fw + bk) k z (sndV (now + 1) (now + 1 + fw + bk) k bs (slowM (hndV (now + 1) v).1 (now + 1) iv, (hndV (now + 1) v).2))) g2 (Bk + max 0 (128 - de) + (if z = true then 25 * gr else 0)) := by
  have p1 := OA.nxt hP h hon ho (by omega)
  obtain ⟨h1, h2, hA, hS, hwn, hC, h7, h8⟩ := h
  have hf := fun hl ht => lh_few1 h1 h2 hA hC ho hl ht
  have hft := fun (hx : ts + 200 ≤ now) => lh_few h1 h2 hC ho (fun n hn q => h1.2.2.2.2.2.1 n hn q) hx
  have ha := hC.le200 h2
  have hcS := hP.2.2.2.2.2.2.2.1
  have hW := hP.2.2.2.2.2.2.2.2.1
  have hQ0 : 0 ≤ Q := hP.2.2.2.2.2.2.2.2.2.2.2.1
  have hg : 0 ≤ gr := hP.2.2.2.2.2.2.2.2.2.2.2.2.1
  have hde : 0 ≤ de := hP.2.2.2.2.2.2.2.2.2.2.2.2.2.2.2.2.1
  have hRm1 : 1 ≤ Rm := hP.2.2.2.2.2.2.2.2.2.2.2.2.2.2.2.2.2.2.1
  have hRm2 : Rm ≤ 200 := hP.2.2.2.2.2.2.2.2.2.2.2.2.2.2.2.2.2.2.2
  obtain ⟨hN, -⟩ := h1.nxt hcS hW
  have hj : jg ≤ now / 200 := h1.2.2.1.2.1
  have wN : wcP (now + 1) tq (jgN now jg g.2.1) ≤ wcP now tq jg := Int.le_trans (wc_mono (jgN_ge hj)) wc_nxt
  have wNm := Int.mul_le_mul_of_nonneg_left wN hW
  have hpt : ∀ a ∈ v.2.2, now + 1 ≤ a.1 := fun a ha => by have := h2 a ha; omega
  have hA1 : AgR Rm (now + 1) th ed v.1 ([] ++ v.2.2) := by
    obtain ⟨a1, a2, a3, a4⟩ := hA
    refine ⟨by omega, fun n hn => ?_, a3, fun q => ?_⟩
    · have := a2 n hn
      omega
    · have := a4 q
      exact ⟨by omega, this.2⟩
  have hM1 : MIX (now + 1) th ts Rm (v.1, v.2.1, [] ++ v.2.2) := by
    refine ⟨fun q => ?_, fun q => ?_, ?_⟩
    · have := hS q
      exact ⟨by show v.1.1 11 ≤ _; omega, this.2.2⟩
    · by_cases hl : 1 ≤ vF v
      · exact Or.inl hl
      · right
        by_cases y : now + 1 ≤ th + Rm + 2
        · exact Or.inl y
        · right
          have f := hf hl (by omega)
          refine ⟨?_, f⟩
          show mW v.1 ≤ 67328
          have q : v.1.1 11 = -1 := q
          rw [mW_n q]
          rcases hwn with hwn | hwn
          · have : ¬ v.1.1 5 < v.1.1 4 / 256 := fun y => hwn ⟨hon, y⟩
            omega
          · omega
    · by_cases y : now + 1 ≤ ts + 200
      · exact Or.inl y
      · exact Or.inr (hft (by omega))
  obtain ⟨g2, th2, i2, k1, k2, k3, k4⟩ := LH.hnd (de := de) (J1 := J1) hP hQ hD v.2.2 [] v.1 g th (iN now tq jg i g.2.1) hN hA1 hM1 (fun a ha => by cases ha) hpt ha
  have e2 : hndV (now + 1) v = (v.2.2.foldl (hndS (now + 1)) v.1, v.2.1, v.2.2.filter (fun n => decide (n.1 ≠ now + 1))) := rfl
  have e3 : ([] : List NtM) ++ v.2.2.filter (fun n => decide (n.1 ≠ now + 1)) = v.2.2.filter (fun n => decide (n.1 ≠ now + 1)) := rfl
  rw [e3] at k1 k2 k3 k4
  have k4 : OA kk cS W kp J1 de gr Rm (now + 1) th2 ed tq (jgN now jg g.2.1) i2 (v.2.2.foldl (hndS (now + 1)) v.1, v.2.1, v.2.2.filter (fun n => decide (n.1 ≠ now + 1))) g2.2.1 ≤ max (OA kk cS W kp J1 de gr Rm (now + 1) th ed tq (jgN now jg g.2.1) (iN now tq jg i g.2.1) v g.2.1) (bmA cS H0 de gr Rm + W * wcP (now + 1) tq (jgN now jg g.2.1)) := k4
  rw [e2] at hs hw hz hr ⊢
  dsimp only at hs hw hz hr ⊢
  -- the slow-down's step
  have hnl : ∀ a ∈ v.2.2.filter (fun n => decide (n.1 ≠ now + 1)), now + 1 ≤ a.1 := fun a ha => hpt a (List.mem_filter.mp ha).1
  have fl := (OA_fl (de := de) (gr := gr) (J1 := J1) (tq := tq) (v := (v.2.2.foldl (hndS (now + 1)) v.1, v.2.1, v.2.2.filter (fun n => decide (n.1 ≠ now + 1)))) (L := g2.2.1) hP k1.2.2.2.1.2.1 k2 hnl k1.2.2.1.2.1).2
  dsimp only at fl
  have m3 := k3.slow (iv := iv) h0
  obtain ⟨jg3, i3, m1, m4, mj⟩ := LH.slow (de := de) (th := th2) (ed := ed) (J1 := J1) (gr := gr) (iv := iv) hP k1 h0 (by omega)
  have w3c : wcP (now + 1) tq jg3 ≤ wcP (now + 1) tq (jgN now jg g.2.1) := wc_mono mj
  have w3m := Int.mul_le_mul_of_nonneg_left w3c hW
  have e9 : (slowM (v.2.2.foldl (hndS (now + 1)) v.1) (now + 1) iv).1 9 = (v.2.2.foldl (hndS (now + 1)) v.1).1 9 := by
    unfold slowM
    rw [begins_o (by decide) (by decide) (by decide), ends_o (by decide) (by decide) (by decide)]
  have m2 : AgR Rm (now + 1) th2 ed (slowM (v.2.2.foldl (hndS (now + 1)) v.1) (now + 1) iv) (v.2.2.filter (fun n => decide (n.1 ≠ now + 1))) := by
    unfold AgR at k2 ⊢
    rw [e9]
    exact k2
  have haf : aNl (v.2.2.filter (fun n => decide (n.1 ≠ now + 1))) ≤ 200 := by
    have : aNl (v.2.2.filter (fun n => decide (n.1 ≠ now + 1))) ≤ aNl v.2.2 := List.filter_sublist.countP_le
    omega
  obtain ⟨ed3, ts3, n1, n2, n3, n4⟩ := LH.snds (de := de) (J1 := J1) (gr := gr) hP (k := k) (ar := now + 1 + fw + bk) ⟨by omega, by omega⟩ (by omega) bs (slowM (v.2.2.foldl (hndS (now + 1)) v.1) (now + 1) iv, v.2.1, v.2.2.filter (fun n => decide (n.1 ≠ now + 1))) ed ts m1 m2 m3 haf hs
  have f2 : (slowM (v.2.2.foldl (hndS (now + 1)) v.1) (now + 1) iv).1 2 = v.1.1 2 := by
    unfold slowM
    rw [begins_o (by decide) (by decide) (by decide), ends_o (by decide) (by decide) (by decide), hnd_2]
  have hAC := AC.tick (fw := fw) (bk := bk) (k := k) (bs := bs) (z := z) (v := v) (s2 := slowM (v.2.2.foldl (hndS (now + 1)) v.1) (now + 1) iv) hC (by omega) rfl
  have hsm : ∀ a ∈ (sndV (now + 1) (now + 1 + fw + bk) k bs (slowM (v.2.2.foldl (hndS (now + 1)) v.1) (now + 1) iv, v.2.1, v.2.2.filter (fun n => decide (n.1 ≠ now + 1)))).2.2, now + 1 < a.1 := by
    intro a ha
    rcases snd_mem _ _ _ ha with y | y
    · have y : a ∈ v.2.2.filter (fun n => decide (n.1 ≠ now + 1)) := y
      rw [List.mem_filter] at y
      have b1 := hpt a y.1
      have b2 := of_decide_eq_true y.2
      omega
    · omega
  generalize hvs : sndV (now + 1) (now + 1 + fw + bk) k bs (slowM (v.2.2.foldl (hndS (now + 1)) v.1) (now + 1) iv, v.2.1, v.2.2.filter (fun n => decide (n.1 ≠ now + 1))) = vs at *
  have f3 : vs.1.1 2 = v.1.1 2 := by
    rw [← hvs, snd_2]
    exact f2
  have r1 := n1.fin (k := k) (z := z) (fw := fw) (bk := bk) hz (by rw [f3]; exact hc) (by rw [f3]; exact hd) hRR (by rw [f3]; exact hr)
  have evs : (vs.1, vs.2.1, vs.2.2) = vs := rfl
  rw [evs] at r1
  have e1 : (finV (now + 1 + fw) (now + 1 + fw + bk) k z vs).1 = vs.1 := fin_s
  have evf : vF (finV (now + 1 + fw) (now + 1 + fw + bk) k z vs) = vF vs := by
    show lFl ((finV (now + 1 + fw) (now + 1 + fw + bk) k z vs).1.1 9) _ = lFl (vs.1.1 9) vs.2.2
    rw [e1]
    cases z with
    | false => rfl
    | true =>
      cases hvo : vs.2.1 with
      | nil => exact absurd hvo (hz rfl)
      | cons x t =>
        rw [fin_t hvo, lFl_app, if_neg (fun q => q.1 rfl)]
        rfl
  have hzg : 0 ≤ (if z = true then 25 * gr else 0) := by
    split <;> omega
  refine ⟨g2, th2, ed3, jg3, ts3, i3, r1, ?_, ?_, ?_, ?_, hAC, ?_, ?_⟩
  · intro a ha
    rcases fin_mem ha with w | w
    · exact hsm a w
    · omega
  · obtain ⟨a1, a2, a3, a4⟩ := n2
    refine ⟨a1, fun n hn => ?_, fun n hn => ?_, fun q => ?_⟩
    · rcases fin_mem hn with w | w
      · exact a2 n w
      · omega
    · rw [e1]
      intro y1 y2
      rcases fin_mem hn with w | w
      · exact a3 n w y1 y2
      · exact absurd w.2.1 y1
    · have q : 1 ≤ vF (finV (now + 1 + fw) (now + 1 + fw + bk) k z vs) := q
      rw [evf] at q
      rw [e1]
      obtain ⟨b1, m, hm, b2⟩ := a4 q
      refine ⟨b1, m, ?_, b2⟩
      cases z with
      | false => exact hm
      | true =>
        cases hvo : vs.2.1 with
        | nil => exact absurd hvo (hz rfl)
        | cons x t =>
          rw [fin_t hvo]
          exact List.mem_append_left _ hm
  · unfold SLr at n3 ⊢
    rw [evf, e1]
    exact n3
  · rw [e1]
    exact Or.inl hw
  · have an := aNl_fin (du := now + 1 + fw) (ar := now + 1 + fw + bk) (k := k) (z := z) (v := vs)
    have c1 : OA kk cS W kp J1 de gr Rm (now + 1) th2 ed3 tq jg3 i3 (finV (now + 1 + fw) (now + 1 + fw + bk) k z vs) g2.2.1 ≤ OA kk cS W kp J1 de gr Rm (now + 1) th2 ed3 tq jg3 i3 vs g2.2.1 + (if z = true then 25 * gr else 0) := by
      have c2 := Int.mul_le_mul_of_nonneg_left an hg
      have c3 : gr * ((aNl vs.2.2 : Int) + (if z = true then 1 else 0)) = gr * (aNl vs.2.2 : Int) + (if z = true then gr else 0) := by
        rw [Int.mul_add]
        congr 1
        split
        · exact Int.mul_one _
        · exact Int.mul_zero _
      unfold OA
      rw [evf, e1]
      rw [c3] at c2
      cases z with
      | true =>
        rw [if_pos rfl] at c2 ⊢
        omega
      | false =>
        rw [if_neg (by decide)] at c2 ⊢
        omega
    omega
  · omega
end LHT
