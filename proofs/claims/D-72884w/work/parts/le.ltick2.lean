/-! Bounds, ledger of levels: a whole tick -/
def cAg (x : Int) (l : List NtM) : Nat := l.countP (fun n => decide (n.2.2.1 = 0 ∧ x < n.1))
theorem cAg_app {x : Int} {l : List NtM} {n : NtM} : cAg x (l ++ [n]) = cAg x l + if n.2.2.1 = 0 ∧ x < n.1 then 1 else 0 := by
  unfold cAg
  rw [List.countP_append, List.countP_singleton]
  by_cases q : n.2.2.1 = 0 ∧ x < n.1
  · rw [if_pos q, if_pos (decide_eq_true q)]
  · rw [if_neg q, if_neg (by rw [decide_eq_true_eq]; exact q)]
theorem cAg_snd {now ar x : Int} {k : Nat} : ∀ (bs : List Bool) (v : SV), cAg x (sndV now ar k bs v).2.2 = cAg x v.2.2 := by
  intro bs
  induction bs with
  | nil => intro v; rfl
  | cons b bs ih =>
    intro v
    have ev : sndV now ar k (b :: bs) v = sndV now ar k bs (snd1 now ar k b v) := rfl
    rw [ev, ih]
    cases b with
    | true => rfl
    | false =>
      show cAg x (v.2.2 ++ [(ar, k, 1, v.1.1 6)]) = _
      rw [cAg_app, if_neg (fun q => absurd q.1 (show ¬ (1 : Int) = 0 by decide))]
      rfl
theorem cAg_fin {du ar x : Int} {k : Nat} {z : Bool} {v : SV} : cAg x (finV du ar k z v).2.2 ≤ cAg x v.2.2 + (if x < ar then 1 else 0) := by
  cases z with
  | false => exact Nat.le_add_right _ _
  | true =>
    cases ho : v.2.1 with
    | nil =>
      have e : finV du ar k true v = v := by
        unfold finV
        rw [ho]
      rw [e]
      exact Nat.le_add_right _ _
    | cons y t =>
      rw [fin_t ho, cAg_app]
      by_cases q : x < ar
      · rw [if_pos q]
        split <;> omega
      · rw [if_neg q, if_neg (fun w => q w.2)]
        exact Nat.le_refl _
theorem cAg_filter {x : Int} {l : List NtM} {p : NtM → Bool} : cAg x (l.filter p) ≤ cAg x l := List.filter_sublist.countP_le
theorem AC.le200 {now : Int} {l : List NtM} (h : AC now l) (hl : ∀ n ∈ l, now < n.1) : aNl l ≤ 200 := by
  have h0 := h 0
  have e : aNl l = cAg (now + ((0 : Nat) : Int)) l := by
    unfold aNl cAg
    refine List.countP_congr (fun n hn => ?_)
    have := hl n hn
    rw [decide_eq_true_eq, decide_eq_true_eq]
    constructor
    · intro q
      exact ⟨q, by omega⟩
    · intro q
      exact q.1
  have h0 : ((cAg (now + ((0 : Nat) : Int)) l : Nat) : Int) ≤ max 0 (200 - ((0 : Nat) : Int)) := h0
  omega
theorem AC.tick {now fw bk : Int} {k : Nat} {bs : List Bool} {z : Bool} {v v2 : SV} {s2 : SdM} (h : AC now v.2.2) (hR : fw + bk ≤ 200) (h2 : v2 = (s2, v.2.1, v.2.2.filter (fun n => decide (n.1 ≠ now + 1)))) : AC (now + 1) (finV (now + 1 + fw) (now + 1 + fw + bk) k z (sndV (now + 1) (now + 1 + fw + bk) k bs v2)).2.2 := by
  intro j
  have a := cAg_fin (du := now + 1 + fw) (ar := now + 1 + fw + bk) (x := now + 1 + (j : Int)) (k := k) (z := z) (v := sndV (now + 1) (now + 1 + fw + bk) k bs v2)
  rw [cAg_snd, h2] at a
  have b := cAg_filter (x := now + 1 + (j : Int)) (l := v.2.2) (p := fun n => decide (n.1 ≠ now + 1))
  have c := h (j + 1)
  have c : ((cAg (now + ((j + 1 : Nat) : Int)) v.2.2 : Nat) : Int) ≤ max 0 (200 - ((j + 1 : Nat) : Int)) := c
  rw [show now + ((j + 1 : Nat) : Int) = now + 1 + (j : Int) by omega] at c
  rw [h2]
  show ((cAg (now + 1 + (j : Int)) (finV (now + 1 + fw) (now + 1 + fw + bk) k z (sndV (now + 1) (now + 1 + fw + bk) k bs (s2, v.2.1, v.2.2.filter (fun n => decide (n.1 ≠ now + 1))))).2.2 : Nat) : Int) ≤ _
  dsimp only at a b
  split at a <;> omega
/-- between ticks -/
def LGv (K kp J1 de gr now c dl R lo hi th ed : Int) (v : SV) (g : Gh) (Bk : Int) : Prop := CB now c dl R lo hi v.1 v.2.1 v.2.2 g ∧ (∀ n ∈ v.2.2, now < n.1) ∧ AgI now th ed v.1 v.2.2 ∧ SLc now th v ∧ (¬ wantsM v.1 ∨ now ≤ th) ∧ AC now v.2.2 ∧ OH K kp J1 de gr now th ed v g.2.1 ≤ Bk ∧ GR g
section LTT
variable {now c dl R lo hi : Int} {K kp J1 B w1 w2 Wm F0 z0 H0 gr w3 Q de ed th Bk : Int}
/-- no loss on its way: the flight is small -/
theorem lg_few {v : SV} {g : Gh} (h : LGv K kp J1 de gr now c dl R lo hi th ed v g Bk) (ho : v.2.1.length ≤ 61) (hl : ¬ 1 ≤ vF v) (ht : th + 200 ≤ now) : v.1.1 5 ≤ 261 := by
  obtain ⟨h1, h2, h3, h4, h5, h6, h7⟩ := h
  have a := h6.le200 h2
  have hall : ∀ n ∈ v.2.2, isA n := by
    intro n hn
    apply Decidable.byContradiction
    intro q
    by_cases y : n.2.2.2 < v.1.1 9
    · have := h3.2.2.1 n hn q y
      have := h2 n hn
      omega
    · apply hl
      have : 0 < lFl (v.1.1 9) v.2.2 := by
        unfold lFl
        rw [List.countP_pos_iff]
        exact ⟨n, hn, decide_eq_true ⟨q, by omega⟩⟩
      exact this
  have e := aNl_all hall
  have f : v.1.1 5 = ((v.2.1.length + v.2.2.length : Nat) : Int) := h1.1.1.1
  omega
theorem OH.nxt {v : SV} {g : Gh} (hP : LQ K kp J1 B w1 w2 Wm F0 z0 H0 gr w3 Q de) (h : LGv K kp J1 de gr now c dl R lo hi th ed v g Bk) (hon : v.1.1 3 ≠ 0) (ho : v.2.1.length ≤ 61) : OH K kp J1 de gr (now + 1) th ed v g.2.1 ≤ max (OH K kp J1 de gr now th ed v g.2.1 + 128 - de) (bmN H0 de gr) := by
  have hn := nuP_nxt h.1.1.2.2.1
  have h3 := nuP_3 (now := now + 1) (L := g.2.1)
  have ha := h.2.2.2.2.2.1.le200 h.2.1
  have hf := lg_few h ho
  obtain ⟨h1, h2, hA, h4, h5, h6, h7⟩ := h
  have hI := h1.1.2.2.2.2
  unfold sdB at hI
  have hd := hP.2.2.2.2.2.2.2.2.1
  have hg := hP.2.2.2.2.1
  by_cases act : 1 ≤ vF v ∨ now < th + 262
  · have er : rmN (now + 1) th ed (vF v) = rmN now th ed (vF v) - 1 := by
      unfold rmN
      split <;> omega
    have ed2 : de * (rmN now th ed (vF v) - 1) = de * rmN now th ed (vF v) - de := by rw [Int.mul_sub, Int.mul_one]
    unfold OH
    rw [er, ed2]
    omega
  · have hl : ¬ 1 ≤ vF v := fun q => act (Or.inl q)
    have f := hf hl (by omega)
    have hm : mW v.1 ≤ 67328 := by
      by_cases q : v.1.1 11 = -1
      · rw [mW_n q]
        rcases h5 with h5 | h5
        · have : ¬ v.1.1 5 < v.1.1 4 / 256 := fun y => h5 ⟨hon, y⟩
          omega
        · omega
      · have := h4 q
        omega
    have low := lv_low (Lf := vF v) hP.1 hm (by omega) f
    have hr : rmN (now + 1) th ed (vF v) ≤ 462 := by
      have := hA.1
      unfold rmN
      rw [if_neg hl]
      omega
    have := oh_low (m := (now + 1) % 200) (r := rmN (now + 1) th ed (vF v)) (a := aNl v.2.2) low h3 (by omega) hr hd hg ha
    unfold OH
    omega
theorem LGv.tick {fw bk iv : Int} {v : SV} {g : Gh} {k : Nat} {bs : List Bool} {z : Bool} (hP : LQ K kp J1 B w1 w2 Wm F0 z0 H0 gr w3 Q de) (hQ : hi - lo ≤ Q) (h : LGv K kp J1 de gr now c dl R lo hi th ed v g Bk) (hon : v.1.1 3 ≠ 0) (ho : v.2.1.length ≤ 61) (h0 : 0 ≤ now + 1) (hnow : now + 1 ≤ tqB) (hB : bmN H0 de gr ≤ Bk) (hR0 : 0 ≤ R) (hR2 : R ≤ 200) (hc : c = bk - v.1.1 2) (hd : dl = fw + v.1.1 2) (hRR : R = fw + bk) (hR1 : 1 ≤ R)
    (hs : sndOK (now + 1) (now + 1 + fw + bk) k bs (slowM (hndV (now + 1) v).1 (now + 1) iv, (hndV (now + 1) v).2)) (hw : ¬ wantsM (sndV (now + 1) (now + 1 + fw + bk) k bs (slowM (hndV (now + 1) v).1 (now + 1) iv, (hndV (now + 1) v).2)).1) (hz : z = true → (sndV (now + 1) (now + 1 + fw + bk) k bs (slowM (hndV (now + 1) v).1 (now + 1) iv, (hndV (now + 1) v).2)).2.1 ≠ [])
    (hr : z = true → ∀ x t, (sndV (now + 1) (now + 1 + fw + bk) k bs (slowM (hndV (now + 1) v).1 (now + 1) iv, (hndV (now + 1) v).2)).2.1 = x :: t → lo ≤ now + 1 + fw - x + v.1.1 2 ∧ now + 1 + fw - x + v.1.1 2 ≤ hi) :
    ∃ g2 th2 ed2, LGv K kp J1 de gr (now + 1) c dl R lo hi th2 ed2 (finV (now + 1 + fw) (now + 1 + fw + bk) k z (sndV (now + 1) (now + 1 + fw + bk) k bs (slowM (hndV (now + 1) v).1 (now + 1) iv, (hndV (now + 1) v).2))) g2 (Bk + max 0 (128 - de) + (if z = true then 25 * gr else 0)) := by
  have p1 := OH.nxt hP h hon ho
  have ha := h.2.2.2.2.2.1.le200 h.2.1
  have hf := lg_few h ho
  obtain ⟨h1, h2, hA, hS, hwn, hC, h7, hGR⟩ := h
  have hg := hP.2.2.2.2.1
  have hpt : ∀ a ∈ v.2.2, now + 1 ≤ a.1 := fun a ha => by have := h2 a ha; omega
  have hA1 : AgI (now + 1) th ed v.1 ([] ++ v.2.2) := by
    obtain ⟨a1, a2, a3, a4⟩ := hA
    refine ⟨by omega, fun n hn => ?_, a3, fun q => ?_⟩
    · have := a2 n hn
      omega
    · have := a4 q
      exact ⟨by omega, this.2⟩
  have hM1 : MID (now + 1) th (v.1, v.2.1, [] ++ v.2.2) := by
    refine ⟨fun q => ?_, fun q => ?_⟩
    · have := hS q
      exact ⟨by show v.1.1 11 ≤ _; omega, this.2.2⟩
    · by_cases hl : 1 ≤ vF v
      · exact Or.inl hl
      · right
        by_cases y : now + 1 ≤ th + 202
        · exact Or.inl y
        · right
          have f := hf hl (by omega)
          refine ⟨?_, f⟩
          show mW v.1 ≤ 67328
          have q : v.1.1 11 = -1 := q
          rw [mW_n q]
          rcases hwn with hwn | hwn
          · have : ¬ v.1.1 5 < v.1.1 4 / 256 := fun y => hwn ⟨hon, y⟩
            omega
          · omega
  obtain ⟨g2, th2, k1, k2, k3, k4, k5⟩ := LG.hnd hP hQ hnow v.2.2 [] v.1 g th (h1.nxt0) hA1 hM1 (fun a ha => by cases ha) hpt ha
  have e2 : hndV (now + 1) v = (v.2.2.foldl (hndS (now + 1)) v.1, v.2.1, v.2.2.filter (fun n => decide (n.1 ≠ now + 1))) := rfl
  have e3 : ([] : List NtM) ++ v.2.2.filter (fun n => decide (n.1 ≠ now + 1)) = v.2.2.filter (fun n => decide (n.1 ≠ now + 1)) := rfl
  rw [e3] at k1 k2 k3 k4
  have k4 : OH K kp J1 de gr (now + 1) th2 ed (v.2.2.foldl (hndS (now + 1)) v.1, v.2.1, v.2.2.filter (fun n => decide (n.1 ≠ now + 1))) g2.2.1 ≤ max (OH K kp J1 de gr (now + 1) th ed v g.2.1) (bmN H0 de gr) := k4
  rw [e2] at hs hw hz hr ⊢
  dsimp only at hs hw hz hr ⊢
  -- the slow-down's step
  have m1 := (k1.ends0).begins0 (iv := iv) h0
  have m1 : CB (now + 1) c dl R lo hi (slowM (v.2.2.foldl (hndS (now + 1)) v.1) (now + 1) iv) v.2.1 (v.2.2.filter (fun n => decide (n.1 ≠ now + 1))) g2 := m1
  have m3 := k3.slow (iv := iv) h0
  have e9 : (slowM (v.2.2.foldl (hndS (now + 1)) v.1) (now + 1) iv).1 9 = (v.2.2.foldl (hndS (now + 1)) v.1).1 9 := by
    unfold slowM
    rw [begins_o (by decide) (by decide) (by decide), ends_o (by decide) (by decide) (by decide)]
  have m2 : AgI (now + 1) th2 ed (slowM (v.2.2.foldl (hndS (now + 1)) v.1) (now + 1) iv) (v.2.2.filter (fun n => decide (n.1 ≠ now + 1))) := by
    unfold AgI at k2 ⊢
    rw [e9]
    exact k2
  have m4 : OH K kp J1 de gr (now + 1) th2 ed (slowM (v.2.2.foldl (hndS (now + 1)) v.1) (now + 1) iv, v.2.1, v.2.2.filter (fun n => decide (n.1 ≠ now + 1))) g2.2.1 = OH K kp J1 de gr (now + 1) th2 ed (v.2.2.foldl (hndS (now + 1)) v.1, v.2.1, v.2.2.filter (fun n => decide (n.1 ≠ now + 1))) g2.2.1 := by
    have ev : vF (slowM (v.2.2.foldl (hndS (now + 1)) v.1) (now + 1) iv, v.2.1, v.2.2.filter (fun n => decide (n.1 ≠ now + 1))) = vF (v.2.2.foldl (hndS (now + 1)) v.1, v.2.1, v.2.2.filter (fun n => decide (n.1 ≠ now + 1))) := by
      show lFl _ _ = lFl _ _
      dsimp only
      rw [e9]
    unfold OH
    rw [ev]
    dsimp only
    unfold slowM
    rw [lv_begins h0, lv_ends]
  have haf : aNl (v.2.2.filter (fun n => decide (n.1 ≠ now + 1))) ≤ 200 := by
    have : aNl (v.2.2.filter (fun n => decide (n.1 ≠ now + 1))) ≤ aNl v.2.2 := List.filter_sublist.countP_le
    omega
  obtain ⟨ed3, n1, n2, n3, n4⟩ := LG.snds hP (k := k) (ar := now + 1 + fw + bk) ⟨by omega, by omega⟩ bs (slowM (v.2.2.foldl (hndS (now + 1)) v.1) (now + 1) iv, v.2.1, v.2.2.filter (fun n => decide (n.1 ≠ now + 1))) ed m1 m2 m3 haf hs
  have f2 : (slowM (v.2.2.foldl (hndS (now + 1)) v.1) (now + 1) iv).1 2 = v.1.1 2 := by
    unfold slowM
    rw [begins_o (by decide) (by decide) (by decide), ends_o (by decide) (by decide) (by decide), hnd_2]
  have hAC := AC.tick (fw := fw) (bk := bk) (k := k) (bs := bs) (z := z) (v := v) (s2 := slowM (v.2.2.foldl (hndS (now + 1)) v.1) (now + 1) iv) hC (by omega) rfl
  have hsm : ∀ a ∈ (sndV (now + 1) (now + 1 + fw + bk) k bs (slowM (v.2.2.foldl (hndS (now + 1)) v.1) (now + 1) iv, v.2.1, v.2.2.filter (fun n => decide (n.1 ≠ now + 1)))).2.2, now + 1 < a.1 := by
    intro a ha
    rcases snd_mem _ _ _ ha with y | y
    · have y : a ∈ v.2.2.filter (fun n => decide (n.1 ≠ now + 1)) := y
      rw [List.mem_filter] at y
      have b1 := hpt a y.1
      have b2 := of_decide_eq_true y.2
      omega
    · omega
  generalize hvs : sndV (now + 1) (now + 1 + fw + bk) k bs (slowM (v.2.2.foldl (hndS (now + 1)) v.1) (now + 1) iv, v.2.1, v.2.2.filter (fun n => decide (n.1 ≠ now + 1))) = vs at *
  have f3 : vs.1.1 2 = v.1.1 2 := by
    rw [← hvs, snd_2]
    exact f2
  have r1 := n1.fin0 (k := k) (z := z) (fw := fw) (bk := bk) hz (by rw [f3]; exact hc) (by rw [f3]; exact hd) hRR (by rw [f3]; exact hr)
  have evs : (vs.1, vs.2.1, vs.2.2) = vs := rfl
  rw [evs] at r1
  have e1 : (finV (now + 1 + fw) (now + 1 + fw + bk) k z vs).1 = vs.1 := fin_s
  have evf : vF (finV (now + 1 + fw) (now + 1 + fw + bk) k z vs) = vF vs := by
    show lFl ((finV (now + 1 + fw) (now + 1 + fw + bk) k z vs).1.1 9) _ = lFl (vs.1.1 9) vs.2.2
    rw [e1]
    cases z with
    | false => rfl
    | true =>
      cases hvo : vs.2.1 with
      | nil => exact absurd hvo (hz rfl)
      | cons x t =>
        rw [fin_t hvo, lFl_app, if_neg (fun q => q.1 rfl)]
        rfl
  refine ⟨g2, th2, ed3, r1, ?_, ?_, ?_, ?_, hAC, ?_, by unfold GR at hGR ⊢; rw [k5]; exact hGR⟩
  · intro a ha
    rcases fin_mem ha with w | w
    · exact hsm a w
    · omega
  · obtain ⟨a1, a2, a3, a4⟩ := n2
    refine ⟨a1, fun n hn => ?_, fun n hn => ?_, fun q => ?_⟩
    · rcases fin_mem hn with w | w
      · exact a2 n w
      · omega
    · rw [e1]
      intro y1 y2
      rcases fin_mem hn with w | w
      · exact a3 n w y1 y2
      · exact absurd w.2.1 y1
    · have q : 1 ≤ vF (finV (now + 1 + fw) (now + 1 + fw + bk) k z vs) := q
      rw [evf] at q
      rw [e1]
      obtain ⟨b1, m, hm, b2⟩ := a4 q
      refine ⟨b1, m, ?_, b2⟩
      cases z with
      | false => exact hm
      | true =>
        cases hvo : vs.2.1 with
        | nil => exact absurd hvo (hz rfl)
        | cons x t =>
          rw [fin_t hvo]
          exact List.mem_append_left _ hm
  · unfold SLc at n3 ⊢
    rw [evf, e1]
    exact n3
  · rw [e1]
    exact Or.inl hw
  · have an := aNl_fin (du := now + 1 + fw) (ar := now + 1 + fw + bk) (k := k) (z := z) (v := vs)
    have c1 : OH K kp J1 de gr (now + 1) th2 ed3 (finV (now + 1 + fw) (now + 1 + fw + bk) k z vs) g2.2.1 ≤ OH K kp J1 de gr (now + 1) th2 ed3 vs g2.2.1 + (if z = true then 25 * gr else 0) := by
      have c2 := Int.mul_le_mul_of_nonneg_left an hg
      have c3 : gr * ((aNl vs.2.2 : Int) + (if z = true then 1 else 0)) = gr * (aNl vs.2.2 : Int) + (if z = true then gr else 0) := by
        rw [Int.mul_add]
        congr 1
        split
        · exact Int.mul_one _
        · exact Int.mul_zero _
      unfold OH
      rw [evf, e1]
      rw [c3] at c2
      cases z with
      | true =>
        rw [if_pos rfl] at c2 ⊢
        omega
      | false =>
        rw [if_neg (by decide)] at c2 ⊢
        omega
    have : 0 ≤ (if z = true then 25 * gr else 0) := by
      split <;> omega
    omega
end LTT
