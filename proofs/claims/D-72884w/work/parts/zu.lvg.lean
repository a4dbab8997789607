/-! Bounds, the account: levels by squares, over all calls; growth counted by growing acknowledgments -/
/-- for any three senders; missing ones count as new -/
def LVG (F : Int) (nS : Nat) (m : MS) (y : Int) : Prop := ∃ Z tq : Nat → Int, (∀ k, k < nS → LQ1 F 3320 m (tq k) (-1000) 2320 k (Z k) ∧ AL (-1000) 2320 (ms m k) (vwK k m).2.2) ∧ ∀ e : Nat → Int, (∀ k, k < nS → e k = 0 ∨ e k = 1) → sumN e nS ≤ 3 → SqG nS e Z + (3 - sumN e nS) * ((25 * F + 25600) * (25 * F + 25600)) ≤ 3 * (y * y)
section LVGSS
variable {nS nC : Nat} {m m' : MS} {F dm y y2 : Int}
theorem LVG.mono (h : LVG F nS m y) (h0 : 0 ≤ y) (hy : y ≤ y2) : LVG F nS m y2 := by
  obtain ⟨Z, tq, a, b⟩ := h
  refine ⟨Z, tq, a, fun e he hN => ?_⟩
  have := b e he hN
  have := sq_le h0 hy
  omega
theorem LVG.run (hP : SQn F dm) (h : LVG F nS m y) (hb : BAs nS m (fun _ => -1000) (fun _ => 2320)) {T : Nat} (hT : mg m 5 + T ≤ tqB) (hy : 0 < y) {W : Int} (hW : grT F nS nC T m ≤ W) (hy2 : (3 * (y * y) + kSq dm * W) * ((y + 128 * T) * (y + 128 * T)) ≤ (y * y) * (3 * (y2 * y2))) : LVG F nS (tkN nS nC T m) y2 := by
  obtain ⟨Z, tq, a, b⟩ := h
  have fr := hb.frs (nC := nC) hT
  have h5 := hb.2.2.2.2.2.2.2.2.2.2.2.2.2
  have hf := hb.2.2.2.2.2.1
  have hk := hb.2.2.2.2.2.2.1
  obtain ⟨Z2, c1, c2⟩ := LQ1.runG (nC := nC) (tq := tq) (lo := fun _ => -1000) (hi := fun _ => 2320) (Q := 3320) hP (fun _ _ => by omega) (by omega) hb.1 (fun k hk => (a k hk).1) (by omega) (by omega) (by omega) T fr
  refine ⟨Z2, tq, fun k hk => ⟨c1 k hk, ?_⟩, fun e he hN => ?_⟩
  · exact AL.run (lo := fun _ => -1000) (hi := fun _ => 2320) hk hb.1 (a k hk).2 (by omega) T fr
  · have q0 : 0 ≤ (3 - sumN e nS) * ((25 * F + 25600) * (25 * F + 25600)) := Int.mul_nonneg (by omega) (sq_nn _)
    have c := c2 e y _ he hN (by omega) q0 (b e he hN)
    have kk0 : 0 ≤ kSq dm := by
      unfold kSq
      have := Int.mul_nonneg hP.2.1 hP.2.1
      have := hP.2.1
      omega
    have k1 : kSq dm * grT F nS nC T m ≤ kSq dm * W := Int.mul_le_mul_of_nonneg_left hW kk0
    have k2 : (3 * (y * y) + kSq dm * grT F nS nC T m) * ((y + 128 * T) * (y + 128 * T)) ≤ (3 * (y * y) + kSq dm * W) * ((y + 128 * T) * (y + 128 * T)) := Int.mul_le_mul_of_nonneg_right (by omega) (sq_nn _)
    have yy : 0 < y * y := Int.mul_pos hy hy
    exact Int.le_of_mul_le_mul_left (by omega) yy
/-- setters of senders that are there -/
theorem LVG.set (h : LVG F nS m y) (hb : BAs nS m (fun _ => -1000) (fun _ => 2320)) (e1 : mq m' = mq m) (e2 : mv m' = mv m) (e3 : mnt m' = mnt m) (e5 : mg m' 5 = mg m 5) (hf : 0 ≤ mg m' 2 ∧ mg m' 2 ≤ 100) (hk : 1 ≤ mg m' 3 ∧ mg m' 3 ≤ 100) (hS : ∀ k, k < nS → SF4 (ms m k) (ms m' k) ∧ (1 ≤ (ms m' k).1 0 ∧ (ms m' k).1 0 ≤ 200) ∧ (1 ≤ (ms m' k).1 1 ∧ (ms m' k).1 1 ≤ 8) ∧ -1000 ≤ (ms m' k).1 2 ∧ (ms m' k).1 2 ≤ 1000) : LVG F nS m' y := by
  obtain ⟨Z, tq, a, b⟩ := h
  have eo : ∀ k, (vwK k m').2 = (vwK k m).2 := by
    intro k
    show (own k m', (mnt m').filter (fun n => decide (n.2.1 = k))) = (own k m, (mnt m).filter (fun n => decide (n.2.1 = k)))
    unfold own
    rw [e1, e2, e3]
  refine ⟨Z, fun _ => mg m 5 + 200, fun k hk2 => ?_, b⟩
  · have s := hS k hk2
    refine ⟨LQ1.set (a k hk2).1 (a k hk2).2 (by omega) (eo k) e5 s.1 ⟨s.2.1, s.2.2.1⟩ ?_ (fun n hn => hb.2.2.2.2.2.2.2.2.1 k hk2 n hn) hb.2.2.2.2.2.2.2.2.2.2.2.2.2 (by omega) (by omega) (Int.le_refl _) (Int.le_refl _), ?_⟩
    · exact hb.2.2.2.2.2.2.2.2.2.2.2.o0 k
    · rw [eo]
      exact (a k hk2).2.same s.1.1
theorem LVG.setG {g' : Nat → Int} (h : LVG F nS m y) (hb : BAs nS m (fun _ => -1000) (fun _ => 2320)) (e5 : g' 5 = mg m 5) (hf : 0 ≤ g' 2 ∧ g' 2 ≤ 100) (hk : 1 ≤ g' 3 ∧ g' 3 ≤ 100) : LVG F nS (g', m.2) y :=
  h.set (m' := (g', m.2)) hb rfl rfl rfl e5 hf hk (fun k hk => ⟨SF4.rfl _, hb.tun k hk⟩)
theorem LVG.fld (h : LVG F nS m y) (hb : BAs nS m (fun _ => -1000) (fun _ => 2320)) {i w : Nat} {a : Int} (hw : w ≤ 3) (h0 : w = 0 → 1 ≤ a ∧ a ≤ 200) (h1 : w = 1 → 1 ≤ a ∧ a ≤ 8) (h2 : w = 2 → -1000 ≤ a ∧ a ≤ 1000) : LVG F nS (fldM m i w a) y := by
  refine h.set (m' := fldM m i w a) hb rfl rfl rfl rfl hb.2.2.2.2.2.1 hb.2.2.2.2.2.2.1 (fun k hk => ?_)
  have t := hb.tun k hk
  rw [fld_s]
  by_cases q : k = i
  · rw [if_pos q]
    subst q
    have e : ∀ j : Nat, (fldS (ms m k) w a).1 j = if j = w then a else (ms m k).1 j := fun j => rfl
    refine ⟨⟨rfl, fun j hj => ?_⟩, ?_, ?_, ?_⟩
    · rw [e, if_neg (by omega)]
    · rw [e]
      split
      · rename_i z
        exact h0 z.symm
      · exact t.1
    · rw [e]
      split
      · rename_i z
        exact h1 z.symm
      · exact t.2.1
    · rw [e]
      split
      · rename_i z
        exact h2 z.symm
      · exact t.2.2
  · rw [if_neg q]
    exact ⟨SF4.rfl _, t⟩
theorem LVG.mc (h : LVG F nS m y) (hb : BAs nS m (fun _ => -1000) (fun _ => 2320)) {c : Nat → Nat → Int} : LVG F nS (mg m, mq m, mv m, ms m, c, mnt m) y :=
  h.set (m' := (mg m, mq m, mv m, ms m, c, mnt m)) hb rfl rfl rfl rfl hb.2.2.2.2.2.1 hb.2.2.2.2.2.2.1 (fun k hk => ⟨SF4.rfl _, hb.tun k hk⟩)
/-- a new sender -/
theorem LVG.addS (hF : 512 ≤ F) (h : LVG F nS m y) (hb : BAs nS m (fun _ => -1000) (fun _ => 2320)) (h5 : mg m 5 ≤ 100000) (h4 : nS < 4) {a b d : Int} (ha : 1 ≤ a ∧ a ≤ 200) (hbb : 1 ≤ b ∧ b ≤ 8) (hd : -1000 ≤ d ∧ d ≤ 1000) : LVG F (nS + 1) (setSM m nS (newS a b d (mg m 5))) y := by
  obtain ⟨Z, tq, c1, c2⟩ := h
  have hO := hb.2.2.2.2.2.2.2.2.2.2.1
  have hZ := hb.2.2.2.2.2.2.2.2.2.2.2
  have eo : own nS m = [] := by
    unfold own
    have e1 : ownV nS (mv m) = [] := by
      cases hv : mv m with
      | none => rfl
      | some p =>
        show (if p.1 = nS then [p.2.2] else []) = []
        rw [if_neg (fun z => by have := hO.2.2 p hv (by omega); omega)]
    have e2 : ownL nS (mq m) = [] := by
      unfold ownL
      rw [List.filter_eq_nil_iff.mpr (fun p hp z => by
        have z := of_decide_eq_true z
        have := hO.2.1 p hp (by omega)
        omega)]
      rfl
    rw [e1, e2]
    rfl
  have en : (mnt m).filter (fun n => decide (n.2.1 = nS)) = [] := List.filter_eq_nil_iff.mpr (fun n hn z => by
    have z := of_decide_eq_true z
    have := hO.1 n hn
    omega)
  have es : ∀ k, ms (setSM m nS (newS a b d (mg m 5))) k = if k = nS then newS a b d (mg m 5) else ms m k := fun k => rfl
  have ev : ∀ k, k < nS → vwK k (setSM m nS (newS a b d (mg m 5))) = vwK k m := by
    intro k hk
    show (ms (setSM m nS (newS a b d (mg m 5))) k, own k m, _) = (ms m k, own k m, _)
    rw [es, if_neg (by omega)]
    rfl
  have ev2 : vwK nS (setSM m nS (newS a b d (mg m 5))) = (newS a b d (mg m 5), [], []) := by
    show (ms (setSM m nS (newS a b d (mg m 5))) nS, own nS m, (mnt m).filter (fun n => decide (n.2.1 = nS))) = _
    rw [es, if_pos rfl, eo, en]
  have nw := LQ1.new (m := setSM m nS (newS a b d (mg m 5))) (k := nS) (F := F) (Q := 3320) (lo := -1000) (hi := 2320) ev2 hZ.2.2 h5 ha hbb hd hb.2.2.2.2.2.1 hb.2.2.2.2.2.2.1 (by omega) hF
  refine ⟨fun k => if k = nS then 25 * F + 25600 else Z k, fun k => if k = nS then mg m 5 + 200 else tq k, fun k hk => ?_, fun e he hN => ?_⟩
  · by_cases q : k = nS
    · subst q
      have i1 : (if k = k then mg m 5 + 200 else tq k) = mg m 5 + 200 := if_pos rfl
      have i2 : (if k = k then 25 * F + 25600 else Z k) = 25 * F + 25600 := if_pos rfl
      show LQ1 F 3320 _ (if k = k then mg m 5 + 200 else tq k) (-1000) 2320 k (if k = k then 25 * F + 25600 else Z k) ∧ _
      rw [i1, i2]
      exact nw
    · dsimp only
      rw [if_neg q, if_neg q]
      have hk2 : k < nS := by omega
      have c := c1 k hk2
      have esk : ms (setSM m nS (newS a b d (mg m 5))) k = ms m k := by rw [es, if_neg q]
      refine ⟨?_, ?_⟩
      · obtain ⟨g, jg, ts, i, d1, d2, d3⟩ := c.1
        refine ⟨g, jg, ts, i, ?_, ?_, ?_⟩
        · rw [ev k hk2, esk]
          exact d1
        · rw [ev k hk2]
          exact d2
        · rw [ev k hk2]
          exact d3
      · rw [ev k hk2, esk]
        exact c.2
  · have hs : sumN e (nS + 1) = sumN e nS + e nS := rfl
    have hq : SqG (nS + 1) e (fun k => if k = nS then 25 * F + 25600 else Z k) = SqG nS e Z + e nS * ((25 * F + 25600) * (25 * F + 25600)) := by
      unfold SqG
      show sumN _ nS + _ = _
      congr 1
      · refine sumN_congr nS (fun k hk => ?_)
        dsimp only
        rw [if_neg (by omega)]
      · dsimp only
        rw [if_pos rfl]
    have hen := he nS (by omega)
    have b2 := c2 e (fun k hk => he k (by omega)) (by omega)
    rw [hq, hs]
    have x : (3 - (sumN e nS + e nS)) * ((25 * F + 25600) * (25 * F + 25600)) = (3 - sumN e nS) * ((25 * F + 25600) * (25 * F + 25600)) - e nS * ((25 * F + 25600) * (25 * F + 25600)) := by
      rw [← Int.sub_mul]
      congr 1
      omega
    rw [x]
    omega
/-- any setter -/
theorem LVG.sts {u u' : CuM} (hF : 512 ≤ F) (h : LVG F u.1 u.2.2 y) (hb : BAs u.1 u.2.2 (fun _ => -1000) (fun _ => 2320)) (h5 : mg u.2.2 5 ≤ 100000) (hs : StS u u') : LVG F u'.1 u'.2.2 y := by
  rcases hs with ⟨a, b, a1, a2, b1, b2, e⟩ | ⟨a, b, a1, a2, b1, b2, e⟩ | ⟨a, a1, a2, e⟩ | ⟨a, b, d, a1, a2, b1, b2, d1, d2, h4, e⟩ | ⟨i, a, b, hi, a1, a2, b1, b2, e⟩ | ⟨i, a, hi, a1, a2, e⟩ | ⟨i, a, hi, ha, e⟩ | ⟨a, b, d, f, -, -, -, -, -, -, -, -, -, e⟩ | ⟨i, -, e⟩
  · rw [e]
    exact h.setG hb rfl hb.2.2.2.2.2.1 hb.2.2.2.2.2.2.1
  · rw [e]
    exact h.setG hb rfl ⟨a1, a2⟩ ⟨b1, b2⟩
  · rw [e]
    exact h.setG hb rfl hb.2.2.2.2.2.1 hb.2.2.2.2.2.2.1
  · rw [e]
    exact h.addS hF hb h5 h4 ⟨a1, a2⟩ ⟨b1, b2⟩ ⟨d1, d2⟩
  · rw [e]
    have h1 : BAs u.1 (fldM u.2.2 i 0 a) (fun _ => -1000) (fun _ => 2320) := hb.fld h5 (by omega) (fun _ => ⟨a1, a2⟩) (fun z => by omega) (fun z => by omega) (fun k hk => ⟨Int.le_refl _, Int.le_refl _⟩) (fun z => by omega)
    exact (h.fld hb (w := 0) (by omega) (fun _ => ⟨a1, a2⟩) (fun z => by omega) (fun z => by omega)).fld h1 (w := 1) (by omega) (fun z => by omega) (fun _ => ⟨b1, b2⟩) (fun z => by omega)
  · rw [e]
    exact h.fld hb (w := 2) (by omega) (fun z => by omega) (fun z => by omega) (fun _ => ⟨a1, a2⟩)
  · rw [e]
    exact h.fld hb (w := 3) (by omega) (fun z => by omega) (fun z => by omega) (fun z => by omega)
  · rw [e]
    exact h.mc hb
  · rw [e]
    exact h.mc hb
/-- the beginning: no sender -/
theorem LVG.nil (hy : 25 * F + 25600 ≤ y) (hF : 0 ≤ F) : LVG F 0 m y := by
  refine ⟨fun _ => 0, fun _ => 0, fun k hk => absurd hk (Nat.not_lt_zero _), fun e _ _ => ?_⟩
  have e1 : sumN e 0 = 0 := rfl
  have e2 : SqG 0 e (fun _ => 0) = 0 := rfl
  rw [e1, e2]
  have := sq_le (a := 25 * F + 25600) (b := y) (by omega) hy
  omega
end LVGSS
section LVGL
variable {nS nC : Nat} {m : MS} {F dm y : Int}
/-- the levels of any three senders -/
theorem LVG.lvl3 (hP : SQn F dm) (h : LVG F nS m y) (hy : 0 ≤ y) : ∀ e : Nat → Int, (∀ k, k < nS → e k = 0 ∨ e k = 1) → sumN e nS ≤ 3 → 6400 * sumN (fun k => e k * (lvl (ms m k) : Int)) nS ≤ 3 * y := by
  intro e he hN
  obtain ⟨Z, tq, a, b⟩ := h
  have hF := hP.1
  have c := sq_cauchy (Z := Z) he hN
  have q0 : 0 ≤ (3 - sumN e nS) * ((25 * F + 25600) * (25 * F + 25600)) := Int.mul_nonneg (by omega) (sq_nn _)
  have hb := b e he hN
  have hsq : sumN (fun k => e k * (Z k * Z k)) nS ≤ SqG nS e Z := Int.le_refl _
  have s : sumN (fun k => e k * Z k) nS ≤ 3 * y := by
    refine sq_inv (by omega) ?_
    have : 3 * y * (3 * y) = 9 * (y * y) := by
      rw [Int.mul_assoc, Int.mul_left_comm y 3 y]
      omega
    omega
  have l : 6400 * sumN (fun k => e k * (lvl (ms m k) : Int)) nS ≤ sumN (fun k => e k * Z k) nS := by
    rw [← sumN_mul]
    refine sumN_le nS (fun k hk => ?_)
    have z := (LQ1.lv (a k hk).1 (LQ1.nn (a k hk).1 (by omega))).1
    rcases he k hk with q | q
    · rw [q]; omega
    · rw [q]; omega
  omega
/-- the level of one sender -/
theorem LVG.lvl1 (hP : SQn F dm) (h : LVG F nS m y) (hy : 0 ≤ y) {w : Int} (hw : 0 ≤ w) (hyw : 3 * (y * y) ≤ w * w + 2 * ((25 * F + 25600) * (25 * F + 25600))) : ∀ k, k < nS → 25 * lvS (ms m k) ≤ w := by
  intro k hk
  obtain ⟨Z, tq, a, b⟩ := h
  have hF := hP.1
  have h1 : sumN (selN k) nS = 1 := by
    have x := selN_sum (k := k) (fun _ => (1 : Int)) nS
    rw [if_pos hk] at x
    rw [← x]
    exact sumN_congr nS (fun j _ => by omega)
  have hb := b (selN k) (fun j _ => by unfold selN; split <;> omega) (by omega)
  rw [h1] at hb
  have s1 : SqG nS (selN k) Z = Z k * Z k := by
    have x := selN_sum (k := k) (fun j => Z j * Z j) nS
    rw [if_pos hk] at x
    exact x
  rw [s1] at hb
  have zk : Z k ≤ w := sq_inv hw (by omega)
  have := (LQ1.lv (a k hk).1 (LQ1.nn (a k hk).1 (by omega))).2
  omega
end LVGL
