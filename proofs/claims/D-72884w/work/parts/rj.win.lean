/-! Bounds, trials: a window of one sender, over ticks; its start from the other potential -/
def TW1 (m : MS) (r : Int) (lo1 lo2 hi : Nat → Int) (X D : Int) (ef : Nat → Int → Nat → Int) (W : Nat → Int → Nat → Nat → Int → Int) (md : Nat → Int → Nat) (Tw a0 : Int) (y : Nat → Int) (k : Nat) : Prop := ∃ g th, GBb (mg m 5) (mg m 3 - (ms m k).1 2) (mg m 2 + (ms m k).1 2) (mg m 2 + mg m 3) (lo1 k) (lo2 k) (hi k) (vwK k m) g ∧ HT r th (vwK k m).1 (vwK k m).2.2 ∧ th ≤ mg m 5 ∧ IV (md k (mg m 5 / 200)) (ef k (mg m 5 / 200)) (mg m 5) (vwK k m).1 (vF (vwK k m)) g.2.1 ∧ r * tqH (W k (mg m 5 / 200)) X D Tw a0 (mg m 5) (vwK k m) g.2.1 + 65536 * (mg m 5 - th) ≤ y k
def yWn (nS nC : Nat) (m : MS) (r : Int) (y : Nat → Int) : Nat → Int := fun k => (y k + (12288 * r) * (if fnB k (beginM (midM nS nC m)) = true then 1 else 0)) + (65536 + (-(8192 * r)) * ((ms (tickM nS nC m) k).1 6 - (ms m k).1 6))
/-- what is left of y behind T ticks of a window -/
def ywT (nS nC : Nat) (m : MS) (r y : Int) (k T : Nat) : Int := y + 12288 * (r * fkT nS nC k T m) + 65536 * (T : Int) - 8192 * (r * ((ms (tkN nS nC T m) k).1 6 - (ms m k).1 6))
section TWW
variable {nS nC k : Nat} {m : MS} {r Tw a0 : Int} {lo1 lo2 hi : Nat → Int} {K X D Qd m0 m1 : Int} {ef : Nat → Int → Nat → Int} {W W2 : Nat → Int → Nat → Nat → Int → Int} {md : Nat → Int → Nat}
theorem TW1.tick {y : Nat → Int} (hk : k < nS) (hP : TNs K X D Qd m0 m1 (ef k) (W k) (md k)) (hm0 : m0 ≤ mg m 5 / 200) (hm1 : (mg m 5 + 1) / 200 ≤ m1) (hQ : hi k - lo2 k ≤ Qd) (hQ0 : 0 ≤ Qd) (hK : hi k - lo1 k + 1 ≤ K) (h4 : nS ≤ 4) (h : TW1 m r lo1 lo2 hi X D ef W md Tw a0 y k) (hF : 256 * (ms m k).1 5 ≤ X + D) (h0 : 0 ≤ mg m 5 + 1) (hnow : mg m 5 + 1 ≤ tqB) (hr0 : 1 ≤ r) (hrR : r ≤ mg m 2 + mg m 3) (hf : frOK nS nC m lo2 hi) (hTw : Tw ≤ mg m 5) (ha0 : mg m 5 + 1 ≤ a0) (har : a0 ≤ Tw + (mg m 2 + mg m 3)) : TW1 (tickM nS nC m) r lo1 lo2 hi X D ef W md Tw a0 (yWn nS nC m r y) k := by
  obtain ⟨g, th, hI, hH, hth, hIV, hY⟩ := h
  obtain ⟨bs, z, h1, h2, h3, h5, h6, h7⟩ := tick_vo (nC := nC) hk h4 (m := m)
  obtain ⟨n1, n2, n3⟩ := hP
  have hB' : ((mg m 5 + 1) / 200 = mg m 5 / 200 ∧ W k ((mg m 5 + 1) / 200) = W k (mg m 5 / 200)) ∨ ((mg m 5 + 1) / 200 = mg m 5 / 200 + 1 ∧ TBd D (W k (mg m 5 / 200)) (W k ((mg m 5 + 1) / 200))) := by
    by_cases q : (mg m 5 + 1) / 200 = mg m 5 / 200
    · left
      rw [q]
      exact ⟨rfl, rfl⟩
    · have q2 : (mg m 5 + 1) / 200 = mg m 5 / 200 + 1 := by omega
      have n4 := n3 _ hm0 (by omega)
      rw [q2]
      exact Or.inr ⟨rfl, n4.1⟩
  have hIV1 : IV (md k ((mg m 5 + 1) / 200)) (ef k ((mg m 5 + 1) / 200)) (mg m 5 + 1) (vwK k m).1 (vF (vwK k m)) g.2.1 := by
    refine hIV.nxt hI.1.1.2.2.1 ?_
    by_cases q : (mg m 5 + 1) / 200 = mg m 5 / 200
    · left
      rw [q]
      exact ⟨rfl, rfl, rfl⟩
    · have q2 : (mg m 5 + 1) / 200 = mg m 5 / 200 + 1 := by omega
      have n4 := n3 _ hm0 (by omega)
      rw [q2]
      exact Or.inr ⟨rfl, n4.2⟩
  obtain ⟨g2, hI2, hY2, hIV2⟩ := TQq.tick (Tw := Tw) (a0 := a0) (iv := mg m 4) (n1 (mg m 5 / 200) hm0 (by omega)) (n1 ((mg m 5 + 1) / 200) (by omega) hm1) hB' (n2 ((mg m 5 + 1) / 200) (by omega) hm1) hIV1 hQ hQ0 hK hF hI h0 hnow (by omega) (by omega) ha0 (by omega) rfl rfl rfl h1 h6 (fun hz x t hx => by
    rw [h7] at hx
    rw [h5] at hz
    exact hf k hk hz x t hx)
  have hI1 : GB (mg m 5 + 1) (mg m 3 - (ms m k).1 2) (mg m 2 + (ms m k).1 2) (mg m 2 + mg m 3) (lo1 k) (lo2 k) (hi k) (vwK k m).1 (vwK k m).2.1 (vwK k m).2.2 g := ⟨hI.1.1.nxt, hI.1.2.nxt⟩
  have hpt : ∀ a ∈ (vwK k m).2.2, mg m 5 + 1 ≤ a.1 := fun a ha => by have := hI.2.1 a ha; omega
  obtain ⟨th2, t1, t2, t3⟩ := HTg.hnd (vwK k m).2.2 [] (vwK k m).1 g th hI1 (fun a ha => by cases ha) hpt hH (by omega)
  have e2 : hndV (mg m 5 + 1) (vwK k m) = ((vwK k m).2.2.foldl (hndS (mg m 5 + 1)) (vwK k m).1, (vwK k m).2.1, (vwK k m).2.2.filter (fun n => decide (n.1 ≠ mg m 5 + 1))) := rfl
  have hHT : HT r th2 (finV (mg m 5 + 1 + mg m 2) (mg m 5 + 1 + mg m 2 + mg m 3) k z (sndV (mg m 5 + 1) (mg m 5 + 1 + mg m 2 + mg m 3) k bs (slowM (hndV (mg m 5 + 1) (vwK k m)).1 (mg m 5 + 1) (mg m 4), (hndV (mg m 5 + 1) (vwK k m)).2))).1 (finV (mg m 5 + 1 + mg m 2) (mg m 5 + 1 + mg m 2 + mg m 3) k z (sndV (mg m 5 + 1) (mg m 5 + 1 + mg m 2 + mg m 3) k bs (slowM (hndV (mg m 5 + 1) (vwK k m)).1 (mg m 5 + 1) (mg m 4), (hndV (mg m 5 + 1) (vwK k m)).2))).2.2 := by
    refine HT.fin ?_
    refine HT.snds (by omega) bs _ ?_
    rw [e2]
    exact t2.slow
  rw [← h2] at hI2 hY2 hHT hIV2
  have e2' := tick_s2 (nC := nC) hk h4 (m := m)
  have e6 : (ms (tickM nS nC m) k).1 6 = (ms m k).1 6 + bs.length := by
    have : (vwK k (tickM nS nC m)).1.1 6 = (ms m k).1 6 + bs.length := by
      rw [h2, fin_s, snd_6]
      congr 1
      show (slowM (hndV (mg m 5 + 1) (vwK k m)).1 (mg m 5 + 1) (mg m 4)).1 6 = _
      unfold slowM
      rw [begins_o (by decide) (by decide) (by decide), ends_o (by decide) (by decide) (by decide)]
      exact hnd_6 _ _
    exact this
  refine ⟨g2, th2, ?_, hHT, ?_, ?_, ?_⟩
  · rw [tick_g5, tick_g (by decide) (by decide) (by decide) (by decide) (by decide) (by decide), tick_g (by decide) (by decide) (by decide) (by decide) (by decide) (by decide), e2']
    exact hI2
  · rw [tick_g5]
    exact t1
  · rw [tick_g5]
    exact hIV2
  · rw [tick_g5]
    unfold yWn
    rw [e6]
    have e7 : (ms m k).1 6 + (bs.length : Int) - (ms m k).1 6 = bs.length := by omega
    rw [e7, ← h5]
    generalize tqH (W k ((mg m 5 + 1) / 200)) X D Tw a0 (mg m 5 + 1) (vwK k (tickM nS nC m)) g2.2.1 = P2 at *
    generalize tqH (W k (mg m 5 / 200)) X D Tw a0 (mg m 5) (vwK k m) g.2.1 = P1 at *
    generalize (frN (mg m 5 + 1) (vwK k m).1 (vwK k m).2.2 : Int) = fr at *
    generalize (bs.length : Int) = n at *
    generalize (if z = true then (1 : Int) else 0) = zz at *
    have q2 := Int.mul_le_mul_of_nonneg_left hY2 (show 0 ≤ r by omega)
    have q3 : r * (P2 + 8192 * n) = r * P2 + 8192 * (r * n) := by rw [Int.mul_add, Int.mul_left_comm]
    have q4 : r * (P1 + 65536 * fr + 12288 * zz) = r * P1 + 65536 * (r * fr) + 12288 * (r * zz) := by
      rw [Int.mul_add, Int.mul_add, Int.mul_left_comm, Int.mul_left_comm r 12288]
    have q5 : (12288 * r) * zz = 12288 * (r * zz) := Int.mul_assoc _ _ _
    have q6 : (-(8192 * r)) * n = -(8192 * (r * n)) := by rw [Int.neg_mul, Int.mul_assoc]
    rw [q5, q6]
    omega
/-- a window -/
theorem TW1.run {y : Int} (hk : k < nS) (hP : TNs K X D Qd m0 m1 (ef k) (W k) (md k)) (hm0 : m0 ≤ mg m 5 / 200) (hQ : hi k - lo2 k ≤ Qd) (hQ0 : 0 ≤ Qd) (hK : hi k - lo1 k + 1 ≤ K) (h4 : nS ≤ 4) (h : TW1 m r lo1 lo2 hi X D ef W md (mg m 5) (mg m 5 + (mg m 2 + mg m 3)) (fun _ => y) k) (h0 : 0 ≤ mg m 5 + 1) (hr0 : 1 ≤ r) (hrR : r ≤ mg m 2 + mg m 3) : ∀ T : Nat, (T : Int) ≤ mg m 2 + mg m 3 → mg m 5 + T ≤ tqB → (mg m 5 + T) / 200 ≤ m1 → (∀ i, i < T → 256 * (ms (tkN nS nC i m) k).1 5 ≤ X + D ∧ frOK nS nC (tkN nS nC i m) lo2 hi) → TW1 (tkN nS nC T m) r lo1 lo2 hi X D ef W md (mg m 5) (mg m 5 + (mg m 2 + mg m 3)) (fun _ => ywT nS nC m r y k T) k := by
  intro T
  induction T with
  | zero =>
    intro _ _ _ _
    have e : ywT nS nC m r y k 0 = y := by
      unfold ywT
      show y + 12288 * (r * 0) + 65536 * ((0 : Nat) : Int) - 8192 * (r * ((ms m k).1 6 - (ms m k).1 6)) = y
      rw [Int.sub_self]
      simp
    rw [e]
    exact h
  | succ T ih =>
    intro hTR hT hm1 hf
    push_cast at hT hm1 hTR
    have hM2 := ih (by omega) (by omega) (by omega) (fun i hi => hf i (by omega))
    have hfT := hf T (by omega)
    have g2 := tkN_g (nS := nS) (nC := nC) (m := m) (i := 2) (by decide) (by decide) (by decide) (by decide) (by decide) (by decide) T
    have g3 := tkN_g (nS := nS) (nC := nC) (m := m) (i := 3) (by decide) (by decide) (by decide) (by decide) (by decide) (by decide) T
    have g5 := tkN_5 (nS := nS) (nC := nC) (m := m) T
    have et : tkN nS nC (T + 1) m = tickM nS nC (tkN nS nC T m) := rfl
    have ey : yWn nS nC (tkN nS nC T m) r (fun _ => ywT nS nC m r y k T) k = ywT nS nC m r y k (T + 1) := by
      unfold yWn ywT
      have ef2 : fkT nS nC k (T + 1) m = fkT nS nC k T m + (if fnB k (beginM (midM nS nC (tkN nS nC T m))) = true then 1 else 0) := rfl
      rw [ef2, et]
      generalize (if fnB k (beginM (midM nS nC (tkN nS nC T m))) = true then (1 : Int) else 0) = z
      generalize (ms (tickM nS nC (tkN nS nC T m)) k).1 6 = s3
      generalize (ms (tkN nS nC T m) k).1 6 = s2
      generalize (ms m k).1 6 = s1
      generalize fkT nS nC k T m = f
      have c1 : r * (s3 - s1) = r * (s3 - s2) + r * (s2 - s1) := by
        rw [← Int.mul_add]
        congr 1
        omega
      have c2 : r * (f + z) = r * f + r * z := Int.mul_add _ _ _
      have c3 : 12288 * r * z = 12288 * (r * z) := Int.mul_assoc _ _ _
      have c4 : -(8192 * r) * (s3 - s2) = -(8192 * (r * (s3 - s2))) := by rw [Int.neg_mul, Int.mul_assoc]
      rw [c1, c2, c3, c4]
      push_cast
      omega
    rw [et]
    have w := TW1.tick (nC := nC) hk hP (by rw [g5]; omega) (by rw [g5]; omega) hQ hQ0 hK h4 hM2 hfT.1 (by rw [g5]; omega) (by rw [g5]; omega) hr0 (by rw [g2, g3]; exact hrR) hfT.2 (by rw [g5]; omega) (by rw [g5]; omega) (by rw [g2, g3]; omega)
    unfold TW1 at w ⊢
    rw [ey] at w
    exact w
theorem TW1.nonneg {y : Nat → Int} (hP : TNs K X D Qd m0 m1 (ef k) (W k) (md k)) (hm0 : m0 ≤ mg m 5 / 200) (hm1 : mg m 5 / 200 ≤ m1) (hr0 : 1 ≤ r) (h : TW1 m r lo1 lo2 hi X D ef W md Tw a0 y k) : 0 ≤ y k := by
  obtain ⟨g, th, hI, hH, hth, hIV, hY⟩ := h
  have hT := hP.1 (mg m 5 / 200) hm0 hm1
  have b1 := W_0 hT (l := lvS (vwK k m).1) (cdP_4 (now := mg m 5) (L := g.2.1))
  have a1 : 0 ≤ tqH (W k (mg m 5 / 200)) X D Tw a0 (mg m 5) (vwK k m) g.2.1 := by
    have a := tq_A (W := W k (mg m 5 / 200)) (X := X) (D := D) (Tw := Tw) (a0 := a0) (now := mg m 5) (v := vwK k m) (L := g.2.1)
    unfold tqH
    unfold tAq qS at a
    have c := q_0 (w := mW (vwK k m).1) (F := 256 * (vwK k m).1.1 5) (p := pNv Tw a0 (vwK k m)) (Lf := vF (vwK k m)) (Lo := LoN a0 (vwK k m))
    omega
  have := Int.mul_nonneg (show 0 ≤ r by omega) a1
  omega
/-- a window begins -/
theorem TM1.win {y : Int} (h : TM1 m r lo1 lo2 hi X D ef W md (fun _ => y) k) (hr0 : 1 ≤ r) (ho : ∀ x ∈ own k m, x ≤ mg m 5) (hl : ∀ n ∈ (vwK k m).2.2, n.1 ≤ mg m 5 + (mg m 2 + mg m 3)) : TW1 m r lo1 lo2 hi X D ef W md (mg m 5) (mg m 5 + (mg m 2 + mg m 3)) (fun _ => y + 4096 * (r * ((own k m).length : Int))) k := by
  obtain ⟨g, th, hI, hH, hth, hIV, hY⟩ := h
  refine ⟨g, th, hI, hH, hth, hIV, ?_⟩
  dsimp only at hY ⊢
  obtain ⟨p0, l0⟩ := pN_0 (Tw := mg m 5) (a0 := mg m 5 + (mg m 2 + mg m 3)) (v := vwK k m) ho hl
  have hF : FI (vwK k m) := hI.1.1.1
  have hx := hF.x
  have h5 : 0 ≤ (vwK k m).1.1 5 := by rw [hF.1]; omega
  have gA := tP_A (W := W k (mg m 5 / 200)) (X := X) (D := D) (now := mg m 5) (v := vwK k m) (L := g.2.1)
  have gB := fun q => tP_B (W := W k (mg m 5 / 200)) (X := X) (D := D) (now := mg m 5) (v := vwK k m) (L := g.2.1) q
  have qs := q_start (w := mW (vwK k m).1) (F := 256 * (vwK k m).1.1 5) (U := vU (vwK k m)) (Lf := vF (vwK k m)) (Lo := vF (vwK k m)) rfl (by omega)
  have eo : (vwK k m).2.1 = own k m := rfl
  have eU : (vU (vwK k m) : Int) = ((own k m).length : Int) + (aNl (vwK k m).2.2 : Int) := by
    show (((vwK k m).2.1.length + aNl (vwK k m).2.2 : Nat) : Int) = _
    rw [eo]
    push_cast
    rfl
  have key : tqPot (W k (mg m 5 / 200)) X D (mg m 5) (mg m 5 + (mg m 2 + mg m 3)) (mg m 5) (vwK k m) g.2.1 ≤ tPot (W k (mg m 5 / 200)) X D (mg m 5) (vwK k m) g.2.1 + 4096 * (vU (vwK k m) : Int) := by
    refine tq_le ?_ (fun q => ?_)
    · rw [p0, l0]
      unfold tA rS at gA
      unfold tAq qS
      omega
    · have gB := gB q
      rw [p0]
      unfold tB at gB
      unfold tBq
      omega
  have a1 : tqH (W k (mg m 5 / 200)) X D (mg m 5) (mg m 5 + (mg m 2 + mg m 3)) (mg m 5) (vwK k m) g.2.1 ≤ tPH (W k (mg m 5 / 200)) X D (mg m 5) (vwK k m) g.2.1 + 4096 * ((own k m).length : Int) := by
    unfold tqH tPH
    omega
  have a2 := Int.mul_le_mul_of_nonneg_left a1 (show 0 ≤ r by omega)
  rw [Int.mul_add, Int.mul_left_comm r 4096] at a2
  omega
/-- from one family of weights to another -/
theorem TM1.fam {y : Int} {mi : Int} (h : TM1 m r lo1 lo2 hi X D ef W md (fun _ => y) k) (hmi : mg m 5 / 200 = mi) (hr0 : 1 ≤ r) (hX : 0 ≤ X) (hD : 0 ≤ D) (hw : ∀ j e z, j ≤ 4 → e ≤ 1 → 0 ≤ z → z ≤ D → 3 * W2 k mi j e z ≤ 4 * W k mi j e z + (if 0 < z then 16 * (X + z) else 0)) : ∃ y2 : Int, TM1 m r lo1 lo2 hi X D ef W2 md (fun _ => y2) k ∧ 3 * y2 ≤ 4 * y := by
  obtain ⟨g, th, hI, hH, hth, hIV, hY⟩ := h
  dsimp only at hY
  refine ⟨r * tPH (W2 k (mg m 5 / 200)) X D (mg m 5) (vwK k m) g.2.1 + 65536 * (mg m 5 - th), ⟨g, th, hI, hH, hth, hIV, Int.le_refl _⟩, ?_⟩
  rw [hmi] at hY ⊢
  have hF : FI (vwK k m) := hI.1.1.1
  have hx := hF.x
  have h5 : 0 ≤ (vwK k m).1.1 5 := by rw [hF.1]; omega
  have rM := pR_M (w := mW (vwK k m).1) (F := 256 * (vwK k m).1.1 5) (U := vU (vwK k m)) (Lf := vF (vwK k m)) (by omega)
  have rF := rS_F (vwK k m).1 (vU (vwK k m)) (vF (vwK k m))
  have gA := tP_A (W := W k mi) (X := X) (D := D) (now := mg m 5) (v := vwK k m) (L := g.2.1)
  have gB := fun q => tP_B (W := W k mi) (X := X) (D := D) (now := mg m 5) (v := vwK k m) (L := g.2.1) q
  have z0 := dvL_0 (X := X) (D := D) (lv := lvS (vwK k m).1)
  have zD := dvL_D (X := X) (lv := lvS (vwK k m).1) hD
  have hj4 := cdP_4 (now := mg m 5) (L := g.2.1)
  have lz : 0 < dvL X D (lvS (vwK k m).1) → X + dvL X D (lvS (vwK k m).1) ≤ lvS (vwK k m).1 := by
    intro q
    unfold dvL at q ⊢
    omega
  have w0 := hw (cdP (mg m 5) g.2.1) 0 _ hj4 (by decide) z0 zD
  have w1 := hw (cdP (mg m 5) g.2.1) 1 _ hj4 (by decide) z0 zD
  have l0 : 0 ≤ lvS (vwK k m).1 := by
    unfold lvS
    omega
  have lI : (if 0 < dvL X D (lvS (vwK k m).1) then 16 * (X + dvL X D (lvS (vwK k m).1)) else 0) ≤ 16 * lvS (vwK k m).1 := by
    by_cases q : 0 < dvL X D (lvS (vwK k m).1)
    · rw [if_pos q]
      have := lz q
      omega
    · rw [if_neg q]
      omega
  have lr : lvS (vwK k m).1 ≤ rS (vwK k m).1 (vU (vwK k m)) (vF (vwK k m)) := by
    unfold rS at rF ⊢
    unfold lvS
    omega
  have key : 3 * tPot (W2 k mi) X D (mg m 5) (vwK k m) g.2.1 ≤ 4 * tPot (W k mi) X D (mg m 5) (vwK k m) g.2.1 := by
    have e : tPot (W2 k mi) X D (mg m 5) (vwK k m) g.2.1 ≤ (4 * tPot (W k mi) X D (mg m 5) (vwK k m) g.2.1) / 3 := by
      refine tP_le ?_ (fun q => ?_)
      · unfold tA at gA ⊢
        omega
      · have gB := gB q
        -- the level is the flight
        have hp : lvS (vwK k m).1 = 256 * (vwK k m).1.1 5 := by
          unfold dI at q
          by_cases c : 0 < tE (vwK k m).1 (vF (vwK k m)) ∧ 32 ≤ (vwK k m).1.1 5
          · have c1 := c.1
            unfold tE at c1
            have hm : 256 ≤ mW (vwK k m).1 := mW_256 hI.1.1.2.2.2.2 hI.1.1.2.2.2.1
            have p := eE_pos (by omega) c1
            unfold lvS
            by_cases hl : vF (vwK k m) = 0
            · have := p.2.1 hl
              omega
            · have := p.2.2.1 (by omega)
              omega
          · rw [if_neg c] at q
            exact absurd q (by decide)
        unfold tB at gB ⊢
        omega
    omega
  have a1 : 3 * tPH (W2 k mi) X D (mg m 5) (vwK k m) g.2.1 ≤ 4 * tPH (W k mi) X D (mg m 5) (vwK k m) g.2.1 := by
    unfold tPH
    omega
  have a2 := Int.mul_le_mul_of_nonneg_left a1 (show 0 ≤ r by omega)
  rw [Int.mul_left_comm, Int.mul_left_comm r 4] at a2
  omega
end TWW
