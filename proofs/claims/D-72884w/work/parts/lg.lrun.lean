/-! Bounds, ledger of levels: all senders over ticks; flights and notices -/
theorem own_len {k : Nat} {m : MS} : (own k m).length ≤ (mq m).length + 1 := by
  unfold own
  rw [List.length_append]
  have a : (ownV k (mv m)).length ≤ 1 := by
    unfold ownV
    split
    · split <;> simp
    · exact Nat.zero_le _
  have b : (ownL k (mq m)).length ≤ (mq m).length := by
    unfold ownL
    rw [List.length_map]
    exact List.length_filter_le _ _
  omega
theorem LGo.mono {now c dl R lo hi ed B1 B2 : Int} {v : SV} {g : Gh} (h : LGo now c dl R lo hi ed v g B1) (hB : B1 ≤ B2) : LGo now c dl R lo hi ed v g B2 := ⟨h.1, h.2.1, h.2.2.1, h.2.2.2.1, h.2.2.2.2.1, by have := h.2.2.2.2.2.1; omega, h.2.2.2.2.2.2⟩
theorem LGv.mono {K kp J1 de gr now c dl R lo hi th ed B1 B2 : Int} {v : SV} {g : Gh} (h : LGv K kp J1 de gr now c dl R lo hi th ed v g B1) (hB : B1 ≤ B2) : LGv K kp J1 de gr now c dl R lo hi th ed v g B2 := ⟨h.1, h.2.1, h.2.2.1, h.2.2.2.1, h.2.2.2.2.1, h.2.2.2.2.2.1, by have := h.2.2.2.2.2.2.1; omega, h.2.2.2.2.2.2.2⟩
theorem LGo.fl {now c dl R lo hi ed Bk : Int} {v : SV} {g : Gh} (h : LGo now c dl R lo hi ed v g Bk) : 6400 * v.1.1 5 ≤ Bk := by
  have := h.2.2.2.2.2.1
  unfold lvO at this
  omega
theorem LGv.lv {K kp J1 B w1 w2 Wm F0 z0 H0 gr w3 Q de now c dl R lo hi th ed Bk : Int} {v : SV} {g : Gh} (hP : LQ K kp J1 B w1 w2 Wm F0 z0 H0 gr w3 Q de) (h : LGv K kp J1 de gr now c dl R lo hi th ed v g Bk) : 25 * lvL K kp J1 v.1 (vF v) ≤ Bk := by
  obtain ⟨h1, h2, h3, -, -, -, h7, -⟩ := h
  have r0 : 0 ≤ rmN now th ed (vF v) := rmN_0 (s := v.1) (o := v.2.1) (l := v.2.2) h3 (fun a ha => by have := h2 a ha; omega)
  have hg := hP.2.2.2.2.1
  have hd := hP.2.2.2.2.2.2.2.2.1
  have a1 : 0 ≤ de * rmN now th ed (vF v) := Int.mul_nonneg hd r0
  have a2 : 0 ≤ gr * (aNl v.2.2 : Int) := Int.mul_nonneg hg (by omega)
  unfold OH at h7
  omega
theorem LGv.fl {K kp J1 B w1 w2 Wm F0 z0 H0 gr w3 Q de now c dl R lo hi th ed Bk : Int} {v : SV} {g : Gh} (hP : LQ K kp J1 B w1 w2 Wm F0 z0 H0 gr w3 Q de) (h : LGv K kp J1 de gr now c dl R lo hi th ed v g Bk) : 6400 * v.1.1 5 ≤ Bk ∧ 25 * mW v.1 ≤ Bk := by
  have a := h.lv hP
  have b := lv_0 (s := v.1) (Lf := vF v) hP.1
  omega
/-- all senders; Bf k bounds the level of the k-th -/
def MLg (K kp J1 de gr : Int) (nS : Nat) (m : MS) (lo hi : Nat → Int) (Bf : Nat → Int) : Prop := ∀ k, k < nS → ∃ g th ed, ((ms m k).1 3 ≠ 0 → LGv K kp J1 de gr (mg m 5) (mg m 3 - (ms m k).1 2) (mg m 2 + (ms m k).1 2) (mg m 2 + mg m 3) (lo k) (hi k) th ed (vwK k m) g (Bf k)) ∧ ((ms m k).1 3 = 0 → LGo (mg m 5) (mg m 3 - (ms m k).1 2) (mg m 2 + (ms m k).1 2) (mg m 2 + mg m 3) (lo k) (hi k) ed (vwK k m) g (Bf k))
def bfT (nS nC : Nat) (m : MS) (de gr : Int) (Bf : Nat → Int) : Nat → Int := fun k => Bf k + max 0 (128 - de) + (if fnB k (beginM (midM nS nC m)) = true then 25 * gr else 0)
theorem tick_s3 {nS nC k : Nat} {m : MS} (hk : k < nS) (h4 : nS ≤ 4) : (ms (tickM nS nC m) k).1 3 = (ms m k).1 3 := by
  obtain ⟨bs, z, h1, h2, h3, h5, h6, h7⟩ := tick_vo (nC := nC) hk h4 (m := m)
  have : (vwK k (tickM nS nC m)).1.1 3 = (ms m k).1 3 := by
    rw [h2, fin_s, snd_o (by decide) (by decide)]
    show (slowM (hndV (mg m 5 + 1) (vwK k m)).1 (mg m 5 + 1) (mg m 4)).1 3 = _
    unfold slowM
    rw [begins_o (by decide) (by decide) (by decide), ends_o (by decide) (by decide) (by decide)]
    exact hnd_3 _ _
  exact this
section MLS
variable {nS nC : Nat} {m : MS} {lo hi Bf : Nat → Int} {K kp J1 B w1 w2 Wm F0 z0 H0 gr w3 Q de : Int}
theorem MLg.fl (hP : LQ K kp J1 B w1 w2 Wm F0 z0 H0 gr w3 Q de) (h : MLg K kp J1 de gr nS m lo hi Bf) : ∀ k, k < nS → 6400 * (ms m k).1 5 ≤ Bf k := by
  intro k hk
  obtain ⟨g, th, ed, h1, h2⟩ := h k hk
  by_cases q : (ms m k).1 3 = 0
  · exact (h2 q).fl
  · exact ((h1 q).fl hP).1
theorem MLg.tick (hP : LQ K kp J1 B w1 w2 Wm F0 z0 H0 gr w3 Q de) (hQ : ∀ k, k < nS → hi k - lo k ≤ Q) (h4 : nS ≤ 4) (h : MLg K kp J1 de gr nS m lo hi Bf) (hB : ∀ k, k < nS → bmN H0 de gr ≤ Bf k) (h0 : 0 ≤ mg m 5 + 1) (hnow : mg m 5 + 1 ≤ tqB) (hq : (mq m).length ≤ 60) (hR1 : 1 ≤ mg m 2 + mg m 3) (hR2 : mg m 2 + mg m 3 ≤ 200) (hf : frOK nS nC m lo hi) : MLg K kp J1 de gr nS (tickM nS nC m) lo hi (bfT nS nC m de gr Bf) := by
  intro k hk
  obtain ⟨g, th, ed, hon, hoff⟩ := h k hk
  obtain ⟨bs, z, h1, h2, h3, h5, h6, h7⟩ := tick_vo (nC := nC) hk h4 (m := m)
  have e2 := tick_s2 (nC := nC) hk h4 (m := m)
  have e3 := tick_s3 (nC := nC) hk h4 (m := m)
  have g2 := tick_g (nS := nS) (nC := nC) (m := m) (i := 2) (by decide) (by decide) (by decide) (by decide) (by decide) (by decide)
  have g3 := tick_g (nS := nS) (nC := nC) (m := m) (i := 3) (by decide) (by decide) (by decide) (by decide) (by decide) (by decide)
  have g5 := tick_g5 (nS := nS) (nC := nC) (m := m)
  have hr : z = true → ∀ x t, (sndV (mg m 5 + 1) (mg m 5 + 1 + mg m 2 + mg m 3) k bs (slowM (hndV (mg m 5 + 1) (vwK k m)).1 (mg m 5 + 1) (mg m 4), (hndV (mg m 5 + 1) (vwK k m)).2)).2.1 = x :: t → lo k ≤ mg m 5 + 1 + mg m 2 - x + (vwK k m).1.1 2 ∧ mg m 5 + 1 + mg m 2 - x + (vwK k m).1.1 2 ≤ hi k := by
    intro hz x t hx
    rw [h7] at hx
    rw [h5] at hz
    exact hf k hk hz x t hx
  have ho : (vwK k m).2.1.length ≤ 61 := by
    have := own_len (k := k) (m := m)
    show (own k m).length ≤ 61
    omega
  have ef : (fnB k (beginM (midM nS nC m)) = true) = (z = true) := by rw [h5]
  have hg := hP.2.2.2.2.1
  by_cases q : (ms m k).1 3 = 0
  · obtain ⟨g9, ed9, h9⟩ := LGo.tick (iv := mg m 4) (hoff q) q h0 hnow hR2 rfl rfl rfl hR1 hP (hQ k hk) h1 h6 hr
    rw [← h2] at h9
    refine ⟨g9, 0, ed9, fun y => absurd q (by rw [← e3]; exact y), fun _ => ?_⟩
    rw [g2, g3, g5, e2]
    refine h9.mono ?_
    unfold bfT
    split <;> omega
  · obtain ⟨g9, th9, ed9, h9⟩ := LGv.tick (iv := mg m 4) hP (hQ k hk) (hon q) q ho h0 hnow (hB k hk) (by omega) hR2 rfl rfl rfl hR1 h1 h3 h6 hr
    rw [← h2] at h9
    refine ⟨g9, th9, ed9, fun _ => ?_, fun y => absurd (by rw [← e3]; exact y) q⟩
    rw [g2, g3, g5, e2]
    refine h9.mono ?_
    unfold bfT
    simp only [ef]
    omega
/-- packets finished in T ticks -/
def fnT (nS nC : Nat) : Nat → MS → Int
  | 0, _ => 0
  | n + 1, m => fnT nS nC n m + fiB (beginM (midM nS nC (tkN nS nC n m)))
theorem fiB_1 (m : MS) : 0 ≤ fiB m ∧ fiB m ≤ 1 := by
  unfold fiB
  split
  · split <;> omega
  · omega
theorem bfT_sum (hg : 0 ≤ gr) : sumN (bfT nS nC m de gr Bf) nS ≤ sumN Bf nS + nS * max 0 (128 - de) + 25 * (gr * fiB (beginM (midM nS nC m))) := by
  have e1 : sumN (bfT nS nC m de gr Bf) nS = sumN Bf nS + nS * max 0 (128 - de) + 25 * gr * sumN (fun k => if fnB k (beginM (midM nS nC m)) = true then 1 else 0) nS := by
    rw [← sumN_mul, ← sumN_c, ← sumN_add, ← sumN_add]
    refine sumN_congr nS (fun k _ => ?_)
    unfold bfT
    split
    · omega
    · omega
  have e2 := fnB_sum (beginM (midM nS nC m)) nS
  have e3 : 25 * gr * sumN (fun k => if fnB k (beginM (midM nS nC m)) = true then 1 else 0) nS ≤ 25 * gr * fiB (beginM (midM nS nC m)) := Int.mul_le_mul_of_nonneg_left e2 (by omega)
  have e4 : 25 * gr * fiB (beginM (midM nS nC m)) = 25 * (gr * fiB (beginM (midM nS nC m))) := Int.mul_assoc _ _ _
  omega
theorem MLg.run (hP : LQ K kp J1 B w1 w2 Wm F0 z0 H0 gr w3 Q de) (hQ : ∀ k, k < nS → hi k - lo k ≤ Q) (h4 : nS ≤ 4) (h : MLg K kp J1 de gr nS m lo hi Bf) (hB : ∀ k, k < nS → bmN H0 de gr ≤ Bf k) (h0 : 0 ≤ mg m 5 + 1) (hR1 : 1 ≤ mg m 2 + mg m 3) (hR2 : mg m 2 + mg m 3 ≤ 200) : ∀ T : Nat, mg m 5 + T ≤ tqB → (∀ i, i < T → (mq (tkN nS nC i m)).length ≤ 60 ∧ frOK nS nC (tkN nS nC i m) lo hi) → ∃ B2 : Nat → Int, MLg K kp J1 de gr nS (tkN nS nC T m) lo hi B2 ∧ (∀ k, k < nS → Bf k ≤ B2 k) ∧ sumN B2 nS ≤ sumN Bf nS + nS * (T * max 0 (128 - de)) + 25 * (gr * fnT nS nC T m) := by
  have hg := hP.2.2.2.2.1
  intro T
  induction T with
  | zero =>
    intro _ _
    refine ⟨Bf, h, fun _ _ => Int.le_refl _, ?_⟩
    have e : fnT nS nC 0 m = 0 := rfl
    rw [e]
    simp
  | succ T ih =>
    intro hT hf
    push_cast at hT
    obtain ⟨B2, hM2, hB2, hS⟩ := ih (by omega) (fun i hi => hf i (by omega))
    have hfT := hf T (by omega)
    have g2 := tkN_g (nS := nS) (nC := nC) (m := m) (i := 2) (by decide) (by decide) (by decide) (by decide) (by decide) (by decide) T
    have g3 := tkN_g (nS := nS) (nC := nC) (m := m) (i := 3) (by decide) (by decide) (by decide) (by decide) (by decide) (by decide) T
    have g5 := tkN_5 (nS := nS) (nC := nC) (m := m) T
    have et : tkN nS nC (T + 1) m = tickM nS nC (tkN nS nC T m) := rfl
    have ef : fnT nS nC (T + 1) m = fnT nS nC T m + fiB (beginM (midM nS nC (tkN nS nC T m))) := rfl
    rw [et, ef]
    have hM3 := hM2.tick (nC := nC) hP hQ h4 (fun k hk => by have := hB k hk; have := hB2 k hk; omega) (by rw [g5]; omega) (by rw [g5]; omega) hfT.1 (by rw [g2, g3]; exact hR1) (by rw [g2, g3]; exact hR2) hfT.2
    refine ⟨bfT nS nC (tkN nS nC T m) de gr B2, hM3, fun k hk => ?_, ?_⟩
    · have := hB2 k hk
      unfold bfT
      split <;> omega
    · have s := bfT_sum (nS := nS) (nC := nC) (m := tkN nS nC T m) (de := de) (Bf := B2) hg
      have e1 : gr * (fnT nS nC T m + fiB (beginM (midM nS nC (tkN nS nC T m)))) = gr * fnT nS nC T m + gr * fiB (beginM (midM nS nC (tkN nS nC T m))) := Int.mul_add _ _ _
      have e2 : (nS : Int) * (((T + 1 : Nat) : Int) * max 0 (128 - de)) = nS * (T * max 0 (128 - de)) + nS * max 0 (128 - de) := by
        push_cast
        rw [Int.add_mul, Int.mul_add, Int.one_mul]
      rw [e1, e2]
      omega
end MLS
/-- notices and flights -/
theorem len_sum {l : List NtM} : ∀ n : Nat, ((l.countP (fun a => decide (a.2.1 < n)) : Nat) : Int) = sumN (fun k => ((l.filter (fun a => decide (a.2.1 = k))).length : Int)) n := by
  intro n
  induction n with
  | zero =>
    show _ = (0 : Int)
    have : l.countP (fun a => decide (a.2.1 < 0)) = 0 := by
      rw [List.countP_eq_zero]
      intro a _
      simp
    rw [this]
    rfl
  | succ n ih =>
    show _ = sumN (fun k => ((l.filter (fun a => decide (a.2.1 = k))).length : Int)) n + ((l.filter (fun a => decide (a.2.1 = n))).length : Int)
    rw [← ih, ← List.countP_eq_length_filter]
    clear ih
    induction l with
    | nil => rfl
    | cons a l ih =>
      rw [List.countP_cons, List.countP_cons, List.countP_cons]
      push_cast at ih ⊢
      by_cases q : a.2.1 < n
      · rw [if_pos (by simpa using (show a.2.1 < n + 1 by omega)), if_pos (by simpa using q), if_neg (by simp; omega)]
        omega
      · by_cases y : a.2.1 = n
        · rw [if_pos (by simpa using (show a.2.1 < n + 1 by omega)), if_neg (by simpa using q), if_pos (by simpa using y)]
          omega
        · rw [if_neg (by simp; omega), if_neg (by simpa using q), if_neg (by simpa using y)]
          omega
theorem notes_le {nS : Nat} {m : MS} {Bf : Nat → Int} (h : ∀ n ∈ mnt m, n.2.1 < nS) (hF : ∀ k, k < nS → FI (vwK k m)) (hB : ∀ k, k < nS → 6400 * (ms m k).1 5 ≤ Bf k) : 6400 * ((mnt m).length : Int) ≤ sumN Bf nS := by
  have e := len_sum (l := mnt m) nS
  have e2 : (mnt m).countP (fun a => decide (a.2.1 < nS)) = (mnt m).length := by
    rw [List.countP_eq_length]
    intro a ha
    exact decide_eq_true (h a ha)
  rw [e2] at e
  rw [e, ← sumN_mul]
  refine sumN_le nS (fun k hk => ?_)
  have f : (ms m k).1 5 = ((own k m).length + ((mnt m).filter (fun n => decide (n.2.1 = k))).length : Nat) := (hF k hk).1
  have := hB k hk
  omega
