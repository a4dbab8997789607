/-! Bounds: what an acknowledgment may do to a window -/
theorem td_neg {a b : Int} (ha : a ≤ 0) (hb : 0 < b) : a.tdiv b ≤ 0 := by
  have h : a = -(-a) := by omega
  rw [h, Int.neg_tdiv, Int.tdiv_eq_ediv_of_nonneg (by omega)]
  have := Int.ediv_nonneg (a := -a) (b := b) (by omega) (by omega)
  omega
theorem next_d {sv : Nat → Int} {off K : Int} (h0 : 1 ≤ sv 0) (h1 : 0 ≤ sv 1 ∧ sv 1 ≤ 8) (hw : 256 ≤ sv 4) (hK : 1 ≤ K) (ho : off ≤ sv 0 * K) : (nextM sv off - sv 4) * sv 4 ≤ 524288 * K := by
  have e : nextM sv off - sv 4 = (sv 1 * 65536 * off).tdiv (sv 0 * sv 4) := by
    unfold nextM
    omega
  rw [e]
  have hden : 0 < sv 0 * sv 4 := Int.mul_pos (by omega) (by omega)
  by_cases hn : sv 1 * 65536 * off ≤ 0
  · have d := td_neg hn hden
    have : (sv 1 * 65536 * off).tdiv (sv 0 * sv 4) * sv 4 ≤ 0 := Int.mul_nonpos_of_nonpos_of_nonneg d (by omega)
    omega
  · have hof : 0 ≤ off := by
      apply Decidable.byContradiction
      intro z
      exact hn (Int.mul_nonpos_of_nonneg_of_nonpos (by omega) (by omega))
    rw [Int.tdiv_eq_ediv_of_nonneg (by omega)]
    generalize hd : sv 1 * 65536 * off / (sv 0 * sv 4) = d
    have l1 : d * (sv 0 * sv 4) ≤ sv 1 * 65536 * off := by
      rw [← hd]
      exact Int.ediv_mul_le _ (by omega)
    have l2 : sv 1 * 65536 * off ≤ 524288 * (sv 0 * K) := by
      have a1 : sv 1 * 65536 * off ≤ 524288 * off := Int.mul_le_mul_of_nonneg_right (by omega) hof
      have a2 : 524288 * off ≤ 524288 * (sv 0 * K) := Int.mul_le_mul_of_nonneg_left ho (by decide)
      omega
    have l3 : d * sv 4 * sv 0 ≤ 524288 * K * sv 0 := by
      have b1 : d * sv 4 * sv 0 = d * (sv 0 * sv 4) := by rw [Int.mul_assoc, Int.mul_comm (sv 4) (sv 0)]
      have b2 : 524288 * K * sv 0 = 524288 * (sv 0 * K) := by rw [Int.mul_assoc, Int.mul_comm K (sv 0)]
      rw [b1, b2]
      omega
    exact Int.le_of_mul_le_mul_right l3 (by omega)
/-- the window behind an acknowledgment: never above the cap, and its growth -/
theorem steer_w {sv : Nat → Int} {off K : Int} (h0 : 1 ≤ sv 0) (h1 : 0 ≤ sv 1 ∧ sv 1 ≤ 8) (hw : 256 ≤ sv 4) (hK : 1 ≤ K) (ho : off ≤ sv 0 * K) : 256 ≤ steerM sv off 4 ∧ (steerM sv off 4 ≤ sv 4 ∨ (steerM sv off 4 ≤ 256 * (sv 5 + 3) ∧ (steerM sv off 4 - sv 4) * sv 4 ≤ 524288 * K)) := by
  have e : steerM sv off 4 = if stepW sv off < 256 then 256 else stepW sv off := by
    unfold steerM iup
    rw [if_pos rfl]
  rw [e]
  have hd := next_d h0 h1 hw hK ho
  have ht : topM sv = if 256 * (sv 5 + 3) ≤ sv 4 then sv 4 else 256 * (sv 5 + 3) := rfl
  by_cases q : stepW sv off < 256
  · rw [if_pos q]
    exact ⟨by omega, Or.inl hw⟩
  · rw [if_neg q]
    refine ⟨by omega, ?_⟩
    have es : stepW sv off = if nextM sv off ≤ sv 4 then nextM sv off else if topM sv ≤ nextM sv off then topM sv else nextM sv off := rfl
    by_cases q1 : nextM sv off ≤ sv 4
    · rw [if_pos q1] at es
      exact Or.inl (by omega)
    · rw [if_neg q1] at es
      by_cases q2 : 256 * (sv 5 + 3) ≤ sv 4
      · rw [if_pos q2] at ht
        rw [if_pos (by omega)] at es
        exact Or.inl (by omega)
      · rw [if_neg q2] at ht
        refine Or.inr ?_
        by_cases q3 : topM sv ≤ nextM sv off
        · rw [if_pos q3] at es
          refine ⟨by omega, ?_⟩
          have : (stepW sv off - sv 4) * sv 4 ≤ (nextM sv off - sv 4) * sv 4 := Int.mul_le_mul_of_nonneg_right (by omega) (by omega)
          omega
        · rw [if_neg q3] at es
          exact ⟨by omega, by rw [es]; exact hd⟩
/-- windows in packets -/
abbrev wP (w : Int) : Nat := (w / 256).toNat
theorem grow_c {w v c : Int} (hc : 0 < c) (hcw : c ≤ w) (h : (v - w) * w ≤ 524288) (hv : w ≤ v) : (v - w) * c ≤ 524288 := by
  have : (v - w) * c ≤ (v - w) * w := Int.mul_le_mul_of_nonneg_left hcw (by omega)
  omega
theorem grow_3 {w v : Int} (h1 : 768 ≤ w) (h2 : w ≤ 1023) (h : (v - w) * w ≤ 524288) : v < 1536 := by
  apply Decidable.byContradiction
  intro z
  have a : (1536 - w) * w ≤ (v - w) * w := Int.mul_le_mul_of_nonneg_right (by omega) (by omega)
  have b : 0 ≤ (w - 768) * (1023 - w) := Int.mul_nonneg (by omega) (by omega)
  have e1 : (1536 - w) * w = 1536 * w - w * w := Int.sub_mul _ _ _
  have e2 : (w - 768) * (1023 - w) = 1791 * w - w * w - 785664 := by
    rw [Int.sub_mul, Int.mul_sub, Int.mul_sub]
    omega
  omega
theorem grow_7 {w v : Int} (h1 : 1792 ≤ w) (h2 : w ≤ 2047) (h : (v - w) * w ≤ 524288) : v < 2304 := by
  apply Decidable.byContradiction
  intro z
  have a : (2304 - w) * w ≤ (v - w) * w := Int.mul_le_mul_of_nonneg_right (by omega) (by omega)
  have b : 0 ≤ (w - 1792) * (2047 - w) := Int.mul_nonneg (by omega) (by omega)
  have e1 : (2304 - w) * w = 2304 * w - w * w := Int.sub_mul _ _ _
  have e2 : (w - 1792) * (2047 - w) = 3839 * w - w * w - 3668224 := by
    rw [Int.sub_mul, Int.mul_sub, Int.mul_sub]
    omega
  omega
theorem grow_g {w v : Int} (hw : 256 ≤ w) (h : v ≤ w ∨ (v - w) * w ≤ 524288) : wP v ≤ max (wP w) (gB (wP w)) := by
  rcases h with h | h
  · have : wP v ≤ wP w := by
      unfold wP
      omega
    omega
  · by_cases hv : v ≤ w
    · have : wP v ≤ wP w := by
        unfold wP
        omega
      omega
    · have hv : w ≤ v := by omega
      have g := gB_c (wP w)
      have k1 := grow_c (c := 256) (by decide) hw h hv
      unfold wP at g ⊢
      rcases g with q | q | q | q | q | q | q | q | q
      · omega
      · have k := grow_c (c := 512) (by decide) (by omega) h hv
        omega
      · have k := grow_3 (by omega) (by omega) h
        omega
      · have k := grow_c (c := 1024) (by decide) (by omega) h hv
        omega
      · have k := grow_c (c := 1280) (by decide) (by omega) h hv
        omega
      · have k := grow_c (c := 1536) (by decide) (by omega) h hv
        omega
      · have k := grow_7 (by omega) (by omega) h
        omega
      · have k := grow_c (c := 2048) (by decide) (by omega) h hv
        omega
      · have k := grow_c (c := 2304) (by decide) (by omega) h hv
        omega
