/-! Bounds: how far an acknowledgment may lower a window; negative ones behind one or two such -/
theorem sq_mono {a b : Int} (h0 : 0 ≤ a) (h : a ≤ b) : a * a ≤ b * b := Int.mul_le_mul h h h0 (by omega)
theorem ack_4d {s : SdM} {d mi tk : Int} {q : Int} (hI : sdB tk s) (hn : s.1 11 = -1) (hq0 : 0 ≤ q) (hq : queueM (enterM s d mi) mi ≤ q + 1) : s.1 4 * s.1 4 ≤ (ackM s d mi).1 4 * (ackM s d mi).1 4 + 1048576 * q := by
  unfold sdB at hI
  obtain ⟨i0, i1, i4, i5⟩ := hI
  have e : (ackM s d mi).1 4 = steerM (ack0M s.1) (s.1 0 - queueM (enterM s d mi) mi) 4 := by
    unfold ackM
    dsimp only
    rw [if_pos hn]
  have e2 : ∀ off, steerM (ack0M s.1) off 4 = if stepW (ack0M s.1) off < 256 then 256 else stepW (ack0M s.1) off := by
    intro off
    unfold steerM iup
    rw [if_pos rfl]
  have e4 : ack0M s.1 4 = s.1 4 := ack0_0 (by decide) (by decide)
  have e0 : ack0M s.1 0 = s.1 0 := ack0_0 (by decide) (by decide)
  have e1 : ack0M s.1 1 = s.1 1 := ack0_0 (by decide) (by decide)
  generalize queueM (enterM s d mi) mi = qq at *
  -- the window is not below next
  have hge : ∃ m : Int, 0 ≤ m ∧ m * s.1 4 ≤ 524288 * q ∧ s.1 4 - m ≤ (ackM s d mi).1 4 := by
    rw [e, e2]
    by_cases z : 0 ≤ s.1 0 - qq
    · refine ⟨0, Int.le_refl 0, by omega, ?_⟩
      have hnx : ack0M s.1 4 ≤ nextM (ack0M s.1) (s.1 0 - qq) := by
        unfold nextM
        rw [e0, e1]
        have a1 : 0 ≤ s.1 1 * 65536 * (s.1 0 - qq) := Int.mul_nonneg (by omega) z
        have a2 : 0 ≤ s.1 0 * ack0M s.1 4 := Int.mul_nonneg (by omega) (by omega)
        have a3 : 0 ≤ (s.1 1 * 65536 * (s.1 0 - qq)).tdiv (s.1 0 * ack0M s.1 4) := by
          rw [Int.tdiv_eq_ediv_of_nonneg a1]
          exact Int.ediv_nonneg a1 a2
        omega
      have hs : ack0M s.1 4 ≤ stepW (ack0M s.1) (s.1 0 - qq) := by
        unfold stepW topM
        repeat' split
        all_goals omega
      split <;> omega
    · have hden : 0 < s.1 0 * s.1 4 := Int.mul_pos (by omega) (by omega)
      have hnum : 0 ≤ s.1 1 * 65536 * (qq - s.1 0) := Int.mul_nonneg (by omega) (by omega)
      refine ⟨s.1 1 * 65536 * (qq - s.1 0) / (s.1 0 * s.1 4), Int.ediv_nonneg hnum (by omega), ?_, ?_⟩
      · generalize hm : s.1 1 * 65536 * (qq - s.1 0) / (s.1 0 * s.1 4) = m
        have l1 : m * (s.1 0 * s.1 4) ≤ s.1 1 * 65536 * (qq - s.1 0) := by
          rw [← hm]
          exact Int.ediv_mul_le _ (by omega)
        have l2 : s.1 1 * 65536 * (qq - s.1 0) ≤ 524288 * (qq - s.1 0) := Int.mul_le_mul_of_nonneg_right (by omega) (by omega)
        have l3 : qq - s.1 0 ≤ s.1 0 * q := by
          have : 1 * q ≤ s.1 0 * q := Int.mul_le_mul_of_nonneg_right i0.1 hq0
          omega
        have l4 : m * s.1 4 * s.1 0 ≤ 524288 * q * s.1 0 := by
          have b1 : m * s.1 4 * s.1 0 = m * (s.1 0 * s.1 4) := by rw [Int.mul_assoc, Int.mul_comm (s.1 4) (s.1 0)]
          have b2 : 524288 * q * s.1 0 = 524288 * (s.1 0 * q) := by rw [Int.mul_assoc, Int.mul_comm q (s.1 0)]
          rw [b1, b2]
          omega
        exact Int.le_of_mul_le_mul_right l4 (by omega)
      · have hnx : nextM (ack0M s.1) (s.1 0 - qq) = s.1 4 - s.1 1 * 65536 * (qq - s.1 0) / (s.1 0 * s.1 4) := by
          unfold nextM
          rw [e0, e1, e4]
          have h1 : s.1 1 * 65536 * (s.1 0 - qq) = -(s.1 1 * 65536 * (qq - s.1 0)) := by
            rw [show s.1 0 - qq = -(qq - s.1 0) by omega, Int.mul_neg]
          rw [h1, Int.neg_tdiv, Int.tdiv_eq_ediv_of_nonneg hnum]
          omega
        have hd : 0 ≤ s.1 1 * 65536 * (qq - s.1 0) / (s.1 0 * s.1 4) := Int.ediv_nonneg hnum (by omega)
        have hs : stepW (ack0M s.1) (s.1 0 - qq) = nextM (ack0M s.1) (s.1 0 - qq) := by
          unfold stepW
          rw [if_pos (by omega)]
        rw [hs, hnx]
        split <;> omega
  have hv : 256 ≤ (ackM s d mi).1 4 := by
    rw [e, e2]
    split <;> omega
  obtain ⟨m, m0, m1, m2⟩ := hge
  generalize (ackM s d mi).1 4 = v at *
  generalize s.1 4 = w at *
  by_cases z : w ≤ v
  · have := sq_mono (a := w) (b := v) (by omega) z
    omega
  · -- w*w - v*v = (w - v)(w + v) <= m * 2w
    have a1 : (w - v) * (w + v) ≤ m * (w + v) := Int.mul_le_mul_of_nonneg_right (by omega) (by omega)
    have a2 : m * (w + v) ≤ m * (2 * w) := Int.mul_le_mul_of_nonneg_left (by omega) m0
    have a3 : (w - v) * (w + v) = w * w - v * v := by
      rw [Int.sub_mul, Int.mul_add, Int.mul_add, Int.mul_comm v w]
      omega
    have a4 : m * (2 * w) = 2 * (m * w) := by
      rw [Int.mul_comm 2 w, ← Int.mul_assoc]
      omega
    omega
/-- a negative one behind c lower ones: (128 f)^2 <= w^2 + c * 1048576 * 999, f the flight behind it -/
theorem pb_negD {w v : Int} {f U g X c : Nat} (hw : 256 ≤ w) (hwv : w ≤ v) (hx : U ≤ f) (hf : 2 * wP w + 1 < f + 1) (h1 : wP v ≤ f + 3) (h2 : (v - w) * w ≤ 524288 * (1 + (g : Int))) (hD : (128 * (f : Int)) * (128 * f) ≤ w * w + c * 1048576 * 999) (hg : 700 ≤ g) (hX : (c ≤ 1 ∧ X = 800) ∨ (c ≤ 2 ∧ X = 1260)) : 5 * PB (wP v) f U 0 ≤ 5 * PB (wP w) (f + 1) (U + 1) 0 + 25 + (g + X) := by
  have a2 := PB_2 (wP w) (f + 1) (U + 1) 0
  have q := phB_c (wP v)
  have key : PB (wP v) f U 0 ≤ PB (wP w) (f + 1) (U + 1) 0 + 5 + (g + X) / 5 := by
    refine PB_le ?_ (by omega) ?_
    · rw [mB_0]
      by_cases big : 5 * f ≤ g + X
      · omega
      · -- then w is at least 80 packets
        have hT : 5 * (f : Int) ≥ g + X + 1 := by omega
        have hw2 : 20480 ≤ w := by
          apply Decidable.byContradiction
          intro z
          have a : w * w ≤ 20479 * 20479 := sq_mono (by omega) (by omega)
          rcases hX with ⟨hc, hX⟩ | ⟨hc, hX⟩
          · have b : (128 * 300 : Int) * (128 * 300) ≤ (128 * (f : Int)) * (128 * f) := sq_mono (by omega) (by omega)
            have d : (c : Int) * 1048576 * 999 ≤ 1 * 1048576 * 999 := by omega
            omega
          · have b : (128 * 392 : Int) * (128 * 392) ≤ (128 * (f : Int)) * (128 * f) := sq_mono (by omega) (by omega)
            have d : (c : Int) * 1048576 * 999 ≤ 2 * 1048576 * 999 := by omega
            omega
        have e1 : (v - w) * 20480 ≤ (v - w) * w := Int.mul_le_mul_of_nonneg_left hw2 (by omega)
        have e2 : (wP v : Int) = v / 256 := by unfold wP; omega
        have e3 : (wP w : Int) = w / 256 := by unfold wP; omega
        omega
    · intro u
      have u2 := uuB_0 (wP v) f
      omega
  omega
