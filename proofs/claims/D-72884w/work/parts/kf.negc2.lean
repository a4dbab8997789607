/-! Bounds, mode C: a negative acknowledgment is paid by A and a permission -/
theorem pb_negW {W V f U c : Nat} {K : Int} (h2 : ((V : Int) - W - 1) * W ≤ 8 * K) (c2 : 16 * K < ((c : Int) - 2) * W) (c3 : 14 ≤ c) : PB V f U 0 ≤ PB W (f + 1) (U + 1) 0 + c := by
  have a1 := PB_1 W (f + 1) (U + 1) 0
  have a2 := PB_2 W (f + 1) (U + 1) 0
  rw [mB_0] at a1
  have b1 := phB_2 W
  refine PB_le ?_ (by omega) ?_
  · rw [mB_0]
    rcases phB_11 V with q | ⟨q, e⟩
    · omega
    · by_cases hv : V ≤ W
      · have := phB_m hv
        omega
      · apply Decidable.byContradiction
        intro z
        have hz : (c : Int) - 2 ≤ ((2 * (V - W - 1) : Nat) : Int) := by omega
        refine mul_ctr (e := 2 * (V - W - 1)) (W := W) (w := W) (B := 16 * K) (A := (c : Int) - 2) ?_ (Nat.le_refl _) c2 hz (by omega)
        have e1 : ((2 * (V - W - 1) : Nat) : Int) * W = 2 * (((V : Int) - W - 1) * W) := by
          rw [← Int.mul_assoc]
          congr 1
          omega
        omega
  · intro u
    have := uuB_0 V f
    omega
theorem ps_negW {s : SdM} {d mi tk : Int} {U g c : Nat} (hI : sdB tk s) (hn : s.1 11 = -1) (h5 : 1 ≤ s.1 5) (hq : queueM (enterM s d mi) mi < 0) (hg : - (g : Int) ≤ queueM (enterM s d mi) mi) (c2 : 16 * (1 + (g : Int)) < ((c : Int) - 2) * (wP (mW s) : Int)) (c3 : 14 ≤ c) : PS (ackM s d mi) U 0 ≤ PS s (U + 1) 0 + c := by
  obtain ⟨n1, n2, n3, n4, n5⟩ := neg_w hI hn h5 hq hg
  have e11 : (ackM s d mi).1 11 = s.1 11 := ack_o (by decide) (by decide) (by decide)
  have e5 : (ackM s d mi).1 5 = s.1 5 - 1 := ack_5
  have f1 : (s.1 5).toNat = ((ackM s d mi).1 5).toNat + 1 := by omega
  rw [mW_n hn] at c2
  rw [PS_n hn, PS_n (e11.trans hn), f1]
  exact pb_negW n5 c2 c3
/-- the numbers of mode C: K one more than the range of the delays, M the scale, A what an acknowledgment brings -/
def PCs (K M : Int) (A X : Nat) (U1 C1 Z : Int) (C3 w1 : Nat) : Prop :=
  0 < M ∧ 5 ≤ A ∧ 40 ≤ X ∧ 32 * K < (X : Int) * X - 7 * X + 6 ∧ 3 * (X : Int) + 14 ≤ U1 + 3 * A ∧ 0 ≤ U1 ∧ U1 ≤ C1 ∧ 2 ≤ C1 ∧ C1 + 2 ≤ Z ∧ 3 * (X : Int) + 14 + U1 ≤ Z + 3 * A ∧ 16 * K < ((C3 : Int) + 2) * (w1 + 1 : Nat) ∧ 3 * (C3 : Int) + 2 ≤ C1 + 3 * A ∧ 3 * (C3 : Int) + U1 ≤ Z + 3 * A ∧
  (∀ F : Nat, 15 < F → 3 * (M * ((F : Int) + 4)) + 2 * M + 786432 * (((w1 : Int) + 1) * ((w1 : Int) + 1)) ≤ 196608 * (((F : Int) - 2) * ((F : Int) - 2)) + M * C1 + 3 * (M * (A : Int))) ∧
  ∀ F : Nat, 15 < F → 3 * (M * ((F : Int) + 4)) + M * U1 + 786432 * (((w1 : Int) + 1) * ((w1 : Int) + 1)) ≤ 196608 * (((F : Int) - 2) * ((F : Int) - 2)) + M * (gLv X F : Int) + M * Z + 3 * (M * (A : Int))
/-- cost where E is zero -/
theorem ps_neg0 {s : SdM} {d mi tk : Int} {U g X : Nat} {K : Int} (hI : sdB tk s) (hn : s.1 11 = -1) (h5 : 1 ≤ s.1 5) (hx : (U + 1) + 0 ≤ (s.1 5).toNat) (hq : queueM (enterM s d mi) mi < 0) (hg : - (g : Int) ≤ queueM (enterM s d mi) mi) (hgK : 1 + (g : Int) ≤ K) (hX : 40 ≤ X) (hK : 32 * K < (X : Int) * X - 7 * X + 6) (hE : tE s 0 = 0) :
    ∃ c : Nat, PS (ackM s d mi) U 0 ≤ PS s (U + 1) 0 + c ∧ 3 * c + gLv X (lvl s) ≤ 3 * X + 12 := by
  have hI2 := hI
  unfold sdB at hI2
  by_cases hl : lvl s ≤ X
  · refine ⟨X + 4, ?_, ?_⟩
    · have p := (ps_negC (Lf := 0) hI hn h5 hx hq hg).2.2.2.1 (X + 4) ((X - 4) / 2) (by omega) ?_ (by omega) rfl hE
      · exact p
      · -- 32 K < X X - 7 X + 6 <= (X + 2) (X - 3)
        have h2 : ((X : Int) - 3) ≤ 2 * (((X - 4) / 2 + 1 : Nat) : Int) := by omega
        have h3 : ((X : Int) + 2) * ((X : Int) - 3) ≤ ((X : Int) + 2) * (2 * (((X - 4) / 2 + 1 : Nat) : Int)) := Int.mul_le_mul_of_nonneg_left h2 (by omega)
        have h4 : ((X : Int) + 2) * ((X : Int) - 3) = (X : Int) * X - X - 6 := by
          rw [Int.add_mul, Int.mul_sub]
          omega
        have h5 : ((X : Int) + 2) * (2 * (((X - 4) / 2 + 1 : Nat) : Int)) = 2 * ((((X + 4 : Nat) : Int) - 2) * (((X - 4) / 2 + 1 : Nat) : Int)) := by
          rw [Int.mul_comm 2 ((((X - 4) / 2 + 1 : Nat)) : Int), ← Int.mul_assoc, show (((X + 4 : Nat) : Int) - 2) = (X : Int) + 2 by omega]
          omega
        omega
    · unfold gLv
      omega
  · -- above X
    have hz := eE_z (by rw [mW_n hn]; omega) hE
    have hW : lvl s ≤ 2 * wP (mW s) + 3 := by
      unfold lvl at hl ⊢
      rw [mW_n hn] at hz hl ⊢
      unfold wP at hl ⊢
      omega
    by_cases h3 : lvl s ≤ 3 * X
    · obtain ⟨t, ht⟩ : ∃ t : Nat, lvl s = X + t := ⟨lvl s - X, by omega⟩
      refine ⟨(3 * X - t + 8) / 3, ?_, ?_⟩
      · refine ps_negW hI hn h5 hq hg ?_ (by omega)
        -- (3X - t) (X + t - 3) <= 6 (c - 2) W
        have a1 : 3 * (X : Int) - t ≤ 3 * ((((3 * X - t + 8) / 3 : Nat) : Int) - 2) := by omega
        have a2 : (X : Int) + t - 3 ≤ 2 * (wP (mW s) : Int) := by omega
        generalize ((((3 * X - t + 8) / 3 : Nat) : Int) - 2) = u at *
        generalize (wP (mW s) : Int) = w at *
        have b1 : (3 * (X : Int) - t) * ((X : Int) + t - 3) ≤ (3 * u) * ((X : Int) + t - 3) := Int.mul_le_mul_of_nonneg_right a1 (by omega)
        have b2 : (3 * u) * ((X : Int) + t - 3) ≤ (3 * u) * (2 * w) := Int.mul_le_mul_of_nonneg_left a2 (by omega)
        have b3 : (3 * u) * (2 * w) = 6 * (u * w) := by
          rw [Int.mul_assoc, ← Int.mul_assoc u 2 w, Int.mul_comm u 2, Int.mul_assoc]
          omega
        have b4 : (3 * (X : Int) - t) * ((X : Int) + t - 3) = 3 * ((X : Int) * X) + 2 * ((X : Int) * t) - (t : Int) * t - 9 * X + 3 * t := by
          rw [Int.sub_mul, Int.mul_sub, Int.mul_add, Int.mul_sub, Int.mul_add, Int.mul_assoc, Int.mul_assoc, Int.mul_comm (t : Int) (X : Int)]
          omega
        have b5 : (t : Int) * t ≤ (2 * (X : Int)) * t := Int.mul_le_mul_of_nonneg_right (by omega) (by omega)
        have b6 : (2 * (X : Int)) * t = 2 * ((X : Int) * t) := Int.mul_assoc _ _ _
        omega
      · unfold gLv
        omega
    · refine ⟨(X + 8) / 3, ?_, ?_⟩
      · refine ps_negW hI hn h5 hq hg ?_ (by omega)
        have a1 : (X : Int) ≤ 3 * ((((X + 8) / 3 : Nat) : Int) - 2) := by omega
        have a2 : 3 * (X : Int) - 2 ≤ 2 * (wP (mW s) : Int) := by omega
        generalize ((((X + 8) / 3 : Nat) : Int) - 2) = u at *
        generalize (wP (mW s) : Int) = w at *
        have b1 : (X : Int) * (3 * (X : Int) - 2) ≤ (3 * u) * (3 * (X : Int) - 2) := Int.mul_le_mul_of_nonneg_right a1 (by omega)
        have b2 : (3 * u) * (3 * (X : Int) - 2) ≤ (3 * u) * (2 * w) := Int.mul_le_mul_of_nonneg_left a2 (by omega)
        have b3 : (3 * u) * (2 * w) = 6 * (u * w) := by
          rw [Int.mul_assoc, ← Int.mul_assoc u 2 w, Int.mul_comm u 2, Int.mul_assoc]
          omega
        have b4 : (X : Int) * (3 * (X : Int) - 2) = 3 * ((X : Int) * X) - 2 * X := by
          rw [Int.mul_sub, ← Int.mul_assoc, Int.mul_comm (X : Int) 3, Int.mul_assoc]
          omega
        omega
      · unfold gLv
        omega
