/-! Bounds, trials: a potential with windows raised to 16 packets (256ths): 2 an acknowledgment, 16 a halving of a small window -/
/-- the window that counts, raised; with fresh losses on the way not below the flight -/
def rM (w F : Int) (Lf : Nat) : Int := max (max w 4096) (if 1 ≤ Lf then F else 0)
def pR (w F : Int) (U Lf : Nat) : Int := max (2 * rM w F Lf - 256 * ((U : Int) + (Lf : Int))) F
theorem rM_0 {w F : Int} : rM w F 0 = max w 4096 := by
  unfold rM
  rw [if_neg (by omega)]
  omega
theorem rM_1 {w F : Int} {Lf : Nat} (h : 1 ≤ Lf) : rM w F Lf = max (max w 4096) F := by
  unfold rM
  rw [if_pos h]
theorem rM_c (w F : Int) (Lf : Nat) : (Lf = 0 ∧ rM w F Lf = max w 4096) ∨ (1 ≤ Lf ∧ rM w F Lf = max (max w 4096) F) := by
  by_cases h : Lf = 0
  · subst h
    exact Or.inl ⟨rfl, rM_0⟩
  · exact Or.inr ⟨by omega, rM_1 (by omega)⟩
section PR
variable {w v F : Int} {U Lf : Nat}
theorem pR_F : F ≤ pR w F U Lf := by
  unfold pR
  omega
theorem pR_M (hx : 256 * ((U : Int) + (Lf : Int)) ≤ F) : max w 4096 ≤ max (pR w F U Lf) F := by
  have := rM_c w F Lf
  unfold pR
  omega
/-- packets sent -/
theorem r_sendE (h : F + 256 ≤ max w 4096) (hx : 256 * ((U : Int) + (Lf : Int)) ≤ F) : pR w (F + 256) (U + 1) Lf + 256 ≤ pR w F U Lf := by
  have a := rM_c w F Lf
  have b := rM_c w (F + 256) Lf
  unfold pR
  push_cast
  omega
theorem r_sendL (h : F + 256 ≤ max w 4096) (hx : 256 * ((U : Int) + (Lf : Int)) ≤ F) : pR w (F + 256) U (Lf + 1) + 256 ≤ pR w F U Lf := by
  have a := rM_c w F Lf
  have b := rM_c w (F + 256) (Lf + 1)
  unfold pR
  push_cast
  omega
theorem r_stale : pR w (F - 256) U Lf ≤ pR w F U Lf := by
  have a := rM_c w F Lf
  have b := rM_c w (F - 256) Lf
  unfold pR
  omega
/-- a halving -/
theorem r_fresh (hw : 256 ≤ w) (hx : 256 * ((U : Int) + ((Lf + 1 : Nat) : Int)) ≤ F) : pR (halfM w) (F - 256) U 0 ≤ pR w F U (Lf + 1) + (if w < 8192 then 4096 else 0) := by
  have hh : halfM w ≤ max 256 (w / 2) := by
    unfold halfM
    split <;> omega
  unfold pR
  rw [rM_0, rM_1 (by omega)]
  push_cast at hx ⊢
  generalize halfM w = w2 at *
  split <;> omega
/-- acknowledgments -/
theorem r_ack (hw : 256 ≤ w) (h : v ≤ w ∨ (v - w) * w ≤ 524288) : pR v (F - 256) U Lf ≤ pR w F (U + 1) Lf + 512 := by
  have key : max v 4096 ≤ max w 4096 + 128 := by
    rcases h with h | h
    · omega
    · apply Decidable.byContradiction
      intro z
      by_cases q : 4096 ≤ w
      · have : 128 * w < (v - w) * w := by
          have e : (129 : Int) * w ≤ (v - w) * w := Int.mul_le_mul_of_nonneg_right (by omega) (by omega)
          omega
        omega
      · -- v > 4224, w < 4096
        have e1 : (4225 - w) * w ≤ (v - w) * w := Int.mul_le_mul_of_nonneg_right (by omega) (by omega)
        have e2 : 0 ≤ (w - 256) * (4096 - w) := Int.mul_nonneg (by omega) (by omega)
        have e3 : (w - 256) * (4096 - w) = (4225 - w) * w + 127 * w - 1048576 := by
          rw [Int.sub_mul, Int.mul_sub, Int.sub_mul, Int.mul_comm w 4096]
          omega
        omega
  have a := rM_c w F Lf
  have b := rM_c v (F - 256) Lf
  unfold pR
  push_cast
  omega
theorem r_acks : pR w (F - 256) U Lf ≤ pR w F (U + 1) Lf + 256 := by
  have a := rM_c w F Lf
  have b := rM_c w (F - 256) Lf
  unfold pR
  push_cast
  omega
/-- negative ones -/
theorem r_negF (hl : 1 ≤ Lf) (h : v ≤ max w (F + 512)) : pR v (F - 256) U Lf ≤ pR w F (U + 1) Lf + 1280 := by
  have a := rM_c w F Lf
  have b := rM_c v (F - 256) Lf
  unfold pR
  push_cast
  omega
theorem r_neg {y : Int} (h : max v 4096 ≤ max w 4096 + y) (hy : 0 ≤ y) : pR v (F - 256) U 0 ≤ pR w F (U + 1) 0 + (2 * y + 256) := by
  have a := rM_c w F 0
  have b := rM_c v (F - 256) 0
  unfold pR
  push_cast
  omega
theorem r_deep (hF : 3584 ≤ F) (hw : w ≤ F) (h : v ≤ max w (F + 512)) : pR v (F - 256) U 0 ≤ pR w F (U + 1) 0 + (F + 1024) := by
  have a := rM_c w F 0
  have b := rM_c v (F - 256) 0
  unfold pR
  push_cast
  omega
theorem r_deepF (hF : 3584 ≤ F) (hw : w ≤ F) (h : v ≤ max w (F + 512)) : pR v (F - 256) U 0 ≤ F + (F + 1024) := by
  have b := rM_c v (F - 256) 0
  unfold pR
  push_cast
  omega
/-- the window behind it far below the flight -/
theorem r_low (hF : 8192 ≤ F - 256) (h0 : Lf = 0 → 2 * v ≤ F - 256) (h1 : 1 ≤ Lf → v ≤ F - 256) : pR v (F - 256) U Lf ≤ pR w F (U + 1) Lf + 256 := by
  have a := rM_c w F Lf
  have b := rM_c v (F - 256) Lf
  unfold pR
  push_cast
  by_cases hl : Lf = 0
  · have := h0 hl
    omega
  · have := h1 (by omega)
    omega
end PR
def dvL (X D lv : Int) : Int := max 0 (min (lv - X) D)
theorem dvL_0 {X D lv : Int} : 0 ≤ dvL X D lv := by
  unfold dvL
  omega
theorem dvL_D {X D lv : Int} (h : 0 ≤ D) : dvL X D lv ≤ D := by
  unfold dvL
  omega
theorem dvL_add {X D a b r : Int} (h : a ≤ b + r) (hr : 0 ≤ r) : dvL X D a ≤ dvL X D b + r := by
  unfold dvL
  omega
theorem lin_ends {a b T wl wh w : Int} (h1 : T ≤ a * wl + b) (h2 : T ≤ a * wh + b) (hl : wl ≤ w) (hh : w ≤ wh) : T ≤ a * w + b := by
  by_cases h : 0 ≤ a
  · have := Int.mul_le_mul_of_nonneg_left hl h
    omega
  · have : a * wh ≤ a * w := by
      have := Int.mul_le_mul_of_nonneg_left hh (show 0 ≤ -a by omega)
      rw [Int.neg_mul, Int.neg_mul] at this
      omega
    omega
theorem lift_V {w v wb V T : Int} (hb : 1 ≤ wb) (hw : wb ≤ w) (hv : w ≤ v) (h : (v - w) * w ≤ T) (hV : T ≤ V * wb) : v - w ≤ V := by
  apply Decidable.byContradiction
  intro z
  have a1 : (V + 1) * wb ≤ (v - w) * wb := Int.mul_le_mul_of_nonneg_right (by omega) (by omega)
  have a2 : (v - w) * wb ≤ (v - w) * w := Int.mul_le_mul_of_nonneg_left hw (by omega)
  rw [Int.add_mul, Int.one_mul] at a1
  omega
theorem win_ge {w wb F Fb e2 : Int} (hw : 0 ≤ w) (hb : 1 ≤ wb) (h5 : 512 ≤ Fb) (hF : Fb ≤ F) (h1 : (F - 512) * (F - 512) - (2 * w) * (2 * w) ≤ e2) (h2 : 4 * (wb * wb) + e2 ≤ (Fb - 512) * (Fb - 512)) : wb ≤ w := by
  apply Decidable.byContradiction
  intro z
  have s1 := sq_mono (a := Fb - 512) (b := F - 512) (by omega) (by omega)
  have s2 : w * w < wb * wb := by
    have a1 : w * w ≤ w * wb := Int.mul_le_mul_of_nonneg_left (by omega) hw
    have a2 : w * wb < wb * wb := Int.mul_lt_mul_of_pos_right (by omega) (by omega)
    omega
  have e : (2 * w) * (2 * w) = 4 * (w * w) := by rw [Int.mul_assoc, Int.mul_comm w (2 * w), Int.mul_assoc]; omega
  omega
