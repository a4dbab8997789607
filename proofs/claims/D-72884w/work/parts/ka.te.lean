/-! Bounds, mode C: E, how far a window lies below half of the flight (squares) -/
/-- w: the window that counts; f: flight; with fresh losses on the way the window is as good as halved -/
def eE (w f : Int) (Lf : Nat) : Int := if f ≤ 15 then 0 else max 0 ((256 * (f - 2)) * (256 * (f - 2)) - (if Lf = 0 then (2 * w) * (2 * w) else w * w))
theorem eE_0 (w f : Int) (Lf : Nat) : 0 ≤ eE w f Lf := by
  unfold eE
  split <;> omega
theorem eE_s {w f : Int} {Lf : Nat} (h : f ≤ 15) : eE w f Lf = 0 := if_pos h
theorem eE_ge {w f : Int} {Lf : Nat} (h : 15 < f) : (256 * (f - 2)) * (256 * (f - 2)) - (if Lf = 0 then (2 * w) * (2 * w) else w * w) ≤ eE w f Lf := by
  unfold eE
  rw [if_neg (show ¬ f ≤ 15 by omega)]
  omega
/-- above zero -/
theorem eE_pos {w f : Int} {Lf : Nat} (hw : 0 ≤ w) (h : 0 < eE w f Lf) : 15 < f ∧ (Lf = 0 → 2 * w < 256 * (f - 2)) ∧ (1 ≤ Lf → w < 256 * (f - 2)) ∧ eE w f Lf = (256 * (f - 2)) * (256 * (f - 2)) - (if Lf = 0 then (2 * w) * (2 * w) else w * w) := by
  unfold eE at h ⊢
  by_cases q : f ≤ 15
  · rw [if_pos q] at h
    omega
  · rw [if_neg q] at h ⊢
    refine ⟨by omega, fun hl => ?_, fun hl => ?_, by omega⟩
    · rw [if_pos hl] at h
      apply Decidable.byContradiction
      intro z
      have := sq_mono (a := 256 * (f - 2)) (b := 2 * w) (by omega) (by omega)
      omega
    · rw [if_neg (by omega)] at h
      apply Decidable.byContradiction
      intro z
      have := sq_mono (a := 256 * (f - 2)) (b := w) (by omega) (by omega)
      omega
/-- zero -/
theorem eE_z {w f : Int} {Lf : Nat} (hw : 0 ≤ w) (h : eE w f Lf = 0) : f ≤ 15 ∨ (Lf = 0 ∧ 256 * (f - 2) ≤ 2 * w) ∨ (1 ≤ Lf ∧ 256 * (f - 2) ≤ w) := by
  unfold eE at h
  by_cases q : f ≤ 15
  · exact Or.inl q
  · right
    rw [if_neg q] at h
    by_cases hl : Lf = 0
    · left
      refine ⟨hl, ?_⟩
      rw [if_pos hl] at h
      apply Decidable.byContradiction
      intro z
      have := sq_mono (a := 2 * w + 1) (b := 256 * (f - 2)) (by omega) (by omega)
      have e : (2 * w + 1) * (2 * w + 1) = (2 * w) * (2 * w) + 4 * w + 1 := by
        rw [Int.add_mul, Int.mul_add]
        omega
      omega
    · right
      refine ⟨by omega, ?_⟩
      rw [if_neg hl] at h
      apply Decidable.byContradiction
      intro z
      have := sq_mono (a := w + 1) (b := 256 * (f - 2)) (by omega) (by omega)
      have e : (w + 1) * (w + 1) = w * w + 2 * w + 1 := by
        rw [Int.add_mul, Int.mul_add]
        omega
      omega
theorem eE_none {w f : Int} {Lf : Nat} (hw : 0 ≤ w) (h : f ≤ 15 ∨ 256 * (f - 2) ≤ w) : eE w f Lf = 0 := by
  apply Decidable.byContradiction
  intro z
  have p := eE_pos hw (show 0 < eE w f Lf by have := eE_0 w f Lf; omega)
  by_cases hl : Lf = 0
  · have := p.2.1 hl
    omega
  · have := p.2.2.1 (by omega)
    omega
/-- a smaller flight, a greater window -/
theorem eE_mono {w v f g : Int} {Lf : Nat} (hw : 0 ≤ w) (hwv : w ≤ v) (hfg : g ≤ f) : eE v g Lf ≤ eE w f Lf := by
  by_cases z : eE v g Lf = 0
  · rw [z]; exact eE_0 _ _ _
  · have p := eE_pos (by omega) (show 0 < eE v g Lf by have := eE_0 v g Lf; omega)
    rw [p.2.2.2]
    have q := eE_ge (w := w) (f := f) (Lf := Lf) (by omega)
    have m1 := sq_mono (a := 256 * (g - 2)) (b := 256 * (f - 2)) (by omega) (by omega)
    by_cases hl : Lf = 0
    · rw [if_pos hl] at q ⊢
      have := sq_mono (a := 2 * w) (b := 2 * v) (by omega) (by omega)
      omega
    · rw [if_neg hl] at q ⊢
      have := sq_mono (a := w) (b := v) hw hwv
      omega
/-- a window lowered: w^2 <= v^2 + 1048576 q -/
theorem eE_drop {w v f g q : Int} {Lf : Nat} (hw : 0 ≤ w) (hv : 0 ≤ v) (hq : 0 ≤ q) (h : w * w ≤ v * v + 1048576 * q) (hfg : g ≤ f) : eE v g Lf ≤ eE w f Lf + 4194304 * q := by
  by_cases z : eE v g Lf = 0
  · rw [z]; have := eE_0 w f Lf; omega
  · have p := eE_pos hv (show 0 < eE v g Lf by have := eE_0 v g Lf; omega)
    rw [p.2.2.2]
    have r := eE_ge (w := w) (f := f) (Lf := Lf) (by omega)
    have m1 := sq_mono (a := 256 * (g - 2)) (b := 256 * (f - 2)) (by omega) (by omega)
    have e1 : (2 * w) * (2 * w) = 4 * (w * w) := by rw [Int.mul_assoc, Int.mul_comm w (2 * w), Int.mul_assoc]; omega
    have e2 : (2 * v) * (2 * v) = 4 * (v * v) := by rw [Int.mul_assoc, Int.mul_comm v (2 * v), Int.mul_assoc]; omega
    by_cases hl : Lf = 0
    · rw [if_pos hl] at r ⊢
      omega
    · rw [if_neg hl] at r ⊢
      omega
/-- a halving -/
theorem eE_half {w v f : Int} {Lf : Nat} (hw : 256 ≤ w) (hv : w ≤ 2 * v + 1) : eE v f 0 ≤ eE w (f + 1) (Lf + 1) := by
  by_cases z : eE v f 0 = 0
  · rw [z]; exact eE_0 _ _ _
  · have p := eE_pos (by omega) (show 0 < eE v f 0 by have := eE_0 v f 0; omega)
    rw [p.2.2.2, if_pos rfl]
    have r := eE_ge (w := w) (f := f + 1) (Lf := Lf + 1) (by omega)
    rw [if_neg (by omega)] at r
    have h1 := p.2.1 rfl
    have m1 := sq_mono (a := w) (b := 2 * v + 1) (by omega) hv
    have e1 : (2 * v + 1) * (2 * v + 1) = (2 * v) * (2 * v) + 4 * v + 1 := by
      rw [Int.add_mul, Int.mul_add]
      omega
    have e2 : (256 * (f + 1 - 2)) * (256 * (f + 1 - 2)) = (256 * (f - 2)) * (256 * (f - 2)) + 131072 * (f - 2) + 65536 := by
      have : 256 * (f + 1 - 2) = 256 * (f - 2) + 256 := by omega
      rw [this, Int.add_mul, Int.mul_add, Int.mul_add]
      omega
    omega
/-- PB behind a window lowered below the flight -/
theorem pb_drop {W V f U Lf : Nat} (hf : 16 ≤ f) (h0 : Lf = 0 → 2 * V ≤ f) (h1 : 1 ≤ Lf → V ≤ f) : PB V f U Lf + 1 ≤ PB W (f + 1) (U + 1) Lf := by
  have a1 := PB_1 W (f + 1) (U + 1) Lf
  have a2 := PB_2 W (f + 1) (U + 1) Lf
  suffices h : PB V f U Lf ≤ PB W (f + 1) (U + 1) Lf - 1 by omega
  by_cases hl : Lf = 0
  · have h0 := h0 hl
    subst hl
    have q := phB_c V
    refine PB_le ?_ (by omega) ?_
    · rw [mB_0]
      omega
    · intro u
      have u2 := uuB_0 V f
      omega
  · have h1 := h1 (by omega)
    rw [mB_1 (by omega)] at a1
    have w := phB_c (max W (f + 1))
    have q := phB_c (max V f)
    refine PB_le ?_ (by omega) ?_
    · rw [mB_1 (by omega)]
      omega
    · intro u
      have u2 := uuB_1 V f (Lf := Lf) (by omega)
      omega
