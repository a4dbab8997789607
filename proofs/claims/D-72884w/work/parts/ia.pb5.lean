/-! Bounds: the potential of a sender, 5 an acknowledgment and 1 a halving -/
def phB (m : Nat) : Nat := if m ≤ 1 then 4 else if m ≤ 5 then 2 * m + 1 else 2 * m
def uuB (W f Lf : Nat) : Nat := if Lf = 0 then (if W ≤ 1 then min 14 (2 * f + 1) else if W ≤ 2 then min 8 (2 * f + 1) else 0) else if f ≤ W then 0 else if W ≤ 3 then min 13 (2 * f - 2) else if W ≤ 5 then min 7 (2 * f - 2) else 0
theorem phB_c (m : Nat) : (m ≤ 1 ∧ phB m = 4) ∨ (m = 2 ∧ phB m = 5) ∨ (3 ≤ m ∧ m ≤ 5 ∧ phB m = 2 * m + 1) ∨ (6 ≤ m ∧ phB m = 2 * m) := by
  unfold phB
  repeat' split
  all_goals omega
theorem uuB_0 (W f : Nat) : (W ≤ 1 ∧ uuB W f 0 = min 14 (2 * f + 1)) ∨ (W = 2 ∧ uuB W f 0 = min 8 (2 * f + 1)) ∨ (3 ≤ W ∧ uuB W f 0 = 0) := by
  unfold uuB
  rw [if_pos rfl]
  repeat' split
  all_goals omega
theorem uuB_1 (W f : Nat) {Lf : Nat} (h : 1 ≤ Lf) : (f ≤ W ∧ uuB W f Lf = 0) ∨ (W < f ∧ W ≤ 3 ∧ uuB W f Lf = min 13 (2 * f - 2)) ∨ (W < f ∧ 4 ≤ W ∧ W ≤ 5 ∧ uuB W f Lf = min 7 (2 * f - 2)) ∨ (6 ≤ W ∧ uuB W f Lf = 0) := by
  unfold uuB
  rw [if_neg (by omega)]
  repeat' split
  all_goals omega
abbrev mB (W f Lf : Nat) : Nat := if Lf = 0 then W else max W f
def PB (W f U Lf : Nat) : Nat := max (max (phB (mB W f Lf) - (U + Lf)) f) (if 1 ≤ U then uuB W f Lf - U else 0)
theorem PB_1 (W f U Lf : Nat) : phB (mB W f Lf) ≤ PB W f U Lf + (U + Lf) := by
  unfold PB
  omega
theorem PB_2 (W f U Lf : Nat) : f ≤ PB W f U Lf := by
  unfold PB
  omega
theorem PB_3 {W f U Lf : Nat} (h : 1 ≤ U) : uuB W f Lf ≤ PB W f U Lf + U := by
  unfold PB
  rw [if_pos h]
  omega
theorem PB_le {W f U Lf z : Nat} (h1 : phB (mB W f Lf) ≤ z + (U + Lf)) (h2 : f ≤ z) (h3 : 1 ≤ U → uuB W f Lf ≤ z + U) : PB W f U Lf ≤ z := by
  unfold PB
  by_cases h : 1 ≤ U
  · rw [if_pos h]
    have := h3 h
    omega
  · rw [if_neg h]
    omega
theorem mB_0 {W f : Nat} : mB W f 0 = W := rfl
theorem mB_1 {W f Lf : Nat} (h : 1 ≤ Lf) : mB W f Lf = max W f := if_neg (by omega)
theorem phB_2 (m : Nat) : 2 * m ≤ phB m := by
  rcases phB_c m with q | q | q | q <;> omega
theorem phB_4 (m : Nat) : 4 ≤ phB m := by
  rcases phB_c m with q | q | q | q <;> omega
theorem phB_m {a b : Nat} (h : a ≤ b) : phB a ≤ phB b := by
  rcases phB_c a with q | q | q | q <;> rcases phB_c b with w | w | w | w <;> omega
/-- a packet sent that finds room -/
theorem pb_sendE {W f U Lf : Nat} (h : f < W) (hx : U + Lf ≤ f) : PB W (f + 1) (U + 1) Lf + 1 ≤ PB W f U Lf := by
  have a1 := PB_1 W f U Lf
  have em : mB W (f + 1) Lf = W := by
    unfold mB
    split <;> omega
  have em0 : mB W f Lf = W := by
    unfold mB
    split <;> omega
  rw [em0] at a1
  have p2 := phB_c W
  have key : PB W (f + 1) (U + 1) Lf ≤ PB W f U Lf - 1 := by
    refine PB_le ?_ ?_ ?_
    · rw [em]; omega
    · omega
    · intro _
      by_cases hl : Lf = 0
      · subst hl
        have u1 := uuB_0 W (f + 1)
        omega
      · have u1 := uuB_1 W (f + 1) (Lf := Lf) (by omega)
        omega
  omega
/-- a packet sent and lost -/
theorem pb_sendL {W f U Lf : Nat} (h : f < W) (hx : U + Lf ≤ f) : PB W (f + 1) U (Lf + 1) + 1 ≤ PB W f U Lf := by
  have a1 := PB_1 W f U Lf
  have em : mB W (f + 1) (Lf + 1) = W := by
    rw [mB_1 (by omega)]
    omega
  have em0 : mB W f Lf = W := by
    unfold mB
    split <;> omega
  rw [em0] at a1
  have p2 := phB_2 W
  have key : PB W (f + 1) U (Lf + 1) ≤ PB W f U Lf - 1 := by
    refine PB_le ?_ ?_ ?_
    · rw [em]; omega
    · omega
    · intro _
      have u1 := uuB_1 W (f + 1) (Lf := Lf + 1) (by omega)
      omega
  omega
/-- a stale loss comes in -/
theorem pb_stale {W f U Lf : Nat} : PB W f U Lf ≤ PB W (f + 1) U Lf := by
  have a1 := PB_1 W (f + 1) U Lf
  have a2 := PB_2 W (f + 1) U Lf
  refine PB_le ?_ ?_ ?_
  · have : phB (mB W f Lf) ≤ phB (mB W (f + 1) Lf) := phB_m (by
      unfold mB
      split <;> omega)
    omega
  · omega
  · intro u
    have a3 := PB_3 (W := W) (f := f + 1) (Lf := Lf) u
    by_cases hl : Lf = 0
    · subst hl
      have u1 := uuB_0 W (f + 1)
      have u2 := uuB_0 W f
      omega
    · have u1 := uuB_1 W (f + 1) (Lf := Lf) (by omega)
      have u2 := uuB_1 W f (Lf := Lf) (by omega)
      omega
/-- a fresh loss comes in -/
theorem pb_fresh {W f U Lf : Nat} (hW : 1 ≤ W) (hx : U + (Lf + 1) ≤ f + 1) : PB (max 1 (W / 2)) f U 0 ≤ PB W (f + 1) U (Lf + 1) + 1 := by
  have a1 := PB_1 W (f + 1) U (Lf + 1)
  have a2 := PB_2 W (f + 1) U (Lf + 1)
  rw [mB_1 (by omega)] at a1
  refine PB_le ?_ ?_ ?_
  · rw [mB_0]
    have q := phB_c (max 1 (W / 2))
    have w := phB_c (max W (f + 1))
    omega
  · omega
  · intro u
    have a3 := PB_3 (W := W) (f := f + 1) (Lf := Lf + 1) u
    have u1 := uuB_1 W (f + 1) (Lf := Lf + 1) (by omega)
    have u2 := uuB_0 (max 1 (W / 2)) f
    have w := phB_c (max W (f + 1))
    omega
/-- how far a window of W packets may grow at an acknowledgment without negative queueing -/
def gB (W : Nat) : Nat := if W ≤ 1 then 9 else if W ≤ 2 then 6 else if W ≤ 3 then 5 else if W ≤ 4 then 6 else if W ≤ 5 then 7 else if W ≤ 7 then 8 else if W ≤ 8 then 9 else W + 1
theorem gB_c (W : Nat) : (W ≤ 1 ∧ gB W = 9) ∨ (W = 2 ∧ gB W = 6) ∨ (W = 3 ∧ gB W = 5) ∨ (W = 4 ∧ gB W = 6) ∨ (W = 5 ∧ gB W = 7) ∨ (W = 6 ∧ gB W = 8) ∨ (W = 7 ∧ gB W = 8) ∨ (W = 8 ∧ gB W = 9) ∨ (9 ≤ W ∧ gB W = W + 1) := by
  unfold gB
  repeat' split
  all_goals omega
/-- an acknowledgment with queueing not below zero -/
theorem pb_ack {W V f U Lf : Nat} (hW : 1 ≤ W) (hx : (U + 1) + Lf ≤ f + 1) (h1 : V ≤ max W (f + 3)) (h2 : V ≤ max W (gB W)) (hV : 1 ≤ V) : PB V f U Lf ≤ PB W (f + 1) (U + 1) Lf + 5 := by
  have a1 := PB_1 W (f + 1) (U + 1) Lf
  have a2 := PB_2 W (f + 1) (U + 1) Lf
  have a3 := PB_3 (W := W) (f := f + 1) (U := U + 1) (Lf := Lf) (by omega)
  have g := gB_c W
  by_cases hl : Lf = 0
  · subst hl
    have u1 := uuB_0 W (f + 1)
    rw [mB_0] at a1
    have w := phB_c W
    refine PB_le ?_ ?_ ?_
    · rw [mB_0]
      have q := phB_c V
      rcases g with g | g | g | g | g | g | g | g | g <;> omega
    · omega
    · intro u
      have u2 := uuB_0 V f
      rcases u2 with u2 | u2 | u2
      · omega
      · omega
      · omega
  · have u1 := uuB_1 W (f + 1) (Lf := Lf) (by omega)
    rw [mB_1 (by omega)] at a1
    have w := phB_c (max W (f + 1))
    refine PB_le ?_ ?_ ?_
    · rw [mB_1 (by omega)]
      have q := phB_c (max V f)
      rcases g with g | g | g | g | g | g | g | g | g <;> omega
    · omega
    · intro u
      have u2 := uuB_1 V f (Lf := Lf) (by omega)
      rcases u2 with u2 | u2 | u2 | u2 <;> omega
