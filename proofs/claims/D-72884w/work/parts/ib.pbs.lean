/-! Bounds: the potential in a slow-down: kept window K, window W -/
def PL (W K f U Lf : Nat) : Nat := max (PB K f U Lf) (PB (max W K) f U Lf)
/-- a smaller window with a flight of two -/
theorem pb_12 {U Lf : Nat} (hx : U + Lf ≤ 2) : PB 1 2 U Lf ≤ PB 2 2 U Lf := by
  have a1 := PB_1 2 2 U Lf
  have a2 := PB_2 2 2 U Lf
  refine PB_le ?_ ?_ ?_
  · have : phB (mB 1 2 Lf) ≤ phB (mB 2 2 Lf) := phB_m (by
      unfold mB
      split <;> omega)
    omega
  · omega
  · intro u
    have a3 := PB_3 (W := 2) (f := 2) (Lf := Lf) u
    by_cases hl : Lf = 0
    · subst hl
      have u1 := uuB_0 1 2
      have u2 := uuB_0 2 2
      omega
    · have u1 := uuB_1 1 2 (Lf := Lf) (by omega)
      omega
theorem pl_sendE {W K f U Lf : Nat} (hW : W ≤ 2) (hK : 1 ≤ K) (h : f < W) (hx : U + Lf ≤ f) : PL W K (f + 1) (U + 1) Lf + 1 ≤ PL W K f U Lf := by
  have b := pb_sendE (W := max W K) (f := f) (U := U) (Lf := Lf) (by omega) hx
  unfold PL
  by_cases q : f < K
  · have a := pb_sendE (W := K) (f := f) (U := U) (Lf := Lf) q hx
    omega
  · have e1 : K = 1 := by omega
    have e2 : f = 1 := by omega
    have e3 : W = 2 := by omega
    subst e1
    subst e2
    subst e3
    have c : PB 1 (1 + 1) (U + 1) Lf ≤ PB 2 (1 + 1) (U + 1) Lf := pb_12 (by omega)
    have e : max 2 1 = 2 := rfl
    rw [e] at b ⊢
    omega
theorem pl_sendL {W K f U Lf : Nat} (hW : W ≤ 2) (hK : 1 ≤ K) (h : f < W) (hx : U + Lf ≤ f) : PL W K (f + 1) U (Lf + 1) + 1 ≤ PL W K f U Lf := by
  have b := pb_sendL (W := max W K) (f := f) (U := U) (Lf := Lf) (by omega) hx
  unfold PL
  by_cases q : f < K
  · have a := pb_sendL (W := K) (f := f) (U := U) (Lf := Lf) q hx
    omega
  · have e1 : K = 1 := by omega
    have e2 : f = 1 := by omega
    have e3 : W = 2 := by omega
    subst e1
    subst e2
    subst e3
    have c : PB 1 (1 + 1) U (Lf + 1) ≤ PB 2 (1 + 1) U (Lf + 1) := pb_12 (by omega)
    have e : max 2 1 = 2 := rfl
    rw [e] at b ⊢
    omega
theorem pl_stale {W K f U Lf : Nat} : PL W K f U Lf ≤ PL W K (f + 1) U Lf := by
  have a := pb_stale (W := K) (f := f) (U := U) (Lf := Lf)
  have b := pb_stale (W := max W K) (f := f) (U := U) (Lf := Lf)
  unfold PL
  omega
theorem pl_fresh {W K f U Lf : Nat} (hK : 1 ≤ K) (hx : U + (Lf + 1) ≤ f + 1) : PL (max 1 (W / 2)) (max 1 (K / 2)) f U 0 ≤ PL W K (f + 1) U (Lf + 1) + 1 := by
  have a := pb_fresh (W := K) (f := f) (U := U) (Lf := Lf) hK hx
  have b := pb_fresh (W := max W K) (f := f) (U := U) (Lf := Lf) (by omega) hx
  have e : max (max 1 (W / 2)) (max 1 (K / 2)) = max 1 (max W K / 2) := by omega
  unfold PL
  rw [e]
  omega
theorem pl_ack {W K f U Lf : Nat} (hK : 1 ≤ K) (hx : (U + 1) + Lf ≤ f + 1) : PL W K f U Lf ≤ PL W K (f + 1) (U + 1) Lf + 5 := by
  have a := pb_ack (W := K) (V := K) (f := f) (U := U) (Lf := Lf) hK hx (by omega) (by omega) hK
  have b := pb_ack (W := max W K) (V := max W K) (f := f) (U := U) (Lf := Lf) (by omega) hx (by omega) (by omega) (by omega)
  unfold PL
  omega
/-- a slow-down begins -/
theorem pb_b12 {f U Lf : Nat} : PB 2 f U Lf ≤ PB 1 f U Lf + 1 := by
  have a1 := PB_1 1 f U Lf
  have a2 := PB_2 1 f U Lf
  have p1 : phB 1 = 4 := rfl
  have p2 : phB 2 = 5 := rfl
  refine PB_le ?_ ?_ ?_
  · by_cases hl : Lf = 0
    · subst hl
      rw [mB_0] at a1 ⊢
      omega
    · rw [mB_1 (by omega)] at a1 ⊢
      by_cases hf : f ≤ 1
      · rw [show max 1 f = 1 by omega] at a1
        rw [show max 2 f = 2 by omega]
        omega
      · rw [show max 1 f = f by omega] at a1
        rw [show max 2 f = f by omega]
        omega
  · omega
  · intro u
    have a3 := PB_3 (W := 1) (f := f) (Lf := Lf) u
    by_cases hl : Lf = 0
    · subst hl
      have u1 := uuB_0 1 f
      have u2 := uuB_0 2 f
      omega
    · have u1 := uuB_1 1 f (Lf := Lf) (by omega)
      have u2 := uuB_1 2 f (Lf := Lf) (by omega)
      omega
theorem pl_begin {K f U Lf : Nat} (hK : 1 ≤ K) : PL 2 K f U Lf ≤ PB K f U Lf + (if K = 1 then 1 else 0) := by
  unfold PL
  by_cases q : K = 1
  · subst q
    have e : max 2 1 = 2 := rfl
    have := pb_b12 (f := f) (U := U) (Lf := Lf)
    rw [e, if_pos rfl]
    omega
  · rw [if_neg q, show max 2 K = K by omega]
    omega
theorem pl_end {W K f U Lf : Nat} : PB K f U Lf ≤ PL W K f U Lf := by
  unfold PL
  omega
