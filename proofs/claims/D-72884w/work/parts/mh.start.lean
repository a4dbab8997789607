/-! Bounds, general mode: how great the potential is at a start -/
theorem PB_up (W f U Lf : Nat) : PB W f U Lf ≤ 2 * max W f + 14 := by
  refine PB_le ?_ (by omega) (fun _ => ?_)
  · have h : mB W f Lf ≤ max W f := by
      unfold mB
      split <;> omega
    have := phB_m h
    have := phB_c (max W f)
    omega
  · by_cases q : Lf = 0
    · subst q
      have := uuB_0 W f
      omega
    · have := uuB_1 W f (Lf := Lf) (by omega)
      omega
theorem PS_up {s : SdM} (hk : sW s) (U Lf : Nat) : PS s U Lf ≤ 2 * lvl s + 18 := by
  by_cases q : s.1 11 = -1
  · rw [PS_n q]
    have := PB_up (wP (s.1 4)) (s.1 5).toNat U Lf
    unfold lvl
    rw [mW_n q]
    omega
  · rw [PS_s q]
    have h4 := (hk q).1
    have a := PB_up (wP (s.1 12)) (s.1 5).toNat U Lf
    have b := PB_up (max (wP (s.1 4)) (wP (s.1 12))) (s.1 5).toNat U Lf
    have c : wP (s.1 4) ≤ 2 := by unfold wP; omega
    unfold PL lvl
    rw [mW_s q]
    omega
section STA
variable {M kT U1 C1 Z now : Int} {X Λ : Nat} {v : SV} {L : List EnF}
/-- from a level -/
theorem gPot_up (hk : sW v.1) (h0 : 0 ≤ v.1.1 5) (hM : 0 < M) (hT : 0 ≤ kT) (h1 : 0 ≤ U1) (h2 : U1 ≤ C1) (h3 : 2 ≤ C1) (hZ : C1 + 2 ≤ Z) (hl : lvl v.1 ≤ Λ) : gPot M kT U1 C1 Z X now v L ≤ max (3 * (M * (2 * (Λ : Int) + 18)) + M * (Z + max U1 ((gLv X Λ : Int) + 2))) (3 * (M * (Λ : Int)) + 3 * (kT * (65536 * ((Λ : Int) * Λ))) + M * (Z + (C1 + (gLv X Λ : Int)))) := by
  have hn := nuP_3 (now := now) (L := L)
  have hG := gLv_mono (X := X) hl
  have hF : (v.1.1 5).toNat ≤ lvl v.1 := by unfold lvl; omega
  refine gP_le ?_ (fun hE => ?_)
  · have a := PS_up hk (vU v) (vF v)
    have aM : M * (PS v.1 (vU v) (vF v) : Int) ≤ M * (2 * (Λ : Int) + 18) := Int.mul_le_mul_of_nonneg_left (by omega) (by omega)
    have c := uC_c U1 C1 Z (nuP now L) 0 (gLv X (lvl v.1))
    have d := uO_c U1 C1 0 (gLv X (lvl v.1))
    have u : uC U1 C1 Z (nuP now L) 0 (gLv X (lvl v.1)) ≤ Z + max U1 ((gLv X Λ : Int) + 2) := by omega
    have uM : M * uC U1 C1 Z (nuP now L) 0 (gLv X (lvl v.1)) ≤ M * (Z + max U1 ((gLv X Λ : Int) + 2)) := Int.mul_le_mul_of_nonneg_left u (by omega)
    unfold sA
    omega
  · have aM : M * v.1.1 5 ≤ M * (Λ : Int) := Int.mul_le_mul_of_nonneg_left (by omega) (by omega)
    have e1 := eE_le (w := mW v.1) (f := v.1.1 5) (Lf := vF v) h0
    have e2 : (256 * v.1.1 5) * (256 * v.1.1 5) ≤ 65536 * ((Λ : Int) * Λ) := by
      have s := sq_mono (a := v.1.1 5) (b := (Λ : Int)) h0 (by omega)
      have : (256 * v.1.1 5) * (256 * v.1.1 5) = 65536 * (v.1.1 5 * v.1.1 5) := by
        rw [Int.mul_assoc, Int.mul_left_comm (v.1.1 5) 256, ← Int.mul_assoc 256 256]
        rfl
      omega
    have e3 : kT * tE v.1 (vF v) ≤ kT * (65536 * ((Λ : Int) * Λ)) := Int.mul_le_mul_of_nonneg_left (by unfold tE; omega) hT
    have c := uC_c U1 C1 Z (nuP now L) (tE v.1 (vF v)) (gLv X (lvl v.1))
    have d := uO_c U1 C1 (tE v.1 (vF v)) (gLv X (lvl v.1))
    have u : uC U1 C1 Z (nuP now L) (tE v.1 (vF v)) (gLv X (lvl v.1)) ≤ Z + (C1 + (gLv X Λ : Int)) := by omega
    have uM : M * uC U1 C1 Z (nuP now L) (tE v.1 (vF v)) (gLv X (lvl v.1)) ≤ M * (Z + (C1 + (gLv X Λ : Int))) := Int.mul_le_mul_of_nonneg_left u (by omega)
    unfold sB
    omega
theorem gPot_0 (hM : 0 < M) (h0 : 0 ≤ U1) (h2 : U1 ≤ C1) (h3 : 2 ≤ C1) (hZ : C1 + 2 ≤ Z) : 0 ≤ gPot M kT U1 C1 Z X now v L := by
  refine Int.le_trans ?_ gP_A
  have c := uC_c U1 C1 Z (nuP now L) 0 (gLv X (lvl v.1))
  have d := uO_c U1 C1 0 (gLv X (lvl v.1))
  have a : 0 ≤ M * (PS v.1 (vU v) (vF v) : Int) := Int.mul_nonneg (by omega) (by omega)
  have b : 0 ≤ M * uC U1 C1 Z (nuP now L) 0 (gLv X (lvl v.1)) := Int.mul_nonneg (by omega) (by omega)
  unfold sA
  omega
end STA
/-- weights on their way, every one at most wm -/
theorem wSl_le {wt : Int → Nat} {wm : Nat} : ∀ {l : List NtM}, (∀ n ∈ l, isA n → wt n.2.2.2 ≤ wm) → wSl wt l ≤ aNl l * wm := by
  intro l
  induction l with
  | nil => intro _; exact Nat.zero_le _
  | cons n l ih =>
    intro h
    have a := ih (fun n hn => h n (List.mem_cons_of_mem _ hn))
    have b := aNl_cons (l := l) (n := n)
    have e : wSl wt (n :: l) = (if n.2.2.1 = 0 then wt n.2.2.2 else 0) + wSl wt l := rfl
    rw [e, b]
    by_cases q : n.2.2.1 = 0
    · have c := h n List.mem_cons_self q
      rw [if_pos q, if_pos q, Nat.add_mul, Nat.one_mul]
      omega
    · rw [if_neg q, if_neg q, Nat.add_zero]
      omega
section STB
variable {now c dl R lo1 lo2 hi r : Int} {v : SV} {g : Gh}
/-- the clocks at a start -/
theorem GBc.start (h : GBb now c dl R lo1 lo2 hi v g) (hr : 1 ≤ r) (hs : v.1.1 11 ≠ -1 → now < v.1.1 11) : GBc now c dl R lo1 lo2 hi r v g (now + 1 - r) (now - 60) := by
  refine ⟨h, fun n hn _ _ => ?_, by omega, by omega, fun q => ?_, fun _ => Or.inr (by omega)⟩
  · have := h.2.1 n hn
    omega
  · have := hs q
    omega
theorem gY_start {M kT U1 C1 Z : Int} {X : Nat} {wt : Int → Nat} {L : List EnF} : gY M kT U1 C1 Z X wt now r v L (now + 1 - r) (now - 60) = 61 * (r * gPH M kT U1 C1 Z X wt now v L) + 183 * (M * (r - 1)) + 180 * (r * M) := by
  unfold gY
  have e1 : now - (now + 1 - r) = r - 1 := by omega
  have e2 : now - (now - 60) = 60 := by omega
  rw [e1, e2]
  have e3 : 3 * (r * (M * 60)) = 180 * (r * M) := by
    rw [← Int.mul_assoc r M 60]
    omega
  rw [e3]
end STB
