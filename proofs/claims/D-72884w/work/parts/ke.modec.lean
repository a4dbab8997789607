/-! Bounds, mode C: potential of a sender, its acknowledgments -/
def gLv (X Λ : Nat) : Nat := min (Λ - X) (2 * X)
/-- what pays the negative ones still to come (thirds); t: E -/
def uO (U1 C1 : Int) (t : Int) (G : Nat) : Int := if t = 0 then max U1 (G + 2) else C1 + G
def uC (U1 C1 Z : Int) (n : Nat) (t : Int) (G : Nat) : Int := if n = 0 then (G : Int) else if n = 1 then uO U1 C1 t G else if n = 2 then Z + G else Z + uO U1 C1 t G
theorem uO_c (U1 C1 t : Int) (G : Nat) : (t = 0 ∧ uO U1 C1 t G = max U1 (G + 2)) ∨ (t ≠ 0 ∧ uO U1 C1 t G = C1 + G) := by
  unfold uO
  by_cases q : t = 0
  · rw [if_pos q]; exact Or.inl ⟨q, rfl⟩
  · rw [if_neg q]; exact Or.inr ⟨q, rfl⟩
theorem uC_c (U1 C1 Z : Int) (n : Nat) (t : Int) (G : Nat) : (n = 0 ∧ uC U1 C1 Z n t G = G) ∨ (n = 1 ∧ uC U1 C1 Z n t G = uO U1 C1 t G) ∨ (n = 2 ∧ uC U1 C1 Z n t G = Z + G) ∨ (3 ≤ n ∧ uC U1 C1 Z n t G = Z + uO U1 C1 t G) := by
  unfold uC
  by_cases h0 : n = 0
  · rw [if_pos h0]; exact Or.inl ⟨h0, rfl⟩
  · rw [if_neg h0]
    by_cases h1 : n = 1
    · rw [if_pos h1]; exact Or.inr (Or.inl ⟨h1, rfl⟩)
    · rw [if_neg h1]
      by_cases h2 : n = 2
      · rw [if_pos h2]; exact Or.inr (Or.inr (Or.inl ⟨h2, rfl⟩))
      · rw [if_neg h2]; exact Or.inr (Or.inr (Or.inr ⟨by omega, rfl⟩))
section UC
variable {U1 C1 Z t t2 : Int} {n n2 r : Nat} {G G2 : Nat}
/-- no acknowledgment -/
theorem uC_ev (h1 : U1 ≤ C1) (h2 : 2 ≤ C1) (ht : t = 0 → t2 = 0) (hG : G2 ≤ G + r) : uC U1 C1 Z n t2 G2 ≤ uC U1 C1 Z n t G + r := by
  have a := uC_c U1 C1 Z n t G
  have b := uC_c U1 C1 Z n t2 G2
  have c := uO_c U1 C1 t G
  have d := uO_c U1 C1 t2 G2
  omega
/-- a minute more -/
theorem uC_min (h0 : 0 ≤ U1) (h1 : U1 ≤ C1) (h2 : 2 ≤ C1) (hZ : C1 + 2 ≤ Z) (hn : n ≤ 3) (hn2 : n2 ≤ n + 2) (hn3 : n2 ≤ 3) : uC U1 C1 Z n2 t G ≤ uC U1 C1 Z n t G + Z := by
  have a := uC_c U1 C1 Z n t G
  have b := uC_c U1 C1 Z n2 t G
  have c := uO_c U1 C1 t G
  omega
/-- an acknowledgment that is not negative -/
theorem uC_ack (h0 : 0 ≤ U1) (h1 : U1 ≤ C1) (h2 : 2 ≤ C1) (hZ : C1 + 2 ≤ Z) (hn : n2 = n ∧ (n = 0 ∨ n = 2) ∨ n = n2 + 1) (hn3 : n ≤ 3) (hG : G2 ≤ G + r) : uC U1 C1 Z n2 t2 G2 ≤ uC U1 C1 Z n t G + r := by
  have a := uC_c U1 C1 Z n t G
  have b := uC_c U1 C1 Z n2 t2 G2
  have c := uO_c U1 C1 t G
  have d := uO_c U1 C1 t2 G2
  omega
/-- a negative one of little cost -/
theorem uC_neg (h0 : 0 ≤ U1) (h1 : U1 ≤ C1) (h2 : 2 ≤ C1) (hZ : C1 + 2 ≤ Z) (hn : n = n2 + 1) (hn3 : n ≤ 3) (hG : G2 ≤ G + 2) : uC U1 C1 Z n2 t2 G2 ≤ uC U1 C1 Z n t G := by
  have a := uC_c U1 C1 Z n t G
  have b := uC_c U1 C1 Z n2 t2 G2
  have c := uO_c U1 C1 t G
  have d := uO_c U1 C1 t2 G2
  omega
end UC
theorem pb_ack3 {W V f U Lf : Nat} (hW : 9 ≤ W) (hV : V ≤ W + 1) : PB V f U Lf ≤ PB W (f + 1) (U + 1) Lf + 3 := by
  have a1 := PB_1 W (f + 1) (U + 1) Lf
  have a2 := PB_2 W (f + 1) (U + 1) Lf
  by_cases hl : Lf = 0
  · subst hl
    rw [mB_0] at a1
    have w := phB_c W
    have q := phB_c V
    refine PB_le ?_ (by omega) ?_
    · rw [mB_0]
      omega
    · intro u
      have u2 := uuB_0 V f
      omega
  · rw [mB_1 (by omega)] at a1
    have w := phB_c (max W (f + 1))
    have q := phB_c (max V f)
    refine PB_le ?_ (by omega) ?_
    · rw [mB_1 (by omega)]
      omega
    · intro u
      have u2 := uuB_1 V f (Lf := Lf) (by omega)
      omega
theorem mulL {M a b c : Int} (hM : 0 ≤ M) (h : a ≤ b + c) : M * a ≤ M * b + M * c := by
  have := Int.mul_le_mul_of_nonneg_left h hM
  rw [Int.mul_add] at this
  exact this
theorem gLv_mono {X a b : Nat} (h : a ≤ b) : gLv X a ≤ gLv X b := by
  unfold gLv
  omega
theorem gLv_add {X a b r : Nat} (h : a ≤ b + r) : gLv X a ≤ gLv X b + r := by
  unfold gLv
  omega
section NONN
variable {s : SdM} {d mi tk : Int} {U Lf : Nat} {M Q : Int} {A X : Nat}
/-- not negative: paid by A -/
theorem ackC (hI : sdB tk s) (hk : sW s) (h5 : 1 ≤ s.1 5) (hx : (U + 1) + Lf ≤ (s.1 5).toNat) (hM : 0 < M) (hQ : 0 ≤ Q) (hA : 5 ≤ A) (hX : 9 ≤ X) (hMQ : 4194304 * Q ≤ M * (A + 1)) (hq : s.1 11 = -1 → 0 ≤ queueM (enterM s d mi) mi ∧ queueM (enterM s d mi) mi ≤ Q + 1) :
    3 * (M * (PS (ackM s d mi) U Lf : Int)) + 3 * tE (ackM s d mi) Lf + M * (gLv X (lvl (ackM s d mi)) : Int) ≤ 3 * (M * (PS s (U + 1) Lf : Int)) + 3 * tE s Lf + M * (gLv X (lvl s) : Int) + 3 * (M * (A : Int)) := by
  have p5 := ps_ack (d := d) (mi := mi) hI hx hk (fun z => (hq z).1)
  have p5M := mulL (M := M) (by omega) (show (PS (ackM s d mi) U Lf : Int) ≤ (PS s (U + 1) Lf : Int) + 5 by omega)
  have hAM : M * 5 ≤ M * (A : Int) := Int.mul_le_mul_of_nonneg_left (by omega) (by omega)
  have t0 := tE_0 s Lf
  have e5 : (ackM s d mi).1 5 = s.1 5 - 1 := ack_5
  have e11 : (ackM s d mi).1 11 = s.1 11 := ack_o (by decide) (by decide) (by decide)
  by_cases hs : s.1 11 = -1
  · have hq := hq hs
    have hl := lvl_ack (d := d) (mi := mi) hI h5 (fun _ => hq.1)
    by_cases hE : 0 < tE (ackM s d mi) Lf
    · have pd := ps_tdrop (U := U) hI hk h5 hE
      have pdM := mulL (M := M) (by omega) (show (PS (ackM s d mi) U Lf : Int) ≤ (PS s (U + 1) Lf : Int) + (-1) by omega)
      by_cases hv : s.1 4 ≤ (ackM s d mi).1 4
      · have te := tE_ackg (Lf := Lf) hI hs hv
        have hG : gLv X (lvl (ackM s d mi)) ≤ gLv X (lvl s) + 1 := by
          have w1 : wP (mW s) ≤ lvl s := by unfold lvl; omega
          unfold gLv
          omega
        have hGM := mulL (M := M) (by omega) (show (gLv X (lvl (ackM s d mi)) : Int) ≤ (gLv X (lvl s) : Int) + 1 by omega)
        omega
      · have te := tE_ackd (Lf := Lf) hI hs hQ hq.2
        have hG : gLv X (lvl (ackM s d mi)) ≤ gLv X (lvl s) := by
          refine gLv_mono ?_
          unfold lvl
          rw [mW_n hs, mW_ackn hs]
          unfold wP
          omega
        have hGM := mulL (M := M) (by omega) (show (gLv X (lvl (ackM s d mi)) : Int) ≤ (gLv X (lvl s) : Int) + 0 by omega)
        rw [Int.mul_add] at hMQ
        omega
    · have tz : tE (ackM s d mi) Lf = 0 := by have := tE_0 (ackM s d mi) Lf; omega
      by_cases h9 : 9 ≤ wP (mW s)
      · have p3 : PS (ackM s d mi) U Lf ≤ PS s (U + 1) Lf + 3 := by
          have st := ack_4 (d := d) (mi := mi) hI hs (Int.le_refl 0) (by omega)
          have hI2 := hI
          unfold sdB at hI2
          have gr := grow_g (w := s.1 4) (v := (ackM s d mi).1 4) hI2.2.2.1.1 (by
            rcases st.2.1 with z | z
            · exact Or.inl z
            · exact Or.inr (by have := z.2; omega))
          rw [mW_n hs] at h9
          have := gB_c (wP (s.1 4))
          have f1 : (s.1 5).toNat = ((ackM s d mi).1 5).toNat + 1 := by omega
          rw [PS_n hs, PS_n (e11.trans hs), f1]
          exact pb_ack3 h9 (by omega)
        have p3M := mulL (M := M) (by omega) (show (PS (ackM s d mi) U Lf : Int) ≤ (PS s (U + 1) Lf : Int) + 3 by omega)
        have hG : gLv X (lvl (ackM s d mi)) ≤ gLv X (lvl s) + 1 := by
          have w1 : wP (mW s) ≤ lvl s := by unfold lvl; omega
          unfold gLv
          omega
        have hGM := mulL (M := M) (by omega) (show (gLv X (lvl (ackM s d mi)) : Int) ≤ (gLv X (lvl s) : Int) + 1 by omega)
        omega
      · have hG : gLv X (lvl (ackM s d mi)) ≤ gLv X (lvl s) := by
          unfold gLv
          omega
        have hGM := mulL (M := M) (by omega) (show (gLv X (lvl (ackM s d mi)) : Int) ≤ (gLv X (lvl s) : Int) + 0 by omega)
        omega
  · have te := tE_acks (d := d) (mi := mi) (Lf := Lf) hI hk hs
    have hG : gLv X (lvl (ackM s d mi)) ≤ gLv X (lvl s) := by
      refine gLv_mono ?_
      unfold lvl
      rw [mW_acks hs]
      omega
    have hGM := mulL (M := M) (by omega) (show (gLv X (lvl (ackM s d mi)) : Int) ≤ (gLv X (lvl s) : Int) + 0 by omega)
    omega
end NONN
