/-! Bounds, mode C: a negative acknowledgment, all cases -/
theorem uC_0 {U1 C1 Z : Int} {n2 : Nat} {G G2 : Nat} {c A : Int} (h0 : 0 ≤ U1) (h1 : U1 ≤ C1) (hn3 : n2 + 1 ≤ 3) (hG : G2 ≤ G + 2) (hc : c + G2 ≤ U1 + A) (hc2 : c + max U1 (G2 + 2) ≤ Z + G + A) : c + uC U1 C1 Z n2 0 G2 ≤ uC U1 C1 Z (n2 + 1) 0 G + A := by
  have a := uC_c U1 C1 Z (n2 + 1) 0 G
  have b := uC_c U1 C1 Z n2 0 G2
  have c1 := uO_c U1 C1 0 G
  have d := uO_c U1 C1 0 G2
  omega
theorem uC_d {U1 C1 Z t : Int} {n2 : Nat} {G G2 : Nat} {c A : Int} (h0 : 0 ≤ U1) (h1 : U1 ≤ C1) (ht : t ≠ 0) (hn3 : n2 + 1 ≤ 3) (hG : G2 ≤ G + 2) (hc : c + 2 ≤ C1 + A) (hc2 : c + max U1 (G2 + 2) ≤ Z + G + A) : c + uC U1 C1 Z n2 0 G2 ≤ uC U1 C1 Z (n2 + 1) t G + A := by
  have a := uC_c U1 C1 Z (n2 + 1) t G
  have b := uC_c U1 C1 Z n2 0 G2
  have c1 := uO_c U1 C1 t G
  have d := uO_c U1 C1 0 G2
  omega
section NEGF
variable {s : SdM} {d mi tk : Int} {U Lf g n2 : Nat} {K M U1 C1 Z : Int} {A X C3 w1 : Nat}
theorem negC (hP : PCs K M A X U1 C1 Z C3 w1) (hI : sdB tk s) (hk : sW s) (hn : s.1 11 = -1) (h5 : 1 ≤ s.1 5) (hx : (U + 1) + Lf ≤ (s.1 5).toNat) (hq : queueM (enterM s d mi) mi < 0) (hg : - (g : Int) ≤ queueM (enterM s d mi) mi) (hgK : 1 + (g : Int) ≤ K) (hn3 : n2 + 1 ≤ 3) :
    3 * (M * (PS (ackM s d mi) U Lf : Int)) + 3 * tE (ackM s d mi) Lf + M * uC U1 C1 Z n2 (tE (ackM s d mi) Lf) (gLv X (lvl (ackM s d mi))) ≤ 3 * (M * (PS s (U + 1) Lf : Int)) + 3 * tE s Lf + M * uC U1 C1 Z (n2 + 1) (tE s Lf) (gLv X (lvl s)) + 3 * (M * (A : Int)) := by
  obtain ⟨c1, c2, c3, c4, c5, c6, c7, c8, c9, c10, c11, c12, c13, c14, c15⟩ := hP
  obtain ⟨p1, p2, p3, p4, p5⟩ := ps_negC hI hn h5 hx hq hg
  have hAM : M * 5 ≤ M * (A : Int) := Int.mul_le_mul_of_nonneg_left (by omega) (by omega)
  have t0 := tE_0 s Lf
  have t1 := tE_0 (ackM s d mi) Lf
  have hF : (s.1 5).toNat ≤ lvl s := by unfold lvl; omega
  have hG : gLv X (lvl (ackM s d mi)) ≤ gLv X (lvl s) + 2 := by
    refine gLv_add ?_
    omega
  -- little cost
  have small : (PS (ackM s d mi) U Lf : Int) ≤ (PS s (U + 1) Lf : Int) + 5 → 3 * (M * (PS (ackM s d mi) U Lf : Int)) + 3 * tE (ackM s d mi) Lf + M * uC U1 C1 Z n2 (tE (ackM s d mi) Lf) (gLv X (lvl (ackM s d mi))) ≤ 3 * (M * (PS s (U + 1) Lf : Int)) + 3 * tE s Lf + M * uC U1 C1 Z (n2 + 1) (tE s Lf) (gLv X (lvl s)) + 3 * (M * (A : Int)) := by
    intro hp
    have hpM := mulL (M := M) (by omega) hp
    have hu := uC_neg (U1 := U1) (C1 := C1) (Z := Z) (t := tE s Lf) (t2 := tE (ackM s d mi) Lf) (n := n2 + 1) (n2 := n2) c6 c7 c8 c9 rfl hn3 hG
    have huM := mulL (M := M) (by omega) (show uC U1 C1 Z n2 (tE (ackM s d mi) Lf) (gLv X (lvl (ackM s d mi))) ≤ uC U1 C1 Z (n2 + 1) (tE s Lf) (gLv X (lvl s)) + 0 by omega)
    omega
  by_cases hl : 1 ≤ Lf
  · exact small (by have := p3 hl; omega)
  · have hl0 : Lf = 0 := by omega
    by_cases hE2 : 0 < tE (ackM s d mi) Lf
    · have := ps_tdrop (U := U) hI hk h5 hE2
      exact small (by omega)
    · have e2 : tE (ackM s d mi) Lf = 0 := by omega
      by_cases hE : tE s Lf = 0
      · subst hl0
        obtain ⟨c, q1, q2⟩ := ps_neg0 hI hn h5 hx hq hg hgK c3 c4 hE
        rw [e2, hE]
        have hpM := mulL (M := M) (by omega) (show (PS (ackM s d mi) U 0 : Int) ≤ (PS s (U + 1) 0 : Int) + (c : Int) by omega)
        have hu := uC_0 (U1 := U1) (C1 := C1) (Z := Z) (n2 := n2) (G := gLv X (lvl s)) (G2 := gLv X (lvl (ackM s d mi))) (c := 3 * (c : Int)) (A := 3 * (A : Int)) c6 c7 hn3 hG (by omega) (by omega)
        have huM := Int.mul_le_mul_of_nonneg_left hu (show 0 ≤ M by omega)
        rw [Int.mul_add, Int.mul_add] at huM
        have m1 : M * (3 * (c : Int)) = 3 * (M * (c : Int)) := by rw [← Int.mul_assoc, Int.mul_comm M 3, Int.mul_assoc]
        have m2 : M * (3 * (A : Int)) = 3 * (M * (A : Int)) := by rw [← Int.mul_assoc, Int.mul_comm M 3, Int.mul_assoc]
        omega
      · have hE3 : 0 < tE s Lf := by omega
        have key := p5 C3 w1 (by omega) hl0 hE3
        rw [e2]
        rcases key with k | ⟨k, ke⟩
        · have hpM := mulL (M := M) (by omega) (show (PS (ackM s d mi) U Lf : Int) ≤ (PS s (U + 1) Lf : Int) + (C3 : Int) by omega)
          have hu := uC_d (U1 := U1) (C1 := C1) (Z := Z) (n2 := n2) (t := tE s Lf) (G := gLv X (lvl s)) (G2 := gLv X (lvl (ackM s d mi))) (c := 3 * (C3 : Int)) (A := 3 * (A : Int)) c6 c7 hE hn3 hG (by omega) (by omega)
          have huM := Int.mul_le_mul_of_nonneg_left hu (show 0 ≤ M by omega)
          rw [Int.mul_add, Int.mul_add] at huM
          have m1 : M * (3 * (C3 : Int)) = 3 * (M * (C3 : Int)) := by rw [← Int.mul_assoc, Int.mul_comm M 3, Int.mul_assoc]
          have m2 : M * (3 * (A : Int)) = 3 * (M * (A : Int)) := by rw [← Int.mul_assoc, Int.mul_comm M 3, Int.mul_assoc]
          omega
        · have hp := (eE_pos (w := mW s) (f := s.1 5) (Lf := Lf) (by have := mW_256 hI hk; omega) hE3).1
          obtain ⟨F, hFF⟩ : ∃ F : Nat, s.1 5 = (F : Int) := ⟨(s.1 5).toNat, by omega⟩
          have eF : (s.1 5).toNat = F := by omega
          rw [eF] at k hF
          rw [hFF] at ke
          have q1 := c14 F (by omega)
          have q2 := c15 F (by omega)
          have hGF : gLv X F ≤ gLv X (lvl s) := gLv_mono hF
          have x1 : (256 * ((F : Int) - 2)) * (256 * ((F : Int) - 2)) = 65536 * (((F : Int) - 2) * ((F : Int) - 2)) := by
            rw [Int.mul_assoc, ← Int.mul_assoc ((F : Int) - 2) 256, Int.mul_comm ((F : Int) - 2) 256, Int.mul_assoc 256, ← Int.mul_assoc 256 256]
            rfl
          have x2 : (512 * ((w1 : Int) + 1)) * (512 * ((w1 : Int) + 1)) = 262144 * (((w1 : Int) + 1) * ((w1 : Int) + 1)) := by
            rw [Int.mul_assoc, ← Int.mul_assoc ((w1 : Int) + 1) 512, Int.mul_comm ((w1 : Int) + 1) 512, Int.mul_assoc 512, ← Int.mul_assoc 512 512]
            rfl
          rw [x1, x2] at ke
          have hpM := mulL (M := M) (by omega) (show (PS (ackM s d mi) U Lf : Int) ≤ (PS s (U + 1) Lf : Int) + ((F : Int) + 4) by omega)
          have hGM := mulL (M := M) (by omega) (show (gLv X F : Int) ≤ (gLv X (lvl s) : Int) + 0 by omega)
          -- the weights
          have a := uC_c U1 C1 Z (n2 + 1) (tE s Lf) (gLv X (lvl s))
          have b := uC_c U1 C1 Z n2 0 (gLv X (lvl (ackM s d mi)))
          have d1 := uO_c U1 C1 (tE s Lf) (gLv X (lvl s))
          have d2 := uO_c U1 C1 0 (gLv X (lvl (ackM s d mi)))
          have hu : uC U1 C1 Z n2 0 (gLv X (lvl (ackM s d mi))) ≤ uC U1 C1 Z (n2 + 1) (tE s Lf) (gLv X (lvl s)) + (2 - C1) ∨ uC U1 C1 Z n2 0 (gLv X (lvl (ackM s d mi))) ≤ uC U1 C1 Z (n2 + 1) (tE s Lf) (gLv X (lvl s)) + (U1 - Z - gLv X (lvl s)) := by
            omega
          rcases hu with z | z
          · have huM := mulL (M := M) (by omega) z
            rw [Int.mul_sub] at huM
            omega
          · have huM := mulL (M := M) (by omega) z
            rw [Int.mul_sub, Int.mul_sub] at huM
            omega
end NEGF
