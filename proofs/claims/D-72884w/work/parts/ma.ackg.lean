/-! Bounds, general mode: acknowledgments; kT: weight of E (0: no E), flights up to Fm; every acknowledgment has its own weight -/
/-- the numbers: K one more than the range of a negative one, M the scale, A what every acknowledgment brings at least -/
def PCg (K M kT : Int) (A X : Nat) (U1 C1 Z : Int) (C3 w1 Fm : Nat) : Prop :=
  0 < M ∧ 0 ≤ kT ∧ 5 ≤ A ∧ 40 ≤ X ∧ 32 * K < (X : Int) * X - 7 * X + 6 ∧ 3 * (X : Int) + 14 ≤ U1 + 3 * A ∧ 0 ≤ U1 ∧ U1 ≤ C1 ∧ 2 ≤ C1 ∧ C1 + 2 ≤ Z ∧ 3 * (X : Int) + 14 + U1 ≤ Z + 3 * A ∧ 16 * K < ((C3 : Int) + 2) * (w1 + 1 : Nat) ∧ 3 * (C3 : Int) + 2 ≤ C1 + 3 * A ∧ 3 * (C3 : Int) + U1 ≤ Z + 3 * A ∧
  (∀ F : Nat, 15 < F → F ≤ Fm → 3 * (M * ((F : Int) + 4)) + 2 * M + 786432 * (kT * (((w1 : Int) + 1) * ((w1 : Int) + 1))) ≤ 196608 * (kT * (((F : Int) - 2) * ((F : Int) - 2))) + M * C1 + 3 * (M * (A : Int))) ∧
  ∀ F : Nat, 15 < F → F ≤ Fm → 3 * (M * ((F : Int) + 4)) + M * U1 + 786432 * (kT * (((w1 : Int) + 1) * ((w1 : Int) + 1))) ≤ 196608 * (kT * (((F : Int) - 2) * ((F : Int) - 2))) + M * (gLv X F : Int) + M * Z + 3 * (M * (A : Int))
section NONG
variable {s : SdM} {d mi tk : Int} {U Lf : Nat} {M Q kT : Int} {A X : Nat}
/-- not negative: paid by A -/
theorem ackG (hI : sdB tk s) (hk : sW s) (h5 : 1 ≤ s.1 5) (hx : (U + 1) + Lf ≤ (s.1 5).toNat) (hM : 0 < M) (hQ : 0 ≤ Q) (hA : 5 ≤ A) (hX : 9 ≤ X) (hT : 0 ≤ kT) (hMQ : 4194304 * (kT * Q) ≤ M * (A + 1)) (hq : s.1 11 = -1 → 0 ≤ queueM (enterM s d mi) mi ∧ queueM (enterM s d mi) mi ≤ Q + 1) :
    3 * (M * (PS (ackM s d mi) U Lf : Int)) + 3 * (kT * tE (ackM s d mi) Lf) + M * (gLv X (lvl (ackM s d mi)) : Int) ≤ 3 * (M * (PS s (U + 1) Lf : Int)) + 3 * (kT * tE s Lf) + M * (gLv X (lvl s) : Int) + 3 * (M * (A : Int)) := by
  have p5 := ps_ack (d := d) (mi := mi) hI hx hk (fun z => (hq z).1)
  have p5M := mulL (M := M) (by omega) (show (PS (ackM s d mi) U Lf : Int) ≤ (PS s (U + 1) Lf : Int) + 5 by omega)
  have hAM : M * 5 ≤ M * (A : Int) := Int.mul_le_mul_of_nonneg_left (by omega) (by omega)
  have t0 := Int.mul_nonneg hT (tE_0 s Lf)
  have e5 : (ackM s d mi).1 5 = s.1 5 - 1 := ack_5
  have e11 : (ackM s d mi).1 11 = s.1 11 := ack_o (by decide) (by decide) (by decide)
  by_cases hs : s.1 11 = -1
  · have hq := hq hs
    have hl := lvl_ack (d := d) (mi := mi) hI h5 (fun _ => hq.1)
    by_cases hE : 0 < tE (ackM s d mi) Lf
    · have pd := ps_tdrop (U := U) hI hk h5 hE
      have pdM := mulL (M := M) (by omega) (show (PS (ackM s d mi) U Lf : Int) ≤ (PS s (U + 1) Lf : Int) + (-1) by omega)
      by_cases hv : s.1 4 ≤ (ackM s d mi).1 4
      · have te := Int.mul_le_mul_of_nonneg_left (tE_ackg (Lf := Lf) hI hs hv) hT
        have hG : gLv X (lvl (ackM s d mi)) ≤ gLv X (lvl s) + 1 := by
          have w1 : wP (mW s) ≤ lvl s := by unfold lvl; omega
          unfold gLv
          omega
        have hGM := mulL (M := M) (by omega) (show (gLv X (lvl (ackM s d mi)) : Int) ≤ (gLv X (lvl s) : Int) + 1 by omega)
        omega
      · have te := Int.mul_le_mul_of_nonneg_left (tE_ackd (Lf := Lf) hI hs hQ hq.2) hT
        have e4 : kT * (tE s Lf + 4194304 * Q) = kT * tE s Lf + 4194304 * (kT * Q) := by rw [Int.mul_add, Int.mul_left_comm]
        rw [e4] at te
        have hG : gLv X (lvl (ackM s d mi)) ≤ gLv X (lvl s) := by
          refine gLv_mono ?_
          unfold lvl
          rw [mW_n hs, mW_ackn hs]
          unfold wP
          omega
        have hGM := mulL (M := M) (by omega) (show (gLv X (lvl (ackM s d mi)) : Int) ≤ (gLv X (lvl s) : Int) + 0 by omega)
        rw [Int.mul_add] at hMQ
        omega
    · have tz0 : tE (ackM s d mi) Lf = 0 := by have := tE_0 (ackM s d mi) Lf; omega
      have tz : kT * tE (ackM s d mi) Lf = 0 := by rw [tz0, Int.mul_zero]
      by_cases h9 : 9 ≤ wP (mW s)
      · have p3 : PS (ackM s d mi) U Lf ≤ PS s (U + 1) Lf + 3 := by
          have st := ack_4 (d := d) (mi := mi) hI hs (Int.le_refl 0) (by omega)
          have hI2 := hI
          unfold sdB at hI2
          have gr := grow_g (w := s.1 4) (v := (ackM s d mi).1 4) hI2.2.2.1.1 (by
            rcases st.2.1 with z | z
            · exact Or.inl z
            · exact Or.inr (by have := z.2; omega))
          rw [mW_n hs] at h9
          have := gB_c (wP (s.1 4))
          have f1 : (s.1 5).toNat = ((ackM s d mi).1 5).toNat + 1 := by omega
          rw [PS_n hs, PS_n (e11.trans hs), f1]
          exact pb_ack3 h9 (by omega)
        have p3M := mulL (M := M) (by omega) (show (PS (ackM s d mi) U Lf : Int) ≤ (PS s (U + 1) Lf : Int) + 3 by omega)
        have hG : gLv X (lvl (ackM s d mi)) ≤ gLv X (lvl s) + 1 := by
          have w1 : wP (mW s) ≤ lvl s := by unfold lvl; omega
          unfold gLv
          omega
        have hGM := mulL (M := M) (by omega) (show (gLv X (lvl (ackM s d mi)) : Int) ≤ (gLv X (lvl s) : Int) + 1 by omega)
        omega
      · have hG : gLv X (lvl (ackM s d mi)) ≤ gLv X (lvl s) := by
          unfold gLv
          omega
        have hGM := mulL (M := M) (by omega) (show (gLv X (lvl (ackM s d mi)) : Int) ≤ (gLv X (lvl s) : Int) + 0 by omega)
        omega
  · have te := Int.mul_le_mul_of_nonneg_left (tE_acks (d := d) (mi := mi) (Lf := Lf) hI hk hs) hT
    have hG : gLv X (lvl (ackM s d mi)) ≤ gLv X (lvl s) := by
      refine gLv_mono ?_
      unfold lvl
      rw [mW_acks hs]
      omega
    have hGM := mulL (M := M) (by omega) (show (gLv X (lvl (ackM s d mi)) : Int) ≤ (gLv X (lvl s) : Int) + 0 by omega)
    omega
end NONG
/-- E above zero: a negative one against the flight alone -/
theorem pb_negTf {W V f U : Nat} (hf : 15 ≤ f) (hw : 2 * W + 2 ≤ f) (h1 : V ≤ max W (f + 3)) : PB V f U 0 ≤ (f + 1) + (f + 5) := by
  refine PB_le ?_ (by omega) ?_
  · rw [mB_0]
    rcases phB_11 V with q | ⟨q, e⟩ <;> omega
  · intro u
    have := uuB_0 V f
    omega
theorem pb_negT2f {W V f U C w1 : Nat} {K : Int} (hf : 15 ≤ f) (hw : 2 * W + 2 ≤ f) (hw1 : w1 < W) (h2 : ((V : Int) - W - 1) * W ≤ 8 * K) (c2 : 16 * K < ((C : Int) + 2) * (w1 + 1 : Nat)) : PB V f U 0 ≤ (f + 1) + C := by
  refine PB_le ?_ (by omega) ?_
  · rw [mB_0]
    rcases phB_11 V with q | ⟨q, e⟩
    · omega
    · apply Decidable.byContradiction
      intro z
      have hz : (C : Int) + 2 ≤ ((2 * (V - W - 1) : Nat) : Int) := by omega
      refine mul_ctr (e := 2 * (V - W - 1)) (W := W) (w := w1 + 1) (B := 16 * K) (A := (C : Int) + 2) ?_ (by omega) c2 hz (by omega)
      have e1 : ((2 * (V - W - 1) : Nat) : Int) * W = 2 * (((V : Int) - W - 1) * W) := by
        rw [← Int.mul_assoc]
        congr 1
        omega
      omega
  · intro u
    have := uuB_0 V f
    omega
theorem ps_negTf {s : SdM} {d mi tk : Int} {U g C w1 : Nat} (hI : sdB tk s) (hn : s.1 11 = -1) (h5 : 1 ≤ s.1 5) (hq : queueM (enterM s d mi) mi < 0) (hg : - (g : Int) ≤ queueM (enterM s d mi) mi) (c2 : 16 * (1 + (g : Int)) < ((C : Int) + 2) * (w1 + 1 : Nat)) (hE : 0 < tE s 0) : PS (ackM s d mi) U 0 ≤ (s.1 5).toNat + C ∨ (PS (ackM s d mi) U 0 ≤ (s.1 5).toNat + ((s.1 5).toNat + 4) ∧ (256 * (s.1 5 - 2)) * (256 * (s.1 5 - 2)) - (512 * ((w1 : Int) + 1)) * (512 * ((w1 : Int) + 1)) ≤ tE s 0) := by
  obtain ⟨n1, n2, n3, n4, n5⟩ := neg_w hI hn h5 hq hg
  have e11 : (ackM s d mi).1 11 = s.1 11 := ack_o (by decide) (by decide) (by decide)
  have e5 : (ackM s d mi).1 5 = s.1 5 - 1 := ack_5
  have f1 : (s.1 5).toNat = ((ackM s d mi).1 5).toNat + 1 := by omega
  have hI2 := hI
  unfold sdB at hI2
  obtain ⟨f, hf⟩ : ∃ f, ((ackM s d mi).1 5).toNat = f := ⟨_, rfl⟩
  rw [hf] at n3 f1
  rw [PS_n (e11.trans hn), hf]
  have hp := eE_pos (by rw [mW_n hn]; omega) hE
  rw [mW_n hn] at hp
  have p1 := hp.2.1 rfl
  have hw : 2 * wP (s.1 4) + 2 ≤ f := by unfold wP; omega
  by_cases z : w1 < wP (s.1 4)
  · left
    have := pb_negT2f (U := U) (by omega) hw z n5 c2
    omega
  · right
    refine ⟨?_, ?_⟩
    · have := pb_negTf (U := U) (by omega) hw n3
      omega
    · have et : tE s 0 = eE (s.1 4) (s.1 5) 0 := by
        unfold tE
        rw [mW_n hn]
      rw [et, hp.2.2.2, if_pos rfl]
      have := sq_mono (a := 2 * s.1 4) (b := 512 * ((w1 : Int) + 1)) (by omega) (by unfold wP at z; omega)
      omega
/-- the two sides of the potential: A while E does not count, B where E lies above zero -/
def sA (M U1 C1 Z : Int) (X n : Nat) (s : SdM) (U Lf : Nat) : Int := 3 * (M * (PS s U Lf : Int)) + M * uC U1 C1 Z n 0 (gLv X (lvl s))
def sB (M kT U1 C1 Z : Int) (X n : Nat) (s : SdM) (Lf : Nat) : Int := 3 * (M * s.1 5) + 3 * (kT * tE s Lf) + M * uC U1 C1 Z n (tE s Lf) (gLv X (lvl s))
section ACKB
variable {s : SdM} {d mi tk : Int} {U Lf : Nat} {M Q kT : Int} {A X : Nat}
/-- not negative: E above zero behind it -/
theorem ackB (hI : sdB tk s) (hk : sW s) (h5 : 1 ≤ s.1 5) (hM : 0 < M) (hQ : 0 ≤ Q) (hA : 5 ≤ A) (hX : 9 ≤ X) (hT : 0 ≤ kT) (hMQ : 4194304 * (kT * Q) ≤ M * (A + 1)) (hq : s.1 11 = -1 → 0 ≤ queueM (enterM s d mi) mi ∧ queueM (enterM s d mi) mi ≤ Q + 1) (hE : 0 < tE (ackM s d mi) Lf) :
    3 * (M * (s.1 5 - 1)) + 3 * (kT * tE (ackM s d mi) Lf) + M * (gLv X (lvl (ackM s d mi)) : Int) ≤ 3 * (M * s.1 5) + 3 * (kT * tE s Lf) + M * (gLv X (lvl s) : Int) + 3 * (M * (A : Int)) := by
  have hAM : M * 5 ≤ M * (A : Int) := Int.mul_le_mul_of_nonneg_left (by omega) (by omega)
  have e5 : (ackM s d mi).1 5 = s.1 5 - 1 := ack_5
  have eM : M * (s.1 5 - 1) = M * s.1 5 - M := by rw [Int.mul_sub, Int.mul_one]
  rw [eM]
  by_cases hs : s.1 11 = -1
  · have hq := hq hs
    have hl := lvl_ack (d := d) (mi := mi) hI h5 (fun _ => hq.1)
    by_cases hv : s.1 4 ≤ (ackM s d mi).1 4
    · have te := Int.mul_le_mul_of_nonneg_left (tE_ackg (Lf := Lf) hI hs hv) hT
      have hG : gLv X (lvl (ackM s d mi)) ≤ gLv X (lvl s) + 1 := by
        have w1 : wP (mW s) ≤ lvl s := by unfold lvl; omega
        unfold gLv
        omega
      have hGM := mulL (M := M) (by omega) (show (gLv X (lvl (ackM s d mi)) : Int) ≤ (gLv X (lvl s) : Int) + 1 by omega)
      omega
    · have te := Int.mul_le_mul_of_nonneg_left (tE_ackd (Lf := Lf) hI hs hQ hq.2) hT
      have e4 : kT * (tE s Lf + 4194304 * Q) = kT * tE s Lf + 4194304 * (kT * Q) := by rw [Int.mul_add, Int.mul_left_comm]
      rw [e4] at te
      have hG : gLv X (lvl (ackM s d mi)) ≤ gLv X (lvl s) := by
        refine gLv_mono ?_
        unfold lvl
        rw [mW_n hs, mW_ackn hs]
        unfold wP
        omega
      have hGM := mulL (M := M) (by omega) (show (gLv X (lvl (ackM s d mi)) : Int) ≤ (gLv X (lvl s) : Int) + 0 by omega)
      rw [Int.mul_add] at hMQ
      omega
  · have te := Int.mul_le_mul_of_nonneg_left (tE_acks (d := d) (mi := mi) (Lf := Lf) hI hk hs) hT
    have hG : gLv X (lvl (ackM s d mi)) ≤ gLv X (lvl s) := by
      refine gLv_mono ?_
      unfold lvl
      rw [mW_acks hs]
      omega
    have hGM := mulL (M := M) (by omega) (show (gLv X (lvl (ackM s d mi)) : Int) ≤ (gLv X (lvl s) : Int) + 0 by omega)
    omega
end ACKB
section NEGAB
variable {s : SdM} {d mi tk : Int} {U Lf g n2 : Nat} {K M kT U1 C1 Z : Int} {A X C3 w1 Fm : Nat}
/-- negative: E above zero behind it -/
theorem negB (hP : PCg K M kT A X U1 C1 Z C3 w1 Fm) (hI : sdB tk s) (hn : s.1 11 = -1) (h5 : 1 ≤ s.1 5) (hx : (U + 1) + Lf ≤ (s.1 5).toNat) (hq : queueM (enterM s d mi) mi < 0) (hg : - (g : Int) ≤ queueM (enterM s d mi) mi) (hn3 : n2 + 1 ≤ 3) : sB M kT U1 C1 Z X n2 (ackM s d mi) Lf ≤ sB M kT U1 C1 Z X (n2 + 1) s Lf := by
  obtain ⟨c1, cT, c2, c3, c4, c5, c6, c7, c8, c9, c10, c11, c12, c13, c14, c15⟩ := hP
  obtain ⟨p1, p2, p3, p4, p5⟩ := ps_negC hI hn h5 hx hq hg
  have hF : (s.1 5).toNat ≤ lvl s := by unfold lvl; omega
  have hG : gLv X (lvl (ackM s d mi)) ≤ gLv X (lvl s) + 2 := by
    refine gLv_add ?_
    omega
  have hu := uC_neg (U1 := U1) (C1 := C1) (Z := Z) (t := tE s Lf) (t2 := tE (ackM s d mi) Lf) (n := n2 + 1) (n2 := n2) c6 c7 c8 c9 rfl hn3 hG
  have huM := mulL (M := M) (by omega) (show uC U1 C1 Z n2 (tE (ackM s d mi) Lf) (gLv X (lvl (ackM s d mi))) ≤ uC U1 C1 Z (n2 + 1) (tE s Lf) (gLv X (lvl s)) + 0 by omega)
  have tk1 := Int.mul_le_mul_of_nonneg_left p1 cT
  have e5 : (ackM s d mi).1 5 = s.1 5 - 1 := ack_5
  have eM : M * (s.1 5 - 1) = M * s.1 5 - M := by rw [Int.mul_sub, Int.mul_one]
  unfold sB
  rw [e5, eM]
  omega
/-- negative: the side A behind it -/
theorem negA (hP : PCg K M kT A X U1 C1 Z C3 w1 Fm) (hFm : (s.1 5).toNat ≤ Fm) (hI : sdB tk s) (hk : sW s) (hn : s.1 11 = -1) (h5 : 1 ≤ s.1 5) (hx : (U + 1) + Lf ≤ (s.1 5).toNat) (hq : queueM (enterM s d mi) mi < 0) (hg : - (g : Int) ≤ queueM (enterM s d mi) mi) (hgK : 1 + (g : Int) ≤ K) (hn3 : n2 + 1 ≤ 3) : sA M U1 C1 Z X n2 (ackM s d mi) U Lf ≤ sA M U1 C1 Z X (n2 + 1) s (U + 1) Lf + 3 * (M * (A : Int)) ∨ (0 < tE s Lf ∧ sA M U1 C1 Z X n2 (ackM s d mi) U Lf ≤ sB M kT U1 C1 Z X (n2 + 1) s Lf + 3 * (M * (A : Int))) := by
  obtain ⟨c1, cT, c2, c3, c4, c5, c6, c7, c8, c9, c10, c11, c12, c13, c14, c15⟩ := hP
  obtain ⟨p1, p2, p3, p4, p5⟩ := ps_negC hI hn h5 hx hq hg
  have hAM : M * 5 ≤ M * (A : Int) := Int.mul_le_mul_of_nonneg_left (by omega) (by omega)
  have t0 := tE_0 s Lf
  have t1 := tE_0 (ackM s d mi) Lf
  have hF : (s.1 5).toNat ≤ lvl s := by unfold lvl; omega
  have hG : gLv X (lvl (ackM s d mi)) ≤ gLv X (lvl s) + 2 := by
    refine gLv_add ?_
    omega
  have small : (PS (ackM s d mi) U Lf : Int) ≤ (PS s (U + 1) Lf : Int) + 5 → sA M U1 C1 Z X n2 (ackM s d mi) U Lf ≤ sA M U1 C1 Z X (n2 + 1) s (U + 1) Lf + 3 * (M * (A : Int)) := by
    intro hp
    have hpM := mulL (M := M) (by omega) hp
    have hu := uC_neg (U1 := U1) (C1 := C1) (Z := Z) (t := 0) (t2 := 0) (n := n2 + 1) (n2 := n2) c6 c7 c8 c9 rfl hn3 hG
    have huM := mulL (M := M) (by omega) (show uC U1 C1 Z n2 0 (gLv X (lvl (ackM s d mi))) ≤ uC U1 C1 Z (n2 + 1) 0 (gLv X (lvl s)) + 0 by omega)
    unfold sA
    omega
  by_cases hl : 1 ≤ Lf
  · exact Or.inl (small (by have := p3 hl; omega))
  · have hl0 : Lf = 0 := by omega
    subst hl0
    by_cases hE2 : 0 < tE (ackM s d mi) 0
    · have := ps_tdrop (U := U) hI hk h5 hE2
      exact Or.inl (small (by omega))
    · by_cases hE : tE s 0 = 0
      · left
        obtain ⟨c, q1, q2⟩ := ps_neg0 hI hn h5 hx hq hg hgK c3 c4 hE
        have hpM := mulL (M := M) (by omega) (show (PS (ackM s d mi) U 0 : Int) ≤ (PS s (U + 1) 0 : Int) + (c : Int) by omega)
        have hu := uC_0 (U1 := U1) (C1 := C1) (Z := Z) (n2 := n2) (G := gLv X (lvl s)) (G2 := gLv X (lvl (ackM s d mi))) (c := 3 * (c : Int)) (A := 3 * (A : Int)) c6 c7 hn3 hG (by omega) (by omega)
        have huM := Int.mul_le_mul_of_nonneg_left hu (show 0 ≤ M by omega)
        rw [Int.mul_add, Int.mul_add] at huM
        have m1 : M * (3 * (c : Int)) = 3 * (M * (c : Int)) := by rw [← Int.mul_assoc, Int.mul_comm M 3, Int.mul_assoc]
        have m2 : M * (3 * (A : Int)) = 3 * (M * (A : Int)) := by rw [← Int.mul_assoc, Int.mul_comm M 3, Int.mul_assoc]
        unfold sA
        omega
      · right
        have hE3 : 0 < tE s 0 := by omega
        refine ⟨hE3, ?_⟩
        have key := ps_negTf (U := U) (C := C3) (w1 := w1) hI hn h5 hq hg (by omega) hE3
        have e5n : ((s.1 5).toNat : Int) = s.1 5 := by omega
        unfold sA sB
        rcases key with k | ⟨k, ke⟩
        · have hpM := mulL (M := M) (by omega) (show (PS (ackM s d mi) U 0 : Int) ≤ s.1 5 + (C3 : Int) by omega)
          have hu := uC_d (U1 := U1) (C1 := C1) (Z := Z) (n2 := n2) (t := tE s 0) (G := gLv X (lvl s)) (G2 := gLv X (lvl (ackM s d mi))) (c := 3 * (C3 : Int)) (A := 3 * (A : Int)) c6 c7 hE hn3 hG (by omega) (by omega)
          have huM := Int.mul_le_mul_of_nonneg_left hu (show 0 ≤ M by omega)
          rw [Int.mul_add, Int.mul_add] at huM
          have m1 : M * (3 * (C3 : Int)) = 3 * (M * (C3 : Int)) := by rw [← Int.mul_assoc, Int.mul_comm M 3, Int.mul_assoc]
          have m2 : M * (3 * (A : Int)) = 3 * (M * (A : Int)) := by rw [← Int.mul_assoc, Int.mul_comm M 3, Int.mul_assoc]
          have tk0 := Int.mul_nonneg cT t0
          omega
        · have hp := (eE_pos (w := mW s) (f := s.1 5) (Lf := 0) (by have := mW_256 hI hk; omega) hE3).1
          obtain ⟨F, hFF⟩ : ∃ F : Nat, s.1 5 = (F : Int) := ⟨(s.1 5).toNat, by omega⟩
          have eF : (s.1 5).toNat = F := by omega
          rw [eF] at k hF hFm
          rw [hFF] at ke ⊢
          have q1 := c14 F (by omega) (by omega)
          have q2 := c15 F (by omega) (by omega)
          have hGF : gLv X F ≤ gLv X (lvl s) := gLv_mono hF
          have x1 : (256 * ((F : Int) - 2)) * (256 * ((F : Int) - 2)) = 65536 * (((F : Int) - 2) * ((F : Int) - 2)) := by
            rw [Int.mul_assoc, ← Int.mul_assoc ((F : Int) - 2) 256, Int.mul_comm ((F : Int) - 2) 256, Int.mul_assoc 256, ← Int.mul_assoc 256 256]
            rfl
          have x2 : (512 * ((w1 : Int) + 1)) * (512 * ((w1 : Int) + 1)) = 262144 * (((w1 : Int) + 1) * ((w1 : Int) + 1)) := by
            rw [Int.mul_assoc, ← Int.mul_assoc ((w1 : Int) + 1) 512, Int.mul_comm ((w1 : Int) + 1) 512, Int.mul_assoc 512, ← Int.mul_assoc 512 512]
            rfl
          rw [x1, x2] at ke
          have ke := Int.mul_le_mul_of_nonneg_left ke cT
          rw [Int.mul_sub, Int.mul_left_comm kT 65536, Int.mul_left_comm kT 262144] at ke
          have hpM := mulL (M := M) (by omega) (show (PS (ackM s d mi) U 0 : Int) ≤ (F : Int) + ((F : Int) + 4) by omega)
          have hGM := mulL (M := M) (by omega) (show (gLv X F : Int) ≤ (gLv X (lvl s) : Int) + 0 by omega)
          have a := uC_c U1 C1 Z (n2 + 1) (tE s 0) (gLv X (lvl s))
          have b := uC_c U1 C1 Z n2 0 (gLv X (lvl (ackM s d mi)))
          have d1 := uO_c U1 C1 (tE s 0) (gLv X (lvl s))
          have d2 := uO_c U1 C1 0 (gLv X (lvl (ackM s d mi)))
          have hu : uC U1 C1 Z n2 0 (gLv X (lvl (ackM s d mi))) ≤ uC U1 C1 Z (n2 + 1) (tE s 0) (gLv X (lvl s)) + (2 - C1) ∨ uC U1 C1 Z n2 0 (gLv X (lvl (ackM s d mi))) ≤ uC U1 C1 Z (n2 + 1) (tE s 0) (gLv X (lvl s)) + (U1 - Z - gLv X (lvl s)) := by
            omega
          rcases hu with z | z
          · have huM := mulL (M := M) (by omega) z
            rw [Int.mul_sub] at huM
            omega
          · have huM := mulL (M := M) (by omega) z
            rw [Int.mul_sub, Int.mul_sub] at huM
            omega
end NEGAB
