/-! Bounds, mode C: costs of acknowledgments with queueing below zero -/
theorem phB_11 (V : Nat) : phB V ≤ 11 ∨ (6 ≤ V ∧ phB V = 2 * V) := by
  have := phB_c V
  omega
theorem mul_ctr {e W w : Nat} {B A : Int} (h : (e : Int) * W ≤ B) (hw : w ≤ W) (hA : B < A * w) (hB : A ≤ e) (h0 : 0 ≤ A) : False := by
  have a : A * w ≤ A * W := Int.mul_le_mul_of_nonneg_left (by omega) h0
  have b : A * W ≤ e * W := Int.mul_le_mul_of_nonneg_right hB (by omega)
  omega
/-- E zero: the flight not above two windows -/
theorem pb_negX {W V f U X w2 : Nat} {K : Int} (hf : f ≤ 15 ∨ f ≤ 2 * W + 2) (h1 : V ≤ max W (f + 3)) (h2 : ((V : Int) - W - 1) * W ≤ 8 * K) (c1 : 2 * w2 + 8 ≤ X) (c2 : 16 * K < ((X : Int) - 2) * (w2 + 1 : Nat)) (c3 : 24 ≤ X) : PB V f U 0 ≤ PB W (f + 1) (U + 1) 0 + X := by
  have a1 := PB_1 W (f + 1) (U + 1) 0
  have a2 := PB_2 W (f + 1) (U + 1) 0
  rw [mB_0] at a1
  have b1 := phB_2 W
  refine PB_le ?_ (by omega) ?_
  · rw [mB_0]
    rcases phB_11 V with q | ⟨q, e⟩
    · omega
    · by_cases hv : V ≤ W
      · have := phB_m hv
        omega
      · by_cases hw : W ≤ w2
        · omega
        · apply Decidable.byContradiction
          intro z
          have hz : (X : Int) - 2 ≤ ((2 * (V - W - 1) : Nat) : Int) := by omega
          refine mul_ctr (e := 2 * (V - W - 1)) (W := W) (w := w2 + 1) (B := 16 * K) (A := (X : Int) - 2) ?_ (by omega) c2 hz (by omega)
          have e1 : ((2 * (V - W - 1) : Nat) : Int) * W = 2 * (((V : Int) - W - 1) * W) := by
            rw [← Int.mul_assoc]
            congr 1
            omega
          omega
  · intro u
    have := uuB_0 V f
    omega
/-- E above zero -/
theorem pb_negT {W V f U : Nat} (hf : 15 ≤ f) (hw : 2 * W + 2 ≤ f) (h1 : V ≤ max W (f + 3)) : PB V f U 0 ≤ PB W (f + 1) (U + 1) 0 + (f + 5) := by
  have a2 := PB_2 W (f + 1) (U + 1) 0
  refine PB_le ?_ (by omega) ?_
  · rw [mB_0]
    rcases phB_11 V with q | ⟨q, e⟩ <;> omega
  · intro u
    have := uuB_0 V f
    omega
theorem pb_negT2 {W V f U C w1 : Nat} {K : Int} (hf : 15 ≤ f) (hw : 2 * W + 2 ≤ f) (hw1 : w1 < W) (h2 : ((V : Int) - W - 1) * W ≤ 8 * K) (c2 : 16 * K < ((C : Int) + 2) * (w1 + 1 : Nat)) : PB V f U 0 ≤ PB W (f + 1) (U + 1) 0 + C := by
  have a2 := PB_2 W (f + 1) (U + 1) 0
  refine PB_le ?_ (by omega) ?_
  · rw [mB_0]
    rcases phB_11 V with q | ⟨q, e⟩
    · omega
    · apply Decidable.byContradiction
      intro z
      have hz : (C : Int) + 2 ≤ ((2 * (V - W - 1) : Nat) : Int) := by omega
      refine mul_ctr (e := 2 * (V - W - 1)) (W := W) (w := w1 + 1) (B := 16 * K) (A := (C : Int) + 2) ?_ (by omega) c2 hz (by omega)
      have e1 : ((2 * (V - W - 1) : Nat) : Int) * W = 2 * (((V : Int) - W - 1) * W) := by
        rw [← Int.mul_assoc]
        congr 1
        omega
      omega
  · intro u
    have := uuB_0 V f
    omega
/-- level of a sender -/
def lvl (s : SdM) : Nat := max (wP (mW s)) (s.1 5).toNat
section NEGC
variable {s : SdM} {d mi tk : Int} {U Lf g : Nat}
theorem ps_negC (hI : sdB tk s) (hn : s.1 11 = -1) (h5 : 1 ≤ s.1 5) (hx : (U + 1) + Lf ≤ (s.1 5).toNat) (hq : queueM (enterM s d mi) mi < 0) (hg : - (g : Int) ≤ queueM (enterM s d mi) mi) :
    tE (ackM s d mi) Lf ≤ tE s Lf ∧ lvl (ackM s d mi) ≤ max (lvl s) ((s.1 5).toNat + 2) ∧ (1 ≤ Lf → PS (ackM s d mi) U Lf ≤ PS s (U + 1) Lf + 5) ∧
    (∀ X w2 : Nat, 2 * w2 + 8 ≤ X → 16 * (1 + (g : Int)) < ((X : Int) - 2) * (w2 + 1 : Nat) → 24 ≤ X → Lf = 0 → tE s Lf = 0 → PS (ackM s d mi) U Lf ≤ PS s (U + 1) Lf + X) ∧
    (∀ C w1 : Nat, 16 * (1 + (g : Int)) < ((C : Int) + 2) * (w1 + 1 : Nat) → Lf = 0 → 0 < tE s Lf → PS (ackM s d mi) U Lf ≤ PS s (U + 1) Lf + C ∨ (PS (ackM s d mi) U Lf ≤ PS s (U + 1) Lf + ((s.1 5).toNat + 4) ∧ (256 * (s.1 5 - 2)) * (256 * (s.1 5 - 2)) - (512 * ((w1 : Int) + 1)) * (512 * ((w1 : Int) + 1)) ≤ tE s Lf)) := by
  have nw := neg_w hI hn h5 hq hg
  obtain ⟨n1, n2, n3, n4, n5⟩ := nw
  have e11 : (ackM s d mi).1 11 = s.1 11 := ack_o (by decide) (by decide) (by decide)
  have e5 : (ackM s d mi).1 5 = s.1 5 - 1 := ack_5
  have f1 : (s.1 5).toNat = ((ackM s d mi).1 5).toNat + 1 := by omega
  have hI2 := hI
  unfold sdB at hI2
  obtain ⟨f, hf⟩ : ∃ f, ((ackM s d mi).1 5).toNat = f := ⟨_, rfl⟩
  rw [hf] at n3 f1
  refine ⟨tE_ackg hI hn n1, ?_, ?_, ?_, ?_⟩
  · unfold lvl
    rw [mW_n hn, mW_ackn hn, hf, f1]
    omega
  · intro hl
    rw [PS_n hn, PS_n (e11.trans hn), hf, f1]
    rw [f1] at hx
    exact pb_negF hl hx n2 n3
  · intro X w2 c1 c2 c3 hl hE
    subst hl
    rw [PS_n hn, PS_n (e11.trans hn), hf, f1]
    have hz := eE_z (by rw [mW_n hn]; omega) hE
    rw [mW_n hn] at hz
    refine pb_negX (w2 := w2) (K := 1 + (g : Int)) ?_ n3 n5 c1 c2 c3
    unfold wP
    omega
  · intro C w1 c2 hl hE
    subst hl
    rw [PS_n hn, PS_n (e11.trans hn), hf, f1]
    have hp := eE_pos (by rw [mW_n hn]; omega) hE
    rw [mW_n hn] at hp
    have p1 := hp.2.1 rfl
    have hw : 2 * wP (s.1 4) + 2 ≤ f := by unfold wP; omega
    by_cases z : w1 < wP (s.1 4)
    · exact Or.inl (pb_negT2 (by omega) hw z n5 c2)
    · right
      refine ⟨?_, ?_⟩
      · have := pb_negT (U := U) (by omega) hw n3
        omega
      · have et : tE s 0 = eE (s.1 4) (s.1 5) 0 := by
          unfold tE
          rw [mW_n hn]
        rw [et, hp.2.2.2, if_pos rfl]
        have := sq_mono (a := 2 * s.1 4) (b := 512 * ((w1 : Int) + 1)) (by omega) (by unfold wP at z; omega)
        omega
/-- levels at the other acknowledgments -/
theorem lvl_ack (hI : sdB tk s) (h5 : 1 ≤ s.1 5) (hq : s.1 11 = -1 → 0 ≤ queueM (enterM s d mi) mi) : lvl (ackM s d mi) ≤ max (lvl s) (max 9 (wP (mW s) + 1)) := by
  have e5 : (ackM s d mi).1 5 = s.1 5 - 1 := ack_5
  unfold lvl
  by_cases q : s.1 11 = -1
  · have st := ack_4 (d := d) (mi := mi) hI q (Int.le_refl 0) (by have := hq q; omega)
    unfold sdB at hI
    have gr := grow_g (w := s.1 4) (v := (ackM s d mi).1 4) hI.2.2.1.1 (by
      rcases st.2.1 with z | z
      · exact Or.inl z
      · exact Or.inr (by have := z.2; omega))
    rw [mW_n q, mW_ackn q]
    have := gB_c (wP (s.1 4))
    omega
  · rw [mW_acks q]
    omega
end NEGC
