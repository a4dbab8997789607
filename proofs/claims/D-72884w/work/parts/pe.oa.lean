/-! Bounds, ledger by ages: the potential of a sender's level -/
/-- Rm: the longest way to the server and back -/
def AgR (Rm now th ed : Int) (s : SdM) (l : List NtM) : Prop := th ≤ now ∧ (∀ n ∈ l, n.1 ≤ now + Rm) ∧ (∀ n ∈ l, ¬ isA n → n.2.2.2 < s.1 9 → n.1 ≤ th + Rm) ∧ (1 ≤ lFl (s.1 9) l → ed ≤ now + Rm ∧ ∃ n ∈ l, ¬ isA n ∧ s.1 9 ≤ n.2.2.2 ∧ n.1 ≤ ed)
def rmR (Rm now th ed : Int) (Lf : Nat) : Int := if 1 ≤ Lf then ed - now else Rm + max 0 (th + Rm + 62 - now)
def OA (kk cS : Nat → Int) (W kp J1 de gr Rm now th ed tq jg : Int) (i : Nat) (v : SV) (L : List EnF) : Int := 25 * lvL (kk i) kp J1 v.1 (vF v) + PT cS W now tq jg L + de * rmR Rm now th ed (vF v) + 25 * (gr * (aNl v.2.2 : Int))
/-- the numbers of a ledger by ages -/
def LR (kk cS : Nat → Int) (W kp J1 B w1 w2 Wm F0 z H0 e0 gr w3 Q de Fc Rm : Int) : Prop :=
  LPn (kk 0) kp J1 B w1 w2 Wm F0 z H0 e0 ∧ kk 0 * kp + 4 * (w1 * w1) ≤ (F0 - 512) * (F0 - 512) ∧ 8388608 * Q + 4 * (w1 * w1) < (F0 - 512) * (F0 - 512) ∧ 67328 ≤ F0 ∧ (∀ i j : Nat, i ≤ j → j ≤ 5 → kk i ≤ kk j) ∧ (∀ i : Nat, i ≤ 4 → 4194304 * (200 * (i : Int) + 199) ≤ 242 * kk i) ∧ 4194304 * Q ≤ 242 * kk 5 ∧ CSP cS ∧ 0 ≤ W ∧ (∀ (i : Nat) (t : Int), i ≤ 5 → 0 ≤ t → t ≤ Fc * Fc → 25 * (t / kk 0) ≤ 25 * (t / kk i) + cvI cS W i) ∧ 524288 * (1 + Q) ≤ B ∧ 0 ≤ Q ∧ 0 ≤ gr ∧ 0 ≤ w3 ∧ 524288 < (gr + 1) * (w3 + 1) ∧ w3 + 2048 + kp ≤ H0 ∧ 0 ≤ de ∧ de * (2 * Rm + 62) ≤ 25 * (kp + 256) ∧ 1 ≤ Rm ∧ Rm ≤ 200
def bmA (cS : Nat → Int) (H0 de gr Rm : Int) : Int := 25 * H0 + 51072 + cS 4 + de * (2 * Rm + 62) + 5000 * gr
/-- while notices of now come in: where a window that counts may be great -/
def MIX (t th ts Rm : Int) (v : SV) : Prop := (v.1.1 11 ≠ -1 → v.1.1 11 ≤ t + 60 ∧ (1 ≤ vF v ∨ v.1.1 11 ≤ th + Rm + 62 ∨ mW v.1 ≤ 67328)) ∧ (v.1.1 11 = -1 → 1 ≤ vF v ∨ t ≤ th + Rm + 2 ∨ (mW v.1 ≤ 67328 ∧ v.1.1 5 ≤ 261)) ∧ (t ≤ ts + 200 ∨ v.1.1 5 ≤ 261)
theorem PT_le {cS : Nat → Int} {W now tq jg : Int} {i : Nat} {L : List EnF} {ka tq2 T0 : Int} {fa : Int → Int} {f : Int → Option Int} {la : List Int} (hc : CSP cS) (hS : SF now ka tq2 T0 L fa f la) (h : IX now tq jg i L) : PT cS W now tq jg L ≤ 51072 + cS 4 + W * wcP now tq jg := by
  obtain ⟨c0, c1, c2, c3, c4, -, -, -⟩ := hc
  obtain ⟨x1, x2, x3, x4, x5, x6, x7⟩ := h
  obtain ⟨b0, b1, b2⟩ := mn_le hS
  have g := ag_4 x7
  have j := jx_rng x7
  have ca : cS (agP now jg) ≤ cS 4 := by
    have : agP now jg = 0 ∨ agP now jg = 1 ∨ agP now jg = 2 ∨ agP now jg = 3 ∨ agP now jg = 4 := by omega
    rcases this with e | e | e | e | e <;> rw [e] <;> omega
  have n3 := nv_3 (now := now) (jg := jg) (L := L)
  unfold PT
  by_cases q : mn0 now L < jxP now jg
  · have := x5 q
    have e : agP now jg = 0 := by omega
    rw [e]
    omega
  · have : nvP now jg L ≤ 2 := by
      unfold nvP
      rw [if_neg q]
      split <;> split <;> omega
    omega
theorem wc_mono {now tq jg jg2 : Int} (h : jg ≤ jg2) : wcP now tq jg2 ≤ wcP now tq jg := by
  unfold wcP jxP
  omega
theorem wc_nxt {now tq jg : Int} : wcP (now + 1) tq jg ≤ wcP now tq jg := by
  unfold wcP jxP
  omega
theorem jgN_ge {now jg : Int} {L : List EnF} (h : jg ≤ now / 200) : jg ≤ jgN now jg L := by
  unfold jgN
  split <;> omega
theorem rmR_le {Rm now th ed : Int} {s : SdM} {o : List Int} {l : List NtM} (h : AgR Rm now th ed s l) (hR : 1 ≤ Rm) : rmR Rm now th ed (vF (s, o, l)) ≤ 2 * Rm + 62 := by
  unfold rmR
  split
  · rename_i q
    have := (h.2.2.2 q).1
    omega
  · have := h.1
    omega
theorem rmR_0 {Rm now th ed : Int} {s : SdM} {o : List Int} {l : List NtM} (h : AgR Rm now th ed s l) (hl : ∀ a ∈ l, now ≤ a.1) (hR : 1 ≤ Rm) : 0 ≤ rmR Rm now th ed (vF (s, o, l)) := by
  unfold rmR
  split
  · rename_i q
    obtain ⟨-, n, hn, -, -, h4⟩ := h.2.2.2 q
    have := hl n hn
    omega
  · omega
section AGR
variable {Rm now th ed : Int} {s : SdM} {o : List Int} {l l1 l2 : List NtM} {n : NtM}
theorem AgR.stale (h : AgR Rm now th ed s (l1 ++ n :: l2)) (hn : ¬ isA n) (y : n.2.2.2 < s.1 9) : AgR Rm now th ed (lostM s n.2.2.2) (l1 ++ l2) := by
  obtain ⟨a1, a2, a3, a4⟩ := h
  refine ⟨a1, fun b hb => a2 b (mid_mem hb), fun b hb => ?_, fun q => ?_⟩
  · rw [lost_9s y]
    exact a3 b (mid_mem hb)
  · rw [lost_9s y] at q ⊢
    have q2 : 1 ≤ lFl (s.1 9) (l1 ++ n :: l2) := by
      rw [lFl_mid]
      omega
    obtain ⟨b1, m, hm, b2, b3, b4⟩ := a4 q2
    refine ⟨b1, m, ?_, b2, b3, b4⟩
    rcases List.mem_append.mp hm with w | w
    · exact List.mem_append_left _ w
    · rcases List.mem_cons.mp w with x | x
      · rw [x] at b3
        omega
      · exact List.mem_append_right _ x
theorem AgR.fresh (h : AgR Rm now th ed s (l1 ++ n :: l2)) (hF : FI (s, o, l1 ++ n :: l2)) (y : ¬ n.2.2.2 < s.1 9) : AgR Rm now now ed (lostM s n.2.2.2) (l1 ++ l2) := by
  obtain ⟨a1, a2, a3, a4⟩ := h
  refine ⟨Int.le_refl _, fun b hb => a2 b (mid_mem hb), fun b hb _ _ => a2 b (mid_mem hb), fun q => ?_⟩
  have : lFl ((lostM s n.2.2.2).1 9) (l1 ++ l2) = 0 := by
    rw [lost_9f y]
    exact lFl_0 (fun a ha hz => hF.2.2 a (mid_mem ha) hz)
  omega
theorem AgR.ack {d mi : Int} (h : AgR Rm now th ed s (l1 ++ n :: l2)) (hn : isA n) : AgR Rm now th ed (ackM s d mi) (l1 ++ l2) := by
  have e9 : (ackM s d mi).1 9 = s.1 9 := ack_o (by decide) (by decide) (by decide)
  obtain ⟨a1, a2, a3, a4⟩ := h
  refine ⟨a1, fun b hb => a2 b (mid_mem hb), fun b hb => ?_, fun q => ?_⟩
  · rw [e9]
    exact a3 b (mid_mem hb)
  · rw [e9] at q ⊢
    have q2 : 1 ≤ lFl (s.1 9) (l1 ++ n :: l2) := by
      rw [lFl_mid]
      omega
    obtain ⟨b1, m, hm, b2, b3, b4⟩ := a4 q2
    refine ⟨b1, m, ?_, b2, b3, b4⟩
    rcases List.mem_append.mp hm with w | w
    · exact List.mem_append_left _ w
    · rcases List.mem_cons.mp w with x | x
      · rw [x] at b2
        exact absurd hn b2
      · exact List.mem_append_right _ x
end AGR
section OAE
variable {now c dl tq R lo hi jg ts D th ed : Int} {i : Nat} {s : SdM} {o : List Int} {l l1 l2 : List NtM} {n : NtM} {g : Gh} {kk cS : Nat → Int} {W kp J1 B w1 w2 Wm F0 z H0 e0 gr w3 Q de Fc Rm : Int}
theorem LR.sc (hP : LR kk cS W kp J1 B w1 w2 Wm F0 z H0 e0 gr w3 Q de Fc Rm) (h : i ≤ 5) : LPn (kk i) kp J1 B w1 w2 Wm F0 z H0 e0 := hP.1.up (hP.2.2.2.2.1 0 i (Nat.zero_le _) h)
theorem oa_low (hP : LR kk cS W kp J1 B w1 w2 Wm F0 z H0 e0 gr w3 Q de Fc Rm) {v : SV} {L : List EnF} (hl : lvL (kk i) kp J1 v.1 (vF v) ≤ H0) (hT : PT cS W now tq jg L ≤ 51072 + cS 4 + W * wcP now tq jg) (hr : rmR Rm now th ed (vF v) ≤ 2 * Rm + 62) (ha : aNl v.2.2 ≤ 200) : OA kk cS W kp J1 de gr Rm now th ed tq jg i v L ≤ bmA cS H0 de gr Rm + W * wcP now tq jg := by
  obtain ⟨-, -, -, -, -, -, -, -, -, -, -, -, hg, -, -, -, hd, -, -, -⟩ := hP
  have a1 := Int.mul_le_mul_of_nonneg_left hr hd
  have a2 : gr * (aNl v.2.2 : Int) ≤ gr * 200 := Int.mul_le_mul_of_nonneg_left (by omega) hg
  unfold OA bmA
  omega
theorem OA.stale (hP : LR kk cS W kp J1 B w1 w2 Wm F0 z H0 e0 gr w3 Q de Fc Rm) (h : CA now c dl tq R lo hi jg ts D i s o (l1 ++ n :: l2) g) (hn : ¬ isA n) (y : n.2.2.2 < s.1 9) : OA kk cS W kp J1 de gr Rm now th ed tq jg i (lostM s n.2.2.2, o, l1 ++ l2) g.2.1 ≤ OA kk cS W kp J1 de gr Rm now th ed tq jg i (s, o, l1 ++ n :: l2) g.2.1 := by
  have e := vF_stale (o := o) (l1 := l1) (l2 := l2) y
  have hlv := lw_stale (Lf := vF (s, o, l1 ++ n :: l2)) (hP.sc h.2.2.2.1.2.1) h.1.2.2.2.2 h.1.2.2.2.1 y
  have ea : aNl (l1 ++ n :: l2) = aNl (l1 ++ l2) := by
    have z : ¬ n.2.2.1 = 0 := hn
    rw [aNl_mid, if_neg z]
    rfl
  unfold OA
  rw [← e]
  dsimp only
  rw [ea]
  omega
theorem OA.fresh (hP : LR kk cS W kp J1 B w1 w2 Wm F0 z H0 e0 gr w3 Q de Fc Rm) (h : CA now c dl tq R lo hi jg ts D i s o (l1 ++ n :: l2) g) (hA : AgR Rm now th ed s (l1 ++ n :: l2)) (hn : ¬ isA n) (y : ¬ n.2.2.2 < s.1 9) (hl : ∀ a ∈ l1 ++ n :: l2, now ≤ a.1) (ha : aNl (l1 ++ l2) ≤ 200) : OA kk cS W kp J1 de gr Rm now now ed tq jg i (lostM s n.2.2.2, o, l1 ++ l2) g.2.1 ≤ max (OA kk cS W kp J1 de gr Rm now th ed tq jg i (s, o, l1 ++ n :: l2) g.2.1) (bmA cS H0 de gr Rm + W * wcP now tq jg) := by
  have hP' := hP
  have q := vF_fresh h.1.1 hn y
  have hF1 := fl_mid h.1.1
  have hlv := lw_fresh (Lf := lFl (s.1 9) (l1 ++ l2)) (hP.sc h.2.2.2.1.2.1) h.1.2.2.2.2 h.1.2.2.2.1 (show 1 ≤ s.1 5 by omega) y
  obtain ⟨p1, p2, p3, p4, p5, p6, p7, hc, hW, p10, p11, p12, hg, p14, p15, p16, hd, hr, hR1, hR2⟩ := hP
  have r0 := rmR_0 (o := o) hA hl hR1
  have hT := PT_le (W := W) hc h.1.2.2.1 h.2.2.2.1
  have ea : aNl (l1 ++ n :: l2) = aNl (l1 ++ l2) := by
    have z : ¬ n.2.2.1 = 0 := hn
    rw [aNl_mid, if_neg z]
    rfl
  have hr0 : 0 ≤ de * rmR Rm now th ed (vF (s, o, l1 ++ n :: l2)) := Int.mul_nonneg hd r0
  have er : rmR Rm now now ed 0 = 2 * Rm + 62 := by
    unfold rmR
    rw [if_neg (by omega)]
    omega
  rcases (show lvL (kk i) kp J1 (lostM s n.2.2.2) 0 ≤ H0 ∨ lvL (kk i) kp J1 (lostM s n.2.2.2) 0 ≤ lvL (kk i) kp J1 s (lFl (s.1 9) (l1 ++ l2) + 1) - kp - 256 by omega) with w | w
  · have := oa_low (now := now) (tq := tq) (jg := jg) (th := now) (ed := ed) (i := i) (v := (lostM s n.2.2.2, o, l1 ++ l2)) hP' (by rw [q.1]; exact w) hT (by rw [q.1, er]; exact Int.le_refl _) ha
    omega
  · unfold OA at *
    rw [q.1, er]
    rw [q.2] at hr0 ⊢
    dsimp only
    rw [ea]
    omega
/-- an acknowledgment of now -/
theorem OA.ack (hP : LR kk cS W kp J1 B w1 w2 Wm F0 z H0 e0 gr w3 Q de Fc Rm) (h : CA now c dl tq R lo hi jg ts D i s o (l1 ++ n :: l2) g) (hA : AgR Rm now th ed s (l1 ++ n :: l2)) (hM : MIX now th ts Rm (s, o, l1 ++ n :: l2)) (hn : isA n) (ht : n.1 = now) (hQ : hi - lo ≤ Q) (hD : D = 4194304 * Q) (ha : aNl (l1 ++ l2) ≤ 200) : OA kk cS W kp J1 de gr Rm now th ed tq jg (ixP now tq jg i g.2.1) (ackM s n.2.2.2 (now / 200), o, l1 ++ l2) (stepG tq T0C now s.2.1 g n).2.1 ≤ max (OA kk cS W kp J1 de gr Rm now th ed tq jg i (s, o, l1 ++ n :: l2) g.2.1) (bmA cS H0 de gr Rm + W * wcP now tq jg) := by
  have hP' := hP
  obtain ⟨hV, hR, hJ, hX, t1, t2, t3⟩ := h
  have hI := hV.2.2.2.2
  have hk := hV.2.2.2.1
  have hS := hV.2.2.1
  have hst := (hV.stor hn ht).1
  have rq := hR.q hn
  have hF1 := fl_mid hV.1
  obtain ⟨eu, ef⟩ := ack_uf (s := s) (o := o) (l1 := l1) (l2 := l2) (mi := now / 200) hn
  have eg : stepG tq T0C now s.2.1 g n = (kaN tq now g.1 n, ackL tq T0C now n.2.2.2 g.2.1, ackF tq T0C now s.2.1 g.2.2) := if_pos ⟨ht, hn⟩
  have hA2 := hA.ack (d := n.2.2.2) (mi := now / 200) hn
  have hX2 := hX.ack (tq := tq) (T0 := T0C) (d := n.2.2.2) hS
  rw [eg] at hst ⊢
  dsimp only at hst ⊢
  obtain ⟨p1, p2, p3, p4, p5, p6, p7, hc, hW, p10, p11, p12, hg, p14, p15, p16, hd, hr, hR1, hR2⟩ := hP
  have r2 := rmR_le (o := o) hA2 hR1
  have hn1 := nv_ack (now := now) (tq := tq) (T0 := T0C) (d := n.2.2.2) (L := g.2.1) hX.2.2.2.2.2.2
  have hT2 := PT_le (W := W) hc hst hX2
  have ea : aNl (l1 ++ n :: l2) = aNl (l1 ++ l2) + 1 := by
    have z : n.2.2.1 = 0 := hn
    rw [aNl_mid, if_pos z]
  have ega : gr * (aNl (l1 ++ n :: l2) : Int) = gr * (aNl (l1 ++ l2) : Int) + gr := by
    rw [ea]
    push_cast
    rw [Int.mul_add, Int.mul_one]
  have h5 : 1 ≤ s.1 5 := by omega
  have jr := jx_rng hX.2.2.2.2.2.2
  have ag := ag_4 hX.2.2.2.2.2.2
  have i5 := hX.2.1
  have i52 := hX2.2.1
  -- the scale does not fall
  have hup : kk i ≤ kk (ixP now tq jg i g.2.1) := by
    refine p5 _ _ ?_ i52
    unfold ixP
    split
    · exact Nat.le_refl _
    · split
      · rename_i _ y
        have i4 : i ≤ 4 := by
          apply Decidable.byContradiction
          intro x
          have := hX.2.2.2.1 (by omega)
          omega
        have := hX.2.2.1 i4
        unfold jxP at *
        omega
      · exact i5
  have hK0 : 0 < kk i := (hP'.sc i5).1
  have main : ∀ e : Int, lvL (kk (ixP now tq jg i g.2.1)) kp J1 (ackM s n.2.2.2 (now / 200)) (vF (ackM s n.2.2.2 (now / 200), o, l1 ++ l2)) ≤ max (lvL (kk i) kp J1 s (vF (ackM s n.2.2.2 (now / 200), o, l1 ++ l2)) + e) H0 → 25 * e ≤ 12800 * (if mn2 now g.2.1 < jxP now jg then 1 else 0) + 25 * gr → OA kk cS W kp J1 de gr Rm now th ed tq jg (ixP now tq jg i g.2.1) (ackM s n.2.2.2 (now / 200), o, l1 ++ l2) (ackL tq T0C now n.2.2.2 g.2.1) ≤ max (OA kk cS W kp J1 de gr Rm now th ed tq jg i (s, o, l1 ++ n :: l2) g.2.1) (bmA cS H0 de gr Rm + W * wcP now tq jg) := by
    intro e k1 k2
    rcases (show lvL (kk (ixP now tq jg i g.2.1)) kp J1 (ackM s n.2.2.2 (now / 200)) (vF (ackM s n.2.2.2 (now / 200), o, l1 ++ l2)) ≤ H0 ∨ lvL (kk (ixP now tq jg i g.2.1)) kp J1 (ackM s n.2.2.2 (now / 200)) (vF (ackM s n.2.2.2 (now / 200), o, l1 ++ l2)) ≤ lvL (kk i) kp J1 s (vF (ackM s n.2.2.2 (now / 200), o, l1 ++ l2)) + e by omega) with w | w
    · have := oa_low (now := now) (tq := tq) (jg := jg) (th := th) (ed := ed) (v := (ackM s n.2.2.2 (now / 200), o, l1 ++ l2)) hP' w hT2 r2 ha
      omega
    · unfold OA PT
      rw [ef, hn1]
      dsimp only
      rw [ega]
      split at k2
      · rw [if_pos ‹_›]
        omega
      · rw [if_neg ‹_›]
        omega
  have m0 : (0 : Int) ≤ 12800 * (if mn2 now g.2.1 < jxP now jg then 1 else 0) := by
    split <;> omega
  by_cases hs : s.1 11 = -1
  · by_cases hm : mn2 now g.2.1 < jxP now jg
    · have ei : ixP now tq jg i g.2.1 = i := by
        unfold ixP
        rw [if_pos hm]
      have hq0 := q_perm (d := n.2.2.2) hJ hS hm
      rw [ei] at main ⊢
      by_cases hneg : queueM (enterM s n.2.2.2 (now / 200)) (now / 200) < 0
      · refine main 512 (lw_neg (g := (hi - lo).toNat) (hP'.sc i5) hI hs h5 hneg (by omega) ?_ ?_) (by rw [if_pos hm]; omega)
        · have : 524288 * (1 + ((hi - lo).toNat : Int)) ≤ 524288 * (1 + Q) := by omega
          omega
        · intro hl hF hw
          have hI' := hI
          unfold sdB at hI'
          have hde := tE_deep (Lf := vF (ackM s n.2.2.2 (now / 200), o, l1 ++ l2)) hs (by omega) hl (by omega) hF hw
          by_cases hj : mn2 now g.2.1 < jg
          · have i0 := hX.1 hj
            rw [i0]
            exact dv_ge p1.1 (by omega)
          · exfalso
            have h200 : now ≤ ts + 200 := by
              rcases hM.2.2 with q | q
              · exact q
              · dsimp only at q
                omega
            have tmn := tm_mn (now := now) (L := g.2.1)
            have hlt : tm2 now g.2.1 < ts := by
              unfold jxP at *
              omega
            rcases t3 with q | q
            · have en : ndP now ts g.2.1 ≤ 2 := by
                unfold ndP
                rw [if_neg (show ¬ ts ≤ tm2 now g.2.1 by omega)]
                split <;> split <;> omega
              have hD0 : 0 ≤ D := by omega
              have em : D * ndP now ts g.2.1 ≤ D * 2 := Int.mul_le_mul_of_nonneg_left en hD0
              have e9 : lFl (s.1 9) (l1 ++ n :: l2) = vF (ackM s n.2.2.2 (now / 200), o, l1 ++ l2) := ef
              rw [e9] at q
              omega
            · omega
      · exact main gr (lw_pos (Q := 0) (hP'.sc i5) hI hs (Int.le_refl _) (by omega) (by omega) hg p14 p15 p16) (by omega)
    · have hneg : ¬ queueM (enterM s n.2.2.2 (now / 200)) (now / 200) < 0 := fun q => hm (neg_j hJ hS hst q)
      have hlu := lw_up (kp := kp) (J1 := J1) (s := s) (Lf := vF (ackM s n.2.2.2 (now / 200), o, l1 ++ l2)) hK0 hup
      have fin : ∀ Q2 : Int, 0 ≤ Q2 → 4194304 * Q2 ≤ 242 * kk (ixP now tq jg i g.2.1) → queueM (enterM s n.2.2.2 (now / 200)) (now / 200) ≤ Q2 + 1 → OA kk cS W kp J1 de gr Rm now th ed tq jg (ixP now tq jg i g.2.1) (ackM s n.2.2.2 (now / 200), o, l1 ++ l2) (ackL tq T0C now n.2.2.2 g.2.1) ≤ max (OA kk cS W kp J1 de gr Rm now th ed tq jg i (s, o, l1 ++ n :: l2) g.2.1) (bmA cS H0 de gr Rm + W * wcP now tq jg) := by
        intro Q2 q1 q2 q3
        have := lw_pos (Lf := vF (ackM s n.2.2.2 (now / 200), o, l1 ++ l2)) (hP'.sc i52) hI hs q1 q2 ⟨by omega, q3⟩ hg p14 p15 p16
        exact main gr (by omega) (by omega)
      by_cases hw : wcP now tq jg = 0
      · have ei : ixP now tq jg i g.2.1 = agP now jg := by
          unfold ixP
          rw [if_neg hm, if_pos hw]
        have hqa := q_age hV hJ hn ht (wc_t.mp hw)
        rw [ei] at fin ⊢
        refine fin (200 * (agP now jg : Int) + 199) (by omega) (p6 _ ag.2) ?_
        rw [ag.1]
        omega
      · have ei : ixP now tq jg i g.2.1 = 5 := by
          unfold ixP
          rw [if_neg hm, if_neg hw]
        rw [ei] at fin ⊢
        exact fin Q p12 p7 (by omega)
  · refine main 0 ?_ (by omega)
    have a1 := lw_acks (d := n.2.2.2) (mi := now / 200) (Lf := vF (ackM s n.2.2.2 (now / 200), o, l1 ++ l2)) (hP'.sc i52) hI hk hs
    have a2 := lw_up (kp := kp) (J1 := J1) (s := s) (Lf := vF (ackM s n.2.2.2 (now / 200), o, l1 ++ l2)) hK0 hup
    omega
end OAE
