/-! Bounds, ledger by ages: setters at the early ledger; from the early ledger to the later one -/
section EST
variable {now c dl tq R c2 dl2 R2 lo hi lo2 hi2 jg ts D th ed Be : Int} {i : Nat} {s s2 : SdM} {o : List Int} {l : List NtM} {g : Gh} {gr w3 Q Rm : Int}
theorem lvE_set (h4 : SF4 s s2) : lvE s2 = lvE s := by
  unfold lvE
  rw [mW_set h4, h4.2 5 (by omega)]
theorem LHe.set (hRm : Rm ≤ 200) (h : LHe gr w3 Rm now c dl tq R lo hi th ed jg ts D i (s, o, l) g Be) (hd0 : DLo s l) (h4 : SF4 s s2) (h3 : s2.1 3 ≠ 0 → s.1 3 ≠ 0) (h01 : (1 ≤ s2.1 0 ∧ s2.1 0 ≤ 200) ∧ 1 ≤ s2.1 1 ∧ s2.1 1 ≤ 8) (ho : ∀ x ∈ o, 0 ≤ x) (h0 : 0 ≤ now) (hc : -1000 ≤ c2) (hd : -1000 ≤ dl2) (hR : RG now lo2 hi2 s l) : LHe gr w3 Rm now c2 dl2 (now + 200) R2 lo2 hi2 th ed jg ts D i (s2, o, l) (rsG g) Be := by
  obtain ⟨k1, k2, k3, k4, k5, k6, k7, k8⟩ := h
  obtain ⟨m0, m1, m2⟩ := rs_mn (now := now) (L := g.2.1)
  refine ⟨k1.reset hd0 h4 h01 ho (fun n hn => ?_) h0 hc hd hR, k2, k3.set h4, k4.set h4, ?_, k6, ?_, k8⟩
  · have := k3.2.1 n hn
    omega
  · rcases k5 with q | q
    · left
      intro w
      apply q
      unfold wantsM at w ⊢
      dsimp only at w ⊢
      rw [h4.2 4 (by omega), h4.2 5 (by omega)] at w
      exact ⟨h3 w.1, w.2⟩
    · exact Or.inr q
  · have ep : nvP now jg (rsG g).2.1 = nvP now jg g.2.1 := by
      show nvP now jg (g.2.1.map (fun e => (e.1, min e.1 T0C, e.2.2))) = _
      unfold nvP
      rw [m0, m1, m2]
    unfold OE PT at k7 ⊢
    rw [ep]
    dsimp only at k7 ⊢
    rw [lvE_set h4]
    omega
theorem LHe.keep (h : LHe gr w3 Rm now c dl tq R lo hi th ed jg ts D i (s, o, l) g Be) (h4 : SF4 s s2) (h3 : s2.1 3 ≠ 0 → s.1 3 ≠ 0) (h01 : (1 ≤ s2.1 0 ∧ s2.1 0 ≤ 200) ∧ 1 ≤ s2.1 1 ∧ s2.1 1 ≤ 8) : LHe gr w3 Rm now c dl tq R lo hi th ed jg ts D i (s2, o, l) g Be := by
  obtain ⟨k1, k2, k3, k4, k5, k6, k7, k8⟩ := h
  refine ⟨k1.keep h4 h01, k2, k3.set h4, k4.set h4, ?_, k6, ?_, k8⟩
  · rcases k5 with q | q
    · left
      intro w
      apply q
      unfold wantsM at w ⊢
      dsimp only at w ⊢
      rw [h4.2 4 (by omega), h4.2 5 (by omega)] at w
      exact ⟨h3 w.1, w.2⟩
    · exact Or.inr q
  · unfold OE at k7 ⊢
    dsimp only at k7 ⊢
    rw [lvE_set h4]
    exact k7
theorem LHe.off (hP : LEn gr w3 Q) (h : LHe gr w3 Rm now c dl tq R lo hi th ed jg ts D i (s, o, l) g Be) : LHo Rm now c dl tq R lo hi ed jg ts D i (s, o, l) g (Be + 12800) := by
  have a := h.fl hP
  obtain ⟨k1, k2, k3, k4, k5, k6, k7, k8⟩ := h
  refine ⟨k1, k2, k3.reset, fun q => ?_, k6, ?_⟩
  · have := k4 q
    exact ⟨this.1, this.2.1⟩
  · dsimp only at a ⊢
    unfold lvO
    omega
theorem LHo.onE (hP : LEn gr w3 Q) (hR1 : 1 ≤ Rm) (h : LHo Rm now c dl tq R lo hi ed jg ts D i (s, o, l) g Be) (hB : bmE gr w3 ≤ Be + 76672 + 5000 * gr) : LHe gr w3 Rm now c dl tq R lo hi now ed jg ts D i (s, o, l) g (Be + 76672 + 5000 * gr) := by
  obtain ⟨k1, k2, k3, k4, k5, k6⟩ := h
  have hT := PT_le (W := 0) CSP_0 k1.1.2.2.1 k1.2.2.2.1
  have ha : aNl l ≤ 200 := k5.le200 k2
  have a2 : gr * (aNl l : Int) ≤ gr * 200 := Int.mul_le_mul_of_nonneg_left (by omega) hP.2.1
  have e : cS0 4 = 25600 := rfl
  refine ⟨k1, k2, k3, fun q => ?_, Or.inr (Int.le_refl _), k5, ?_, hB⟩
  · have := k4 q
    exact ⟨this.1, this.2, Or.inr (Or.inl (by dsimp only at this ⊢; omega))⟩
  · unfold lvO at k6
    unfold OE lvE
    dsimp only at k6 hT ⊢
    omega
/-- the stores of a later ledger above those of the early one -/
theorem PT_late {cS : Nat → Int} {W : Int} {L : List EnF} (hc : CSP cS) (hj : jg ≤ now / 200) : PT cS W now tq jg L ≤ PT cS0 0 now tq jg L + (cS 4 - 25600) + W * wcP now tq jg := by
  obtain ⟨c0, c1, c2, c3, c4, -, -, -⟩ := hc
  have g := ag_4 hj
  have ca : cS (agP now jg) - cS0 (agP now jg) ≤ cS 4 - 25600 := by
    have : agP now jg = 0 ∨ agP now jg = 1 ∨ agP now jg = 2 ∨ agP now jg = 3 ∨ agP now jg = 4 := by omega
    have e0 : cS0 0 = 0 := rfl
    have e1 : cS0 1 = 25600 := rfl
    have e2 : cS0 2 = 25600 := rfl
    have e3 : cS0 3 = 25600 := rfl
    have e4 : cS0 4 = 25600 := rfl
    rcases this with e | e | e | e | e <;> rw [e] <;> omega
  unfold PT
  omega
variable {kk cS : Nat → Int} {W kp J1 B w1 w2 Wm F0 z0 H0 e0 gr2 w32 Q2 de Fc : Int} {v : SV}
theorem LHe.late {z2 Bk : Int} (hE : LEn gr w3 Q) (hP : LR kk cS W kp J1 B w1 w2 Wm F0 z0 H0 e0 gr2 w32 Q2 de Fc Rm) (h : LHe gr w3 Rm now c dl tq R lo hi th ed jg ts D i v g Be) (hg : gr2 ≤ gr) (hz : Be * Be ≤ 625 * (kk 0 * z2)) (hB : Be + 25 * (z2 + kp) + (cS 4 - 25600) + de * (2 * Rm + 62) + W * wcP now tq jg ≤ Bk) (hb : bmA cS H0 de gr2 Rm + W * wcP now tq jg ≤ Bk) : LHv kk cS W kp J1 H0 de gr2 Rm now c dl tq R lo hi th ed jg ts D i v g Bk := by
  have fl := h.fl hE
  obtain ⟨k1, k2, k3, k4, k5, k6, k7, k8⟩ := h
  have hP' := hP
  obtain ⟨p1, p2, p3, p4, p5, p6, p7, hc, hW, p10, p11, p12, hg2, p14, p15, p16, hd, hr, hR1, hR2⟩ := hP
  have hI : sdB now v.1 := k1.1.2.2.2.2
  unfold sdB at hI
  have i5 := k1.2.2.2.1.2.1
  have hT := PT_late (W := W) (tq := tq) (L := g.2.1) hc k1.2.2.1.2.1
  have r2 : rmR Rm now th ed (vF v) ≤ 2 * Rm + 62 := rmR_le (s := v.1) (o := v.2.1) (l := v.2.2) k3 hR1
  have e1 := eE_le (w := mW v.1) (f := v.1.1 5) (Lf := vF v) (by omega)
  have f2 := sq_mono (a := 6400 * v.1.1 5) (b := Be) (by omega) fl.2.1
  have f3 : (6400 * v.1.1 5) * (6400 * v.1.1 5) = 625 * ((256 * v.1.1 5) * (256 * v.1.1 5)) := by
    rw [show 6400 * v.1.1 5 = 25 * (256 * v.1.1 5) by omega, Int.mul_assoc, Int.mul_comm (256 * v.1.1 5) (25 * _), Int.mul_assoc]
    omega
  have z20 : 0 ≤ z2 := by
    apply Decidable.byContradiction
    intro q
    have a : kk 0 * z2 ≤ kk 0 * (-1) := Int.mul_le_mul_of_nonneg_left (by omega) (by have := p1.1; omega)
    have b : 0 ≤ (256 * v.1.1 5) * (256 * v.1.1 5) := Int.mul_nonneg (by omega) (by omega)
    have := p1.1
    omega
  have ek : kk 0 * z2 ≤ kk i * z2 := Int.mul_le_mul_of_nonneg_right (p5 0 i (Nat.zero_le _) i5) z20
  have e2 : tE v.1 (vF v) / kk i ≤ z2 := dv_le (hP'.sc i5).1 (by unfold tE; omega)
  have e3 := lA_le (J1 := J1) (w := mW v.1) (F := 256 * v.1.1 5) (a := tE v.1 (vF v) / kk i) (Lf := vF v) p1.2.1
  have e4 : lvL (kk i) kp J1 v.1 (vF v) ≤ lvE v.1 + z2 + kp := by
    unfold lvL lvE
    omega
  have a1 := Int.mul_le_mul_of_nonneg_left r2 hd
  have a2 : gr2 * (aNl v.2.2 : Int) ≤ gr * (aNl v.2.2 : Int) := Int.mul_le_mul_of_nonneg_right hg (by omega)
  refine ⟨k1, k2, k3, k4, k5, k6, ?_, hb⟩
  unfold OE at k7
  unfold OA
  omega
end EST
