/-! Bounds: the potential carried over a change of settings; a negative acknowledgment against the losses on their way -/
/-- a negative one costs at most the losses on their way and 8 -/
theorem pb_tok {W V f U : Nat} (hx : U ≤ f) (h1 : V ≤ max W (f + 3)) : PB V f U 0 ≤ PB W (f + 1) (U + 1) 0 + ((f - U) + 8) := by
  have a1 := PB_1 W (f + 1) (U + 1) 0
  have a2 := PB_2 W (f + 1) (U + 1) 0
  rw [mB_0] at a1
  refine PB_le ?_ (by omega) (fun u => ?_)
  · rw [mB_0]
    by_cases hv : V ≤ W
    · have := phB_m hv
      omega
    · have := phB_c V
      omega
  · have := uuB_0 V f
    omega
theorem ps_tok {s : SdM} {d mi tk : Int} {U g : Nat} (hI : sdB tk s) (hn : s.1 11 = -1) (h5 : 1 ≤ s.1 5) (hx : (U + 1) + 0 ≤ (s.1 5).toNat) (hq : queueM (enterM s d mi) mi < 0) (hg : - (g : Int) ≤ queueM (enterM s d mi) mi) : PS (ackM s d mi) U 0 ≤ PS s (U + 1) 0 + (((s.1 5).toNat - (U + 1)) + 8) := by
  obtain ⟨n1, n2, n3, n4, n5⟩ := neg_w hI hn h5 hq hg
  have e11 : (ackM s d mi).1 11 = s.1 11 := ack_o (by decide) (by decide) (by decide)
  have e5 : (ackM s d mi).1 5 = s.1 5 - 1 := ack_5
  have f1 : (s.1 5).toNat = ((ackM s d mi).1 5).toNat + 1 := by omega
  rw [PS_n hn, PS_n (e11.trans hn), f1]
  have := pb_tok (W := wP (s.1 4)) (V := wP ((ackM s d mi).1 4)) (f := ((ackM s d mi).1 5).toNat) (U := U) (by omega) n3
  omega
section CAR
variable {M kT U1 C1 Z now : Int} {X Λ p : Nat} {v : SV} {L : List EnF}
/-- what the potential is at least -/
theorem gPot_PV (hM : 0 < M) (h0 : 0 ≤ U1) (h2 : U1 ≤ C1) (h3 : 2 ≤ C1) (hZ : C1 + 2 ≤ Z) : 3 * (M * (PV v : Int)) ≤ gPot M kT U1 C1 Z X now v L := by
  refine Int.le_trans ?_ gP_A
  have c := uC_c U1 C1 Z (nuP now L) 0 (gLv X (lvl v.1))
  have d := uO_c U1 C1 0 (gLv X (lvl v.1))
  have b : 0 ≤ M * uC U1 C1 Z (nuP now L) 0 (gLv X (lvl v.1)) := Int.mul_nonneg (by omega) (by omega)
  unfold sA PV
  omega
/-- at a start, from the carried part -/
theorem gPot_carry (h0 : 0 ≤ v.1.1 5) (hM : 0 < M) (hT : 0 ≤ kT) (h1 : 0 ≤ U1) (h2 : U1 ≤ C1) (h3 : 2 ≤ C1) (hZ : C1 + 2 ≤ Z) (hl : lvl v.1 ≤ Λ) (hp : PV v ≤ p) : gPot M kT U1 C1 Z X now v L ≤ 3 * (M * (p : Int)) + max (M * (Z + max U1 ((gLv X Λ : Int) + 2))) (3 * (kT * (65536 * ((Λ : Int) * Λ))) + M * (Z + (C1 + (gLv X Λ : Int)))) := by
  have hn := nuP_3 (now := now) (L := L)
  have hG := gLv_mono (X := X) hl
  have hF : (v.1.1 5).toNat ≤ lvl v.1 := by unfold lvl; omega
  have hpM : M * (PV v : Int) ≤ M * (p : Int) := Int.mul_le_mul_of_nonneg_left (by omega) (by omega)
  have hpf := ps_f v.1 (vU v) (vF v)
  refine gP_le ?_ (fun hE => ?_)
  · have c := uC_c U1 C1 Z (nuP now L) 0 (gLv X (lvl v.1))
    have d := uO_c U1 C1 0 (gLv X (lvl v.1))
    have u : uC U1 C1 Z (nuP now L) 0 (gLv X (lvl v.1)) ≤ Z + max U1 ((gLv X Λ : Int) + 2) := by omega
    have uM : M * uC U1 C1 Z (nuP now L) 0 (gLv X (lvl v.1)) ≤ M * (Z + max U1 ((gLv X Λ : Int) + 2)) := Int.mul_le_mul_of_nonneg_left u (by omega)
    unfold sA
    unfold PV at hpM
    omega
  · have aM : M * v.1.1 5 ≤ M * (p : Int) := Int.mul_le_mul_of_nonneg_left (by unfold PV at hp; omega) (by omega)
    have e1 := eE_le (w := mW v.1) (f := v.1.1 5) (Lf := vF v) h0
    have e2 : (256 * v.1.1 5) * (256 * v.1.1 5) ≤ 65536 * ((Λ : Int) * Λ) := by
      have s := sq_mono (a := v.1.1 5) (b := (Λ : Int)) h0 (by omega)
      have : (256 * v.1.1 5) * (256 * v.1.1 5) = 65536 * (v.1.1 5 * v.1.1 5) := by
        rw [Int.mul_assoc, Int.mul_left_comm (v.1.1 5) 256, ← Int.mul_assoc 256 256]
        rfl
      omega
    have e3 : kT * tE v.1 (vF v) ≤ kT * (65536 * ((Λ : Int) * Λ)) := Int.mul_le_mul_of_nonneg_left (by unfold tE; omega) hT
    have c := uC_c U1 C1 Z (nuP now L) (tE v.1 (vF v)) (gLv X (lvl v.1))
    have d := uO_c U1 C1 (tE v.1 (vF v)) (gLv X (lvl v.1))
    have u : uC U1 C1 Z (nuP now L) (tE v.1 (vF v)) (gLv X (lvl v.1)) ≤ Z + (C1 + (gLv X Λ : Int)) := by omega
    have uM : M * uC U1 C1 Z (nuP now L) (tE v.1 (vF v)) (gLv X (lvl v.1)) ≤ M * (Z + (C1 + (gLv X Λ : Int))) := Int.mul_le_mul_of_nonneg_left u (by omega)
    unfold sB
    omega
end CAR
/-- what is carried at a start: the rest of the potential -/
def yRest (M kT U1 C1 Z : Int) (X Λ : Nat) : Int := max (M * (Z + max U1 ((gLv X Λ : Int) + 2))) (3 * (kT * (65536 * ((Λ : Int) * Λ))) + M * (Z + (C1 + (gLv X Λ : Int))))
section CARM
variable {nS nC : Nat} {m : MS} {r : Int} {lo1 lo2 hi : Nat → Int} {K M kT U1 : Int} {C1 Z : Nat → Int} {A X C3 w1 : Nat} {Fm : Nat → Nat} {wt : Nat → Int → Nat} {y : Nat → Int}
theorem MGn.pv (hP : ∀ k, k < nS → PCg K M kT A X U1 (C1 k) (Z k) C3 w1 (Fm k)) (hr : 1 ≤ r) (h : MGn nS m r lo1 lo2 hi M kT U1 C1 Z X wt y) : ∀ k, k < nS → 183 * (r * (M * (PV (vwK k m) : Int))) ≤ y k := by
  intro k hk
  obtain ⟨g, th, be, hI, hY⟩ := h k hk
  obtain ⟨c1, cT, c2, c3, c4, c5, c6, c7, c8, c9, -⟩ := hP k hk
  obtain ⟨h1, h2, h3, h4⟩ := hI
  have a := gPot_PV (M := M) (kT := kT) (U1 := U1) (C1 := C1 k) (Z := Z k) (X := X) (now := mg m 5) (v := vwK k m) (L := g.2.1) c1 c6 c7 c8 c9
  have b : 0 ≤ M * (wSl (wt k) (vwK k m).2.2 : Int) := Int.mul_nonneg (by omega) (by omega)
  have c : 3 * (M * (PV (vwK k m) : Int)) ≤ gPH M kT U1 (C1 k) (Z k) X (wt k) (mg m 5) (vwK k m) g.2.1 := by
    unfold gPH
    omega
  have d := Int.mul_le_mul_of_nonneg_left c (show 0 ≤ r by omega)
  have d2 : r * (3 * (M * (PV (vwK k m) : Int))) = 3 * (r * (M * (PV (vwK k m) : Int))) := Int.mul_left_comm _ _ _
  have e : 0 ≤ M * (mg m 5 - th) := Int.mul_nonneg (by omega) (by omega)
  have f : 0 ≤ r * (M * (mg m 5 - be)) := Int.mul_nonneg (by omega) (Int.mul_nonneg (by omega) (by have := h4.1; omega))
  unfold gY at hY
  omega
theorem MGn.start2 {Λ wp p : Nat → Nat} (hP : ∀ k, k < nS → PCg K M kT A X U1 (C1 k) (Z k) C3 w1 (Fm k)) (h : GS nS m lo1 lo2 hi) (hr : 1 ≤ r) (hl : ∀ k, k < nS → lvl (ms m k) ≤ Λ k) (hp : ∀ k, k < nS → PV (vwK k m) ≤ p k) (hw : ∀ k, k < nS → wSl (wt k) (vwK k m).2.2 ≤ wp k) : MGn nS m r lo1 lo2 hi M kT U1 C1 Z X wt (fun k => 183 * (r * (M * (p k : Int))) + 61 * (r * (yRest M kT U1 (C1 k) (Z k) X (Λ k) + 3 * (M * (wp k : Int)))) + 183 * (M * (r - 1)) + 180 * (r * M)) := by
  intro k hk
  obtain ⟨g, hG, hs⟩ := h k hk
  obtain ⟨c1, cT, c2, c3, c4, c5, c6, c7, c8, c9, -⟩ := hP k hk
  refine ⟨g, mg m 5 + 1 - r, mg m 5 - 60, GBc.start hG hr hs, ?_⟩
  rw [gY_start]
  have hV := hG.1.1
  have hI := hV.2.2.2.2
  unfold sdB at hI
  have a := gPot_carry (M := M) (kT := kT) (U1 := U1) (C1 := C1 k) (Z := Z k) (now := mg m 5) (X := X) (v := vwK k m) (L := g.2.1) (p := p k) hI.2.2.2.1 c1 cT c6 c7 c8 c9 (hl k hk) (hp k hk)
  have b : M * (wSl (wt k) (vwK k m).2.2 : Int) ≤ M * (wp k : Int) := Int.mul_le_mul_of_nonneg_left (by have := hw k hk; omega) (by omega)
  have c : gPH M kT U1 (C1 k) (Z k) X (wt k) (mg m 5) (vwK k m) g.2.1 ≤ 3 * (M * (p k : Int)) + (yRest M kT U1 (C1 k) (Z k) X (Λ k) + 3 * (M * (wp k : Int))) := by
    unfold gPH yRest
    omega
  have d := Int.mul_le_mul_of_nonneg_left c (show 0 ≤ r by omega)
  rw [Int.mul_add, Int.mul_left_comm r 3] at d
  dsimp only
  omega
end CARM
