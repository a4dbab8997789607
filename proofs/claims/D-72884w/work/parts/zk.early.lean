/-! Bounds, the account: R <= 60, the first ticks behind a change of the ways in the general mode, then mode H -/
theorem wto_c {M : Int} {A : Nat} {lo hi : Int} (hM : 5536481280 ≤ M * ((A : Int) + 1)) (h : hi - lo ≤ 1320) : WTo M 1 A lo hi (fun _ => A) := by
  intro d h1 h2
  refine ⟨Nat.le_refl _, ?_⟩
  show 4194304 * (1 * (d - lo)) ≤ M * ((A : Int) + 1)
  omega
theorem wSl_c {A : Nat} : ∀ {l : List NtM}, wSl (fun _ => A) l = A * aNl l := by
  intro l
  induction l with
  | nil => rfl
  | cons n l ih =>
    have b := aNl_cons (l := l) (n := n)
    have e : wSl (fun _ => A) (n :: l) = (if n.2.2.1 = 0 then A else 0) + wSl (fun _ => A) l := rfl
    rw [e, b, ih, Nat.mul_add]
    by_cases q : n.2.2.1 = 0
    · rw [if_pos q, if_pos q]
      omega
    · rw [if_neg q, if_neg q]
      omega
theorem wfM_c {nS nC : Nat} {m : MS} {A : Nat} : sumN (fun k => (wfM (fun _ _ => A) nS nC m k : Int)) nS ≤ A * fiB (beginM (midM nS nC m)) := by
  have h : sumN (fun k => (wfM (fun _ _ => A) nS nC m k : Int)) nS ≤ sumN (fun k => (A : Int) * (if fnB k (beginM (midM nS nC m)) = true then 1 else 0)) nS := by
    refine sumN_le nS (fun k _ => ?_)
    unfold wfM
    generalize fnB k (beginM (midM nS nC m)) = b
    generalize own k (beginM (midM nS nC m)) = l
    cases b <;> cases l <;> simp
  rw [sumN_mul] at h
  have z := fnB_sum (beginM (midM nS nC m)) nS
  have c := Int.mul_le_mul_of_nonneg_left z (show (0 : Int) ≤ (A : Int) by omega)
  omega
theorem wfT_c {nS nC : Nat} {m : MS} {A : Nat} : ∀ T : Nat, wfT (fun _ _ => A) nS nC T m ≤ A * fnT nS nC T m := by
  intro T
  induction T with
  | zero =>
    show (0 : Int) ≤ (A : Int) * 0
    omega
  | succ T ih =>
    have e1 : wfT (fun _ _ => A) nS nC (T + 1) m = wfT (fun _ _ => A) nS nC T m + sumN (fun k => (wfM (fun _ _ => A) nS nC (tkN nS nC T m) k : Int)) nS := rfl
    have e2 : fnT nS nC (T + 1) m = fnT nS nC T m + fiB (beginM (midM nS nC (tkN nS nC T m))) := rfl
    have c := wfM_c (nS := nS) (nC := nC) (m := tkN nS nC T m) (A := A)
    rw [e1, e2, Int.mul_add]
    omega
section BAK
variable {nS nC : Nat} {m : MS} {lo hi : Nat → Int} {w M U1 C1 Z : Int} {A X C3 w1 Fm Xh X2 Ch w1h : Nat} {Λ p a : Nat → Nat}
/-- what is carried from a state into mode H, T ticks behind it -/
theorem BAs.toH (h : BAs nS m lo hi) (hr : ∀ k, k < nS → hi k - lo k ≤ 1320) (hPc : PCg 1321 M 1 A X U1 C1 Z C3 w1 Fm) (hMA : 5536481280 ≤ M * ((A : Int) + 1)) (hP : PHs 1321 1320 Xh X2 Ch w1h w) (hR : mg m 2 + mg m 3 ≤ 60) (hl : ∀ k, k < nS → lvl (ms m k) ≤ Λ k) (hp : ∀ k, k < nS → PV (vwK k m) ≤ p k) (ha : ∀ k, k < nS → aNl (vwK k m).2.2 ≤ a k) (T : Nat) (h260 : 260 ≤ T) (hT : mg m 5 + T ≤ tqB) (hF : ∀ i, i < T → ∀ k, k < nS → ((ms (tkN nS nC i m) k).1 5).toNat ≤ Fm) :
    ∃ y y2 : Nat → Int, MHn nS (tkN nS nC T m) lo hi 1320 w y2 ∧ 0 ≤ sumN y nS ∧ (∀ k, k < nS → 3 * (M * y2 k) ≤ y k + 183 * ((mg m 2 + mg m 3) * (M * (w * 8))) + 3 * M) ∧
      sumN y nS + 183 * ((mg m 2 + mg m 3) * (M * (sntM nS (tkN nS nC T m) - sntM nS m))) ≤ sumN (fun k => 183 * ((mg m 2 + mg m 3) * (M * (p k : Int))) + 61 * ((mg m 2 + mg m 3) * (yRest M 1 U1 C1 Z X (Λ k) + 3 * (M * ((A * a k : Nat) : Int)))) + 183 * (M * ((mg m 2 + mg m 3) - 1)) + 180 * ((mg m 2 + mg m 3) * M)) nS + 183 * ((mg m 2 + mg m 3) * (M * (A * fnT nS nC T m))) + 61 * ((mg m 2 + mg m 3) * (M * (sumN (fun _ => Z) nS) * ((mg m 5 + T) / 200 - mg m 5 / 200))) + nS * (T * (183 * M + 3 * ((mg m 2 + mg m 3) * M))) := by
  have h2 := h.2.2.2.2.2.1
  have h3 := h.2.2.2.2.2.2.1
  have h0 := h.2.2.2.2.2.2.2.2.2.2.2.2.2
  have hM : 0 < M := hPc.1
  have hw : 0 ≤ w := by have := hP.2.2.2.2.2.2.1; omega
  have hA5 : 5 ≤ A := hPc.2.2.1
  have hS := MGn.start2 (C1 := fun _ => C1) (Z := fun _ => Z) (Fm := fun _ => Fm) (wt := fun _ _ => A) (Λ := Λ) (p := p) (wp := fun k => A * a k) (fun _ _ => hPc) h.2.2.2.2.2.2.2.1.gs (show 1 ≤ mg m 2 + mg m 3 by omega) hl hp (fun k hk => by
    show wSl (fun _ => A) _ ≤ A * a k
    rw [wSl_c]
    exact Nat.mul_le_mul_left _ (ha k hk))
  have hfr := h.frs (nC := nC) hT
  obtain ⟨y, hG, hY⟩ := MGn.run (nC := nC) (fun _ _ => hPc) (fun k hk => by have := hr k hk; omega) (fun k hk => wto_c hMA (hr k hk)) h.1 hS (by omega) (by omega) (Int.le_refl _) T hT (fun i hi => ⟨hF i hi, hfr i hi⟩)
  have hW := h.mw (nC := nC) hP (fun k hk => by have := hr k hk; omega) hr hR 200 (T - 200) (Nat.le_refl _) (by omega)
  have eT : 200 + (T - 200) = T := by omega
  rw [eT] at hW
  have hnn := hG.nonneg (fun _ _ => hPc) (show 1 ≤ mg m 2 + mg m 3 by omega)
  have g2 := tkN_g (nS := nS) (nC := nC) (m := m) (i := 2) (by decide) (by decide) (by decide) (by decide) (by decide) (by decide) T
  have g3 := tkN_g (nS := nS) (nC := nC) (m := m) (i := 3) (by decide) (by decide) (by decide) (by decide) (by decide) (by decide) T
  have g5 := tkN_5 (nS := nS) (nC := nC) (m := m) T
  have hf := wfT_c (nS := nS) (nC := nC) (m := m) (A := A) T
  refine ⟨y, fun k => (y k + 183 * ((mg m 2 + mg m 3) * (M * (w * 8)))) / (3 * M) + 1, ?_, sumN_nn nS hnn, fun k hk => ?_, ?_⟩
  · refine MHn.of (a := fun _ => 0) (wt := fun _ _ => A) (fun _ _ => hPc) (by rw [g2, g3]; exact hG) hW (by rw [g2, g3, g5]; omega) hw (by rw [g2, g3]; omega) (fun k hk => ?_) (fun k hk => ?_)
    · show 5 * aNl _ ≤ wSl (fun _ => A) _ + 0
      rw [wSl_c]
      have := Nat.mul_le_mul_right (aNl (vwK k (tkN nS nC T m)).2.2) hA5
      omega
    · rw [g2, g3]
      have e0 : w * 8 + ((0 : Nat) : Int) = w * 8 := by omega
      rw [e0]
      generalize y k + 183 * ((mg m 2 + mg m 3) * (M * (w * 8))) = Y
      have e1 := Int.lt_ediv_add_one_mul_self Y (show 0 < 3 * M by omega)
      rw [Int.mul_comm] at e1
      have e2 : 3 * M * (Y / (3 * M) + 1) = 3 * (M * (Y / (3 * M) + 1)) := Int.mul_assoc _ _ _
      omega
  · dsimp only
    generalize y k + 183 * ((mg m 2 + mg m 3) * (M * (w * 8))) = Y
    have e1 := Int.mul_ediv_self_le (x := Y) (k := 3 * M) (by omega)
    have e2 : 3 * M * (Y / (3 * M) + 1) = 3 * (M * (Y / (3 * M) + 1)) := Int.mul_assoc _ _ _
    have e3 : 3 * M * (Y / (3 * M) + 1) = 3 * M * (Y / (3 * M)) + 3 * M := by rw [Int.mul_add, Int.mul_one]
    omega
  · have c := Int.mul_le_mul_of_nonneg_left (Int.mul_le_mul_of_nonneg_left hf (show 0 ≤ M by omega)) (show 0 ≤ mg m 2 + mg m 3 by omega)
    omega
end BAK
