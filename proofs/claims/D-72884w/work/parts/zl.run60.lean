/-! Bounds, the account: a run with R <= 60 from any state: 260 ticks in the general mode, the others in mode H -/
section BAL
variable {nS nC : Nat} {m : MS} {lo hi : Nat → Int} {w M U1 C1 Z : Int} {A X C3 w1 Fm Xh X2 Ch w1h : Nat} {Λ p a : Nat → Nat}
theorem BAs.run60 (h : BAs nS m lo hi) (hr : ∀ k, k < nS → hi k - lo k ≤ 1320) (hPc : PCg 1321 M 1 A X U1 C1 Z C3 w1 Fm) (hMA : 5536481280 ≤ M * ((A : Int) + 1)) (hP : PHs 1321 1320 Xh X2 Ch w1h w) (hR : mg m 2 + mg m 3 ≤ 60) (hl : ∀ k, k < nS → lvl (ms m k) ≤ Λ k) (hp : ∀ k, k < nS → PV (vwK k m) ≤ p k) (ha : ∀ k, k < nS → aNl (vwK k m).2.2 ≤ a k) (T : Nat) (hT : mg m 5 + 260 + T ≤ tqB) (hF : ∀ i, i < 260 → ∀ k, k < nS → ((ms (tkN nS nC i m) k).1 5).toNat ≤ Fm) :
    ∃ y3, MHn nS (tkN nS nC (260 + T) m) lo hi 1320 w y3 ∧ 0 ≤ sumN y3 nS ∧
      3 * (M * (mg m 1 * sumN y3 nS)) + 183 * (M * (mg m 1 * ((mg m 2 + mg m 3) * (sntM nS (tkN nS nC (260 + T) m) - sntM nS m)))) ≤
        mg m 1 * (sumN (fun k => 183 * ((mg m 2 + mg m 3) * (M * (p k : Int))) + 61 * ((mg m 2 + mg m 3) * (yRest M 1 U1 C1 Z X (Λ k) + 3 * (M * ((A * a k : Nat) : Int)))) + 183 * (M * ((mg m 2 + mg m 3) - 1)) + 180 * ((mg m 2 + mg m 3) * M)) nS + 183 * ((mg m 2 + mg m 3) * (M * (A * fnT nS nC 260 m))) + 61 * ((mg m 2 + mg m 3) * (M * (sumN (fun _ => Z) nS) * ((mg m 5 + 260) / 200 - mg m 5 / 200))) + nS * (260 * (183 * M + 3 * ((mg m 2 + mg m 3) * M))) + nS * (183 * ((mg m 2 + mg m 3) * (M * (w * 8))) + 3 * M)) +
        3 * (M * (305 * ((mg m 2 + mg m 3) * (T + 38)) + mg m 1 * (nS * (T * (61 + (mg m 2 + mg m 3)) + 122 * ((mg m 2 + mg m 3) * (w * ((mg m 5 + 260 + T) / 200 - (mg m 5 + 260) / 200))))))) := by
  have h1 := h.2.2.2.2.1
  have hM : 0 < M := hPc.1
  obtain ⟨y, y2, q1, q2, q3, q4⟩ := h.toH (nC := nC) hr hPc hMA hP hR hl hp ha 260 (Nat.le_refl _) (by omega) hF
  have g1 := tkN_g (nS := nS) (nC := nC) (m := m) (i := 1) (by decide) (by decide) (by decide) (by decide) (by decide) (by decide) 260
  have g2 := tkN_g (nS := nS) (nC := nC) (m := m) (i := 2) (by decide) (by decide) (by decide) (by decide) (by decide) (by decide) 260
  have g3 := tkN_g (nS := nS) (nC := nC) (m := m) (i := 3) (by decide) (by decide) (by decide) (by decide) (by decide) (by decide) 260
  have g5 := tkN_5 (nS := nS) (nC := nC) (m := m) 260
  have g5' : mg (tkN nS nC 260 m) 5 = mg m 5 + 260 := by rw [g5]; omega
  have hx := h.run (nC := nC) 260 (by omega)
  obtain ⟨y3, r1, r2, r3⟩ := hx.hrun (nC := nC) hP (fun k hk => by have := hr k hk; omega) hr (by rw [g2, g3]; exact hR) q1 T (by rw [g5']; omega)
  rw [← tkN_add] at r1 r3
  rw [g1, g2, g3, g5'] at r3
  refine ⟨y3, r1, r2, ?_⟩
  -- what is carried
  have c1 : sumN (fun k => (3 * M) * y2 k) nS ≤ sumN (fun k => y k + (183 * ((mg m 2 + mg m 3) * (M * (w * 8))) + 3 * M)) nS := by
    refine sumN_le nS (fun k hk => ?_)
    have := q3 k hk
    have e := Int.mul_assoc 3 M (y2 k)
    omega
  rw [sumN_mul, sumN_add, sumN_c] at c1
  have e260 : ((260 : Nat) : Int) = 260 := rfl
  rw [e260] at q4
  generalize sumN (fun k => 183 * ((mg m 2 + mg m 3) * (M * (p k : Int))) + 61 * ((mg m 2 + mg m 3) * (yRest M 1 U1 C1 Z X (Λ k) + 3 * (M * ((A * a k : Nat) : Int)))) + 183 * (M * ((mg m 2 + mg m 3) - 1)) + 180 * ((mg m 2 + mg m 3) * M)) nS = St at *
  generalize 183 * ((mg m 2 + mg m 3) * (M * (A * fnT nS nC 260 m))) = Sf at *
  generalize 61 * ((mg m 2 + mg m 3) * (M * (sumN (fun _ => Z) nS) * ((mg m 5 + 260) / 200 - mg m 5 / 200))) = Sz at *
  generalize (nS : Int) * (260 * (183 * M + 3 * ((mg m 2 + mg m 3) * M))) = Sh at *
  generalize (nS : Int) * (183 * ((mg m 2 + mg m 3) * (M * (w * 8))) + 3 * M) = Sw at *
  generalize (nS : Int) * (T * (61 + (mg m 2 + mg m 3)) + 122 * ((mg m 2 + mg m 3) * (w * ((mg m 5 + 260 + T) / 200 - (mg m 5 + 260) / 200)))) = Sn at *
  generalize 305 * ((mg m 2 + mg m 3) * ((T : Int) + 38)) = Sp at *
  generalize hS1 : sntM nS (tkN nS nC 260 m) = S1 at *
  generalize hS2 : sntM nS (tkN nS nC (260 + T) m) = S2 at *
  generalize sntM nS m = S0 at *
  generalize sumN y nS = Y at *
  generalize sumN y2 nS = Y2 at *
  generalize sumN y3 nS = Y3 at *
  generalize mg m 2 + mg m 3 = R at *
  generalize mg m 1 = s at *
  have b3 := Int.mul_le_mul_of_nonneg_left r3 (show 0 ≤ M by omega)
  have x1 : M * (s * Y3 + 61 * (s * (R * (S2 - S1)))) = M * (s * Y3) + 61 * (M * (s * (R * (S2 - S1)))) := by
    rw [Int.mul_add, Int.mul_left_comm M 61]
  have x2 : M * (s * Y2 + Sp + s * Sn) = s * (M * Y2) + M * (Sp + s * Sn) := by
    rw [Int.add_assoc, Int.mul_add, Int.mul_left_comm M s Y2]
  have b1 := Int.mul_le_mul_of_nonneg_left c1 (show 0 ≤ s by omega)
  have x3 : s * (3 * M * Y2) = 3 * (s * (M * Y2)) := by
    rw [Int.mul_assoc, Int.mul_left_comm s 3]
  have x4 : s * (Y + Sw) = s * Y + s * Sw := Int.mul_add _ _ _
  have b4 := Int.mul_le_mul_of_nonneg_left q4 (show 0 ≤ s by omega)
  have x5 : s * (Y + 183 * (R * (M * (S1 - S0)))) = s * Y + 183 * (M * (s * (R * (S1 - S0)))) := by
    rw [Int.mul_add, Int.mul_left_comm s 183, Int.mul_left_comm R M, Int.mul_left_comm s M]
  have x6 : s * (St + Sf + Sz + Sh + Sw) = s * (St + Sf + Sz + Sh) + s * Sw := Int.mul_add _ _ _
  have x7 : M * (s * (R * (S2 - S0))) = M * (s * (R * (S2 - S1))) + M * (s * (R * (S1 - S0))) := by
    rw [← Int.mul_add, ← Int.mul_add, ← Int.mul_add]
    congr 3
    omega
  rw [x1, x2] at b3
  rw [x3, x4] at b1
  rw [x5] at b4
  rw [x6, x7]
  omega
end BAL
