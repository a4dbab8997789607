/-! Bounds, ledger by ages: the numbers -/
theorem div_cmp {a b M d t : Int} (ha : 0 < a) (hab : a ≤ b) (h0 : 0 ≤ t) (hM : t ≤ M) (h : (M / b + 1) * (b - a) ≤ d * a) (hd : 0 ≤ d) : t / a ≤ t / b + d := by
  have hb : 0 < b := by omega
  have q1 : t < (t / b + 1) * b := Int.lt_ediv_add_one_mul_self t hb
  have q2 : t / b ≤ M / b := Int.ediv_le_ediv hb hM
  have q3 : (t / b + 1) * (b - a) ≤ (M / b + 1) * (b - a) := Int.mul_le_mul_of_nonneg_right (by omega) (by omega)
  have q4 : (t / b + 1) * (b - a) = (t / b + 1) * b - (t / b + 1) * a := Int.mul_sub _ _ _
  have q5 : (t / b + d + 1) * a = (t / b + 1) * a + d * a := by
    rw [← Int.add_mul]
    congr 1
    omega
  have q6 : t < (t / b + d + 1) * a := by omega
  have q7 : t / a < t / b + d + 1 := Int.ediv_lt_of_lt_mul ha q6
  omega
/-- d: what the scales may differ by -/
theorem LR.of {kk cS d : Nat → Int} {W kp J1 B w1 w2 Wm F0 z H0 e0 gr w3 Q de Fc Rm : Int} (h1 : LPn (kk 0) kp J1 B w1 w2 Wm F0 z H0 e0) (h2 : kk 0 * kp + 4 * (w1 * w1) ≤ (F0 - 512) * (F0 - 512)) (h3 : 8388608 * Q + 4 * (w1 * w1) < (F0 - 512) * (F0 - 512)) (h4 : 67328 ≤ F0) (h5 : ∀ i : Nat, i < 5 → kk i ≤ kk (i + 1)) (h6 : ∀ i : Nat, i < 5 → 4194304 * (200 * (i : Int) + 199) ≤ 242 * kk i) (h7 : 4194304 * Q ≤ 242 * kk 5) (h8 : CSP cS) (h9 : 0 ≤ W) (h10 : ∀ i : Nat, i < 6 → 0 ≤ d i ∧ (Fc * Fc / kk i + 1) * (kk i - kk 0) ≤ d i * kk 0 ∧ 25 * d i ≤ cvI cS W i) (h11 : 524288 * (1 + Q) ≤ B) (h12 : 0 ≤ Q) (h13 : 0 ≤ gr) (h14 : 0 ≤ w3) (h15 : 524288 < (gr + 1) * (w3 + 1)) (h16 : w3 + 2048 + kp ≤ H0) (h17 : 0 ≤ de) (h18 : de * (2 * Rm + 62) ≤ 25 * (kp + 256)) (h19 : 1 ≤ Rm) (h20 : Rm ≤ 200) : LR kk cS W kp J1 B w1 w2 Wm F0 z H0 e0 gr w3 Q de Fc Rm := by
  have hm : ∀ n i : Nat, i + n ≤ 5 → kk i ≤ kk (i + n) := by
    intro n
    induction n with
    | zero => intro i _; exact Int.le_refl _
    | succ n ih =>
      intro i hi
      have a := ih i (by omega)
      have b := h5 (i + n) (by omega)
      have e : i + (n + 1) = i + n + 1 := by omega
      rw [e]
      omega
  have hm2 : ∀ i j : Nat, i ≤ j → j ≤ 5 → kk i ≤ kk j := by
    intro i j hij hj
    have e : j = i + (j - i) := by omega
    rw [e]
    exact hm _ _ (by omega)
  refine ⟨h1, h2, h3, h4, hm2, fun i hi => h6 i (by omega), h7, h8, h9, fun i t hi h0 ht => ?_, h11, h12, h13, h14, h15, h16, h17, h18, h19, h20⟩
  obtain ⟨a, b, c⟩ := h10 i (by omega)
  have := div_cmp h1.1 (hm2 0 i (by omega) hi) h0 ht b a
  omega
