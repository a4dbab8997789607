/-! Bounds: from the ledger to the general mode: starts, levels and caps -/
section NDG
variable {nS nC : Nat} {m : MS} {lo hi Bf : Nat → Int} {K kp J1 B w1 w2 Wm F0 z0 H0 gr w3 Q de : Int}
theorem RG.two {now l1 h1 : Int} {s : SdM} {l : List NtM} (h : RG now l1 h1 s l) : RG2 now l1 l1 h1 s l := ⟨h.1, h.2.1, h.2.2, Int.le_refl _⟩
theorem MLg.gs (h : MLg K kp J1 de gr nS m lo hi Bf) : GS nS m lo lo hi := by
  intro k hk
  obtain ⟨g, th, ed, hon, hoff⟩ := h k hk
  by_cases q : (ms m k).1 3 = 0
  · obtain ⟨k1, k2, k3, k4, k5, k6, k7⟩ := hoff q
    exact ⟨g, ⟨⟨k1.1, k1.2.two⟩, k2, k7⟩, fun z => (k4 z).1⟩
  · obtain ⟨k1, k2, k3, k4, k5, k6, k7, k8⟩ := hon q
    exact ⟨g, ⟨⟨k1.1, k1.2.two⟩, k2, k8⟩, fun z => (k4 z).1⟩
theorem MLg.lev (hP : LQ K kp J1 B w1 w2 Wm F0 z0 H0 gr w3 Q de) (h : MLg K kp J1 de gr nS m lo hi Bf) : ∀ k, k < nS → (lvl (ms m k) : Int) * 6400 ≤ max 0 (Bf k) := by
  intro k hk
  obtain ⟨g, th, ed, hon, hoff⟩ := h k hk
  have key : 25 * mW (ms m k) ≤ Bf k ∧ 6400 * (ms m k).1 5 ≤ Bf k := by
    by_cases q : (ms m k).1 3 = 0
    · have a := (hoff q).2.2.2.2.2.1
      unfold lvO at a
      have e : (vwK k m).1 = ms m k := rfl
      rw [e] at a
      omega
    · have a := (hon q).fl hP
      have e : (vwK k m).1 = ms m k := rfl
      rw [e] at a
      omega
  have b : (wP (mW (ms m k)) : Int) * 256 ≤ max 0 (mW (ms m k)) := by
    unfold wP
    omega
  unfold lvl
  omega
/-- caps of the flights during a run -/
theorem MLg.caps (hP : LQ K kp J1 B w1 w2 Wm F0 z0 H0 gr w3 Q de) (hQ : ∀ k, k < nS → hi k - lo k ≤ Q) (h4 : nS ≤ 4) (h : MLg K kp J1 de gr nS m lo hi Bf) (hB : ∀ k, k < nS → bmN H0 de gr ≤ Bf k) (h0 : 0 ≤ mg m 5 + 1) (hR1 : 1 ≤ mg m 2 + mg m 3) (hR2 : mg m 2 + mg m 3 ≤ 200) {T : Nat} (hT : mg m 5 + T ≤ tqB) (hf : ∀ i, i < T → (mq (tkN nS nC i m)).length ≤ 60 ∧ frOK nS nC (tkN nS nC i m) lo hi) : ∀ i, i ≤ T → ∀ k, k < nS → 6400 * (ms (tkN nS nC i m) k).1 5 ≤ Bf k + nS * (T * max 0 (128 - de)) + 25 * (gr * T) := by
  intro i hi k hk
  have hg := hP.2.2.2.2.1
  obtain ⟨B2, hM, hB2, hS⟩ := MLg.run (nC := nC) hP hQ h4 h hB h0 hR1 hR2 i (by omega) (fun j hj => hf j (by omega))
  have a := hM.fl hP k hk
  have f := fnT_0 (nS := nS) (nC := nC) (m := m) i
  -- one of the sum
  have one : ∀ n : Nat, n ≤ nS → (k < n → B2 k - Bf k ≤ sumN B2 n - sumN Bf n) ∧ 0 ≤ sumN B2 n - sumN Bf n := by
    intro n
    induction n with
    | zero => intro _; exact ⟨fun z => absurd z (Nat.not_lt_zero _), by show (0 : Int) ≤ 0 - 0; omega⟩
    | succ n ih =>
      intro hn
      have e1 : sumN B2 (n + 1) = sumN B2 n + B2 n := rfl
      have e2 : sumN Bf (n + 1) = sumN Bf n + Bf n := rfl
      obtain ⟨i1, i2⟩ := ih (by omega)
      have b := hB2 n (by omega)
      rw [e1, e2]
      refine ⟨fun z => ?_, by omega⟩
      by_cases q : k = n
      · subst q
        omega
      · have := i1 (by omega)
        omega
  have o := (one nS (Nat.le_refl _)).1 hk
  have c1 : (nS : Int) * (i * max 0 (128 - de)) ≤ nS * (T * max 0 (128 - de)) := Int.mul_le_mul_of_nonneg_left (Int.mul_le_mul_of_nonneg_right (by omega) (by omega)) (by omega)
  have c2 : gr * fnT nS nC i m ≤ gr * T := Int.mul_le_mul_of_nonneg_left (by omega) hg
  omega
end NDG
