/-! Bounds, trials: weights of the negative ones still to come, as functions of the level; W j e z: j what is left (cdP), e: E above zero -/
def dI (s : SdM) (Lf : Nat) : Int := if 0 < tE s Lf ∧ 32 ≤ s.1 5 then 1 else 0
theorem dI_c (s : SdM) (Lf : Nat) : (dpF s Lf ∧ dI s Lf = 1) ∨ (¬ dpF s Lf ∧ dI s Lf = 0) := by
  unfold dI dpF
  by_cases h : 0 < tE s Lf ∧ 32 ≤ s.1 5
  · rw [if_pos h]
    exact Or.inl ⟨h, rfl⟩
  · rw [if_neg h]
    exact Or.inr ⟨h, rfl⟩
/-- what is left: 0, 1; 2 behind the minute's first acknowledgment; 3: two ahead of it; 4: three -/
def cdP (now : Int) (L : List EnF) : Nat := if nuP now L ≤ 1 then nuP now L else if mn0 now L < now / 200 then nuP now L + 1 else 2
theorem cdP_4 {now : Int} {L : List EnF} : cdP now L ≤ 4 := by
  have := nuP_3 (now := now) (L := L)
  unfold cdP
  split
  · omega
  · split <;> omega
theorem nuP_eq (now : Int) (L : List EnF) : nuP now L = (if mn0 now L < now / 200 then 1 else 0) + (if mn1 now L < now / 200 then 1 else 0) + (if mn2 now L < mn0 now L ∨ mn2 now L + 5 ≤ now / 200 then 1 else 0) := rfl
theorem cdP_c {now : Int} {L : List EnF} : (nuP now L = 0 ∧ cdP now L = 0) ∨ (nuP now L = 1 ∧ cdP now L = 1) ∨ (nuP now L = 2 ∧ ¬ mn0 now L < now / 200 ∧ cdP now L = 2) ∨ (nuP now L = 2 ∧ mn0 now L < now / 200 ∧ cdP now L = 3) ∨ (nuP now L = 3 ∧ mn0 now L < now / 200 ∧ cdP now L = 4) := by
  have h3 := nuP_3 (now := now) (L := L)
  have e := nuP_eq now L
  unfold cdP
  by_cases h1 : nuP now L ≤ 1
  · rw [if_pos h1]
    omega
  · rw [if_neg h1]
    by_cases h2 : mn0 now L < now / 200
    · rw [if_pos h2]
      omega
    · rw [if_neg h2]
      rw [if_neg h2] at e
      have u1 : (if mn1 now L < now / 200 then 1 else 0) ≤ 1 := by split <;> omega
      have u2 : (if mn2 now L < mn0 now L ∨ mn2 now L + 5 ≤ now / 200 then 1 else 0) ≤ 1 := by split <;> omega
      omega
/-- what an acknowledgment does to it -/
def cAck (j i : Nat) : Prop := (j = 0 ∧ i = 0) ∨ (j = 1 ∧ i = 0) ∨ (j = 2 ∧ i = 1) ∨ (j = 3 ∧ i = 2) ∨ (j = 4 ∧ i = 2)
/-- a negative one; n: how many are left -/
def cNeg (j i n : Nat) : Prop := (j = 1 ∧ i = 0 ∧ n = 1) ∨ (j = 2 ∧ i = 1 ∧ n = 2) ∨ (j = 4 ∧ i = 2 ∧ n = 3)
theorem cd_ack {now ka tq T0 d : Int} {L : List EnF} {fa : Int → Int} {f : Int → Option Int} {la : List Int} (h : SF now ka tq T0 L fa f la) : cAck (cdP now L) (cdP now (ackL tq T0 now d L)) ∧ ((mn2 now L < mn0 now L ∨ mn2 now L + 5 ≤ now / 200) → cNeg (cdP now L) (cdP now (ackL tq T0 now d L)) (nuP now L)) := by
  have hn := nuP_ack (d := d) h
  obtain ⟨a0, a1, a2⟩ := mn_ack (now := now) (tq := tq) (T0 := T0) (d := d) (L := L)
  obtain ⟨b0, b1, b2⟩ := mn_le h
  have e := nuP_eq now L
  have c := cdP_c (now := now) (L := L)
  have c' := cdP_c (now := now) (L := ackL tq T0 now d L)
  rw [a0] at c'
  have n1 : nuP now L = 1 → mn2 now L < mn0 now L ∨ mn2 now L + 5 ≤ now / 200 := nuP_1 h
  unfold cAck cNeg
  by_cases y : mn2 now L < mn0 now L ∨ mn2 now L + 5 ≤ now / 200
  · rw [if_pos y] at hn e
    by_cases q : mn0 now L < now / 200
    · rw [if_pos q, if_pos (by omega)] at e
      omega
    · rw [if_neg q] at e
      have u1 : (if mn1 now L < now / 200 then 1 else 0) ≤ 1 := by split <;> omega
      omega
  · rw [if_neg y] at hn e
    by_cases q : mn0 now L < now / 200
    · rw [if_pos q, if_pos (by omega)] at e
      omega
    · rw [if_neg q] at e
      have u1 : (if mn1 now L < now / 200 then 1 else 0) ≤ 1 := by split <;> omega
      omega
theorem nuP_same {now : Int} {L : List EnF} (q : (now + 1) / 200 = now / 200) : nuP (now + 1) L = nuP now L ∧ mn0 (now + 1) L = mn0 now L := by
  have c0 : mn0 (now + 1) L = mn0 now L := by
    unfold mn0
    split <;> first | rfl | exact q
  have c1 : mn1 (now + 1) L = mn1 now L := by
    unfold mn1
    split <;> first | rfl | exact q
  have c2 : mn2 (now + 1) L = mn2 now L := by
    unfold mn2
    split <;> first | rfl | exact q
  refine ⟨?_, c0⟩
  unfold nuP
  rw [c0, c1, c2, q]
theorem cd_same {now : Int} {L : List EnF} (q : (now + 1) / 200 = now / 200) : cdP (now + 1) L = cdP now L := by
  obtain ⟨a, b⟩ := nuP_same (L := L) q
  unfold cdP
  rw [a, b, q]
/-- a new minute -/
theorem cd_nxt {now ka tq T0 : Int} {L : List EnF} {fa : Int → Int} {f : Int → Option Int} {la : List Int} (h : SF now ka tq T0 L fa f la) (q : (now + 1) / 200 = now / 200 + 1) : (cdP now L = 0 ∧ (cdP (now + 1) L = 0 ∨ cdP (now + 1) L = 3)) ∨ (1 ≤ cdP now L ∧ (cdP (now + 1) L = 3 ∨ cdP (now + 1) L = 4)) := by
  obtain ⟨b0, b1, b2⟩ := mn_le h
  have e := nuP_eq now L
  have e' := nuP_eq (now + 1) L
  have c := cdP_c (now := now) (L := L)
  have c' := cdP_c (now := now + 1) (L := L)
  by_cases hl : L = []
  · subst hl
    have z : ∀ x : Int, nuP x [] = 0 := by
      intro x
      rw [nuP_eq]
      show (if x / 200 < x / 200 then 1 else 0) + (if x / 200 < x / 200 then 1 else 0) + (if x / 200 < x / 200 ∨ x / 200 + 5 ≤ x / 200 then 1 else 0) = 0
      rw [if_neg (Int.lt_irrefl _), if_neg (show ¬ (x / 200 < x / 200 ∨ x / 200 + 5 ≤ x / 200) by omega)]
    have z1 := z now
    have z2 := z (now + 1)
    omega
  · have m0 : mn0 (now + 1) L = mn0 now L := by
      unfold mn0
      split
      · exact absurd rfl hl
      · rfl
    have m1 : mn1 (now + 1) L = mn1 now L := by
      unfold mn1
      split
      · exact absurd rfl hl
      · rfl
      · rfl
    have m2 : mn2 (now + 1) L = mn2 now L := by
      unfold mn2
      split
      · exact absurd rfl hl
      · rfl
      · rfl
      · rfl
    rw [m0, m1, m2] at e'
    rw [m0] at c'
    rw [if_pos (by omega), if_pos (by omega)] at e'
    by_cases y : mn0 now L < now / 200
    · rw [if_pos y, if_pos (by omega)] at e
      have u2 : (if mn2 now L < mn0 now L ∨ mn2 now L + 5 ≤ (now + 1) / 200 then 1 else 0) ≤ 1 := by split <;> omega
      omega
    · rw [if_neg y] at e
      by_cases w : mn1 now L < now / 200
      · rw [if_pos w, if_pos (by omega)] at e
        have u2 : (if mn2 now L < mn0 now L ∨ mn2 now L + 5 ≤ (now + 1) / 200 then 1 else 0) ≤ 1 := by split <;> omega
        omega
      · rw [if_neg w] at e
        by_cases x : mn2 now L < mn0 now L ∨ mn2 now L + 5 ≤ now / 200
        · rw [if_pos x] at e
          rw [if_pos (by omega)] at e'
          omega
        · rw [if_neg x] at e
          rw [if_neg (by omega)] at e'
          omega
/-- the numbers of a minute -/
def TPc (K X D : Int) (ee : Nat → Int) (W : Nat → Nat → Int → Int) : Prop :=
  40000 ≤ X ∧ 0 ≤ D ∧ (∀ n, 0 ≤ ee n) ∧ (∀ z, W 0 1 z = W 0 0 z) ∧
  (∀ j e z z2 r, j ≤ 4 → e ≤ 1 → 0 ≤ z → z ≤ D → 0 ≤ z2 → z2 ≤ D → 0 ≤ r → z2 ≤ z + r → W j e z2 ≤ W j e z + 146 * r) ∧
  (∀ j i z, cAck j i → 0 ≤ z → z ≤ D → W i 0 z ≤ W j 0 z ∧ W i 1 z ≤ W j 1 z ∧ W i 1 z ≤ W j 0 z) ∧
  (∀ j i n z z2, cNeg j i n → 0 ≤ z → z ≤ D → 0 ≤ z2 → z2 ≤ D → z2 ≤ z + 512 → W i 0 z2 + 12288 ≤ W j 0 z ∧ W i 1 z2 ≤ W j 1 z + 4096) ∧
  (∀ j i n, cNeg j i n → ∃ c0 : Int → Int, NC0 K X D c0 ∧ ∀ z z2, 0 ≤ z → z ≤ D → 0 ≤ z2 → z2 ≤ D → z2 ≤ z + 512 → W i 0 z2 + c0 z ≤ W j 0 z + 4096) ∧
  (∀ j i n, cNeg j i n → 0 < ee n → ∃ cE : Int → Int, NCE K X D (ee n) cE ∧ ∀ z z2, 0 ≤ z → z ≤ D → 0 ≤ z2 → z2 ≤ D → z2 ≤ z + 512 → W i 0 z2 + cE z ≤ W j 1 z + 4096) ∧
  (∀ j z, j ≤ 4 → 0 ≤ z → z ≤ D → W j 0 z ≤ W 4 0 z) ∧ (∀ j z, j ≤ 4 → 0 ≤ z → z ≤ D → 0 ≤ W j 0 z)
theorem TPc.mono {K X D : Int} {ee : Nat → Int} {W : Nat → Nat → Int → Int} {j e : Nat} {z z2 : Int} (hP : TPc K X D ee W) (hj : j ≤ 4) (he : e ≤ 1) (h0 : 0 ≤ z) (hD : z ≤ D) (h02 : 0 ≤ z2) (h : z2 ≤ z) : W j e z2 ≤ W j e z := by
  have := hP.2.2.2.2.1 j e z z2 0 hj he h0 hD h02 (by omega) (Int.le_refl 0) (by omega)
  omega
/-- two sides: E as zero; E above zero, with the flight alone -/
def tA (W : Nat → Nat → Int → Int) (X D : Int) (j : Nat) (s : SdM) (U Lf : Nat) : Int := 16 * rS s U Lf + W j 0 (dvL X D (lvS s))
def tB (W : Nat → Nat → Int → Int) (X D : Int) (j : Nat) (s : SdM) : Int := 16 * (256 * s.1 5) + W j 1 (dvL X D (lvS s))
def tPot (W : Nat → Nat → Int → Int) (X D now : Int) (v : SV) (L : List EnF) : Int := if dI v.1 (vF v) = 1 then max (tA W X D (cdP now L) v.1 (vU v) (vF v)) (tB W X D (cdP now L) v.1) else tA W X D (cdP now L) v.1 (vU v) (vF v)
section TPX
variable {W : Nat → Nat → Int → Int} {X D now x : Int} {v : SV} {L : List EnF}
theorem tP_A : tA W X D (cdP now L) v.1 (vU v) (vF v) ≤ tPot W X D now v L := by
  unfold tPot
  split <;> omega
theorem tP_B (hd : dI v.1 (vF v) = 1) : tB W X D (cdP now L) v.1 ≤ tPot W X D now v L := by
  unfold tPot
  rw [if_pos hd]
  omega
theorem tP_le (hA : tA W X D (cdP now L) v.1 (vU v) (vF v) ≤ x) (hB : dI v.1 (vF v) = 1 → tB W X D (cdP now L) v.1 ≤ x) : tPot W X D now v L ≤ x := by
  unfold tPot
  split
  · rename_i q
    have := hB q
    omega
  · exact hA
end TPX
/-- a new minute, with its own weights -/
def TBd (D : Int) (W W2 : Nat → Nat → Int → Int) : Prop := ∀ z, 0 ≤ z → z ≤ D → (∀ e, e ≤ 1 → W2 0 e z ≤ W 0 e z ∧ W2 3 e z ≤ W 0 e z) ∧ ∀ j e, 1 ≤ j → j ≤ 4 → e ≤ 1 → W2 3 e z ≤ W j e z ∧ W2 4 e z ≤ W j e z
