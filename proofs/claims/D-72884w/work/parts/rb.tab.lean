/-! Bounds, trials: the numbers of a minute from a table; of all minutes of a trial -/
/-- A: values at nodes, t: slopes, τ: greatest slopes; c: costs with E zero, cE: with E above zero -/
def tbW (A t : Nat → Nat → Nat → Nat) : Nat → Nat → Int → Int := fun j e z => plN (A j e) (t j e) z
def TBv (N : Nat) (A t : Nat → Nat → Nat → Nat) (τ : Nat → Nat → Nat) : Prop := ∀ j, j < 5 → ∀ e, e < 2 → τ j e ≤ 146 ∧ ∀ k, k < N → A j e (k + 1) = A j e k + 4096 * t j e k ∧ t j e k ≤ τ j e
def TBa (N : Nat) (A : Nat → Nat → Nat → Nat) : Prop := ∀ k, k < N + 1 → (∀ p ∈ [(0, 0), (1, 0), (2, 1), (3, 2), (4, 2)], A p.2 0 k ≤ A p.1 0 k ∧ A p.2 1 k ≤ A p.1 1 k ∧ A p.2 1 k ≤ A p.1 0 k) ∧ ∀ j, j < 5 → A j 0 k ≤ A 4 0 k
def TBn (N : Nat) (A : Nat → Nat → Nat → Nat) (τ : Nat → Nat → Nat) (c : Nat → Nat) : Prop := ∀ p ∈ [(1, 0), (2, 1), (4, 2)], (∀ k, k < N + 1 → A p.2 0 k + (512 * τ p.2 0 + 12288) ≤ A p.1 0 k ∧ A p.2 1 k + 512 * τ p.2 1 ≤ A p.1 1 k + 4096) ∧ ∀ k, k < N → A p.2 0 k + (512 * τ p.2 0 + c k) ≤ A p.1 0 k + 4096 ∧ A p.2 0 (k + 1) + (512 * τ p.2 0 + c k) ≤ A p.1 0 (k + 1) + 4096
/-- n left, code j: deep ones -/
def TBe (N : Nat) (A : Nat → Nat → Nat → Nat) (τ : Nat → Nat → Nat) (j i : Nat) (cE : Nat → Nat) : Prop := ∀ k, k < N → A i 0 k + (512 * τ i 0 + cE k) ≤ A j 1 k + 4096 ∧ A i 0 (k + 1) + (512 * τ i 0 + cE k) ≤ A j 1 (k + 1) + 4096
section TBS
variable {K X D : Int} {ee : Nat → Int} {N : Nat} {A t : Nat → Nat → Nat → Nat} {τ : Nat → Nat → Nat} {c : Nat → Nat}
theorem pl_up {A t : Nat → Nat} {N τ : Nat} {z z2 r : Int} (h : PLv A t N τ) (hN : 1 ≤ N) (h0 : 0 ≤ z) (hz : z ≤ 4096 * N) (h02 : 0 ≤ z2) (hz2 : z2 ≤ 4096 * N) (hr : 0 ≤ r) (hle : z2 ≤ z + r) : plN A t z2 ≤ plN A t z + τ * r := by
  by_cases q : z ≤ z2
  · have a := (pl_lip h hN h0 hz hz2 q).2
    have b : (τ : Int) * (z2 - z) ≤ τ * r := Int.mul_le_mul_of_nonneg_left (by omega) (by omega)
    omega
  · have a := (pl_lip h hN h02 hz2 hz (by omega)).1
    have b : 0 ≤ (τ : Int) * r := Int.mul_nonneg (by omega) hr
    omega
theorem TPc.of (hN : 1 ≤ N) (hD : D = 4096 * N) (hX : 40000 ≤ X) (hee : ∀ n, 0 ≤ ee n) (h01 : A 0 1 = A 0 0 ∧ t 0 1 = t 0 0) (hv : TBv N A t τ) (ha : TBa N A) (hn : TBn N A τ c) (hc : NC0 K X D (cS c N)) (he : ∀ j i n, cNeg j i n → 0 < ee n → ∃ cE : Nat → Nat, NCE K X D (ee n) (cS cE N) ∧ TBe N A τ j i cE) : TPc K X D ee (tbW A t) := by
  have pv : ∀ j e, j ≤ 4 → e ≤ 1 → PLv (A j e) (t j e) N (τ j e) := fun j e hj he => (hv j (by omega) e (by omega)).2
  have ni : ∀ j i n, cNeg j i n → j ≤ 4 ∧ i ≤ 4 ∧ (j, i) ∈ [(1, 0), (2, 1), (4, 2)] := by
    intro j i n h
    rcases h with ⟨a, b, -⟩ | ⟨a, b, -⟩ | ⟨a, b, -⟩ <;> subst a <;> subst b <;> decide
  refine ⟨hX, by omega, hee, fun z => ?_, ?_, ?_, ?_, ?_, ?_, ?_, ?_⟩
  · unfold tbW
    rw [h01.1, h01.2]
  · intro j e z z2 r hj he h0 hz h02 hz2 hr hle
    have a := pl_up (pv j e hj he) hN h0 (by omega) h02 (by omega) hr hle
    have b : (τ j e : Int) * r ≤ 146 * r := Int.mul_le_mul_of_nonneg_right (by have := (hv j (by omega) e (by omega)).1; omega) hr
    unfold tbW
    omega
  · intro j i z h h0 hz
    have key : j ≤ 4 ∧ i ≤ 4 ∧ (j, i) ∈ [(0, 0), (1, 0), (2, 1), (3, 2), (4, 2)] := by
      rcases h with ⟨a, b⟩ | ⟨a, b⟩ | ⟨a, b⟩ | ⟨a, b⟩ | ⟨a, b⟩ <;> subst a <;> subst b <;> decide
    obtain ⟨hj, hi, hm⟩ := key
    have q := fun k (hk : k ≤ N) => (ha k (by omega)).1 (j, i) hm
    dsimp only at q
    unfold tbW
    have a1 := pl_all (c := 0) (pv i 0 hi (by decide)) (pv j 0 hj (by decide)) hN h0 (by omega) (fun k hk => (q k hk).1)
    have a2 := pl_all (c := 0) (pv i 1 hi (by decide)) (pv j 1 hj (by decide)) hN h0 (by omega) (fun k hk => (q k hk).2.1)
    have a3 := pl_all (c := 0) (pv i 1 hi (by decide)) (pv j 0 hj (by decide)) hN h0 (by omega) (fun k hk => (q k hk).2.2)
    refine ⟨by omega, by omega, by omega⟩
  · intro j i n z z2 h h0 hz h02 hz2 hle
    obtain ⟨hj, hi, hm⟩ := ni j i n h
    have q := (hn (j, i) hm).1
    dsimp only at q
    unfold tbW
    have u0 := pl_up (pv i 0 hi (by decide)) hN h0 (by omega) h02 (by omega) (show (0 : Int) ≤ 512 by decide) hle
    have u1 := pl_up (pv i 1 hi (by decide)) hN h0 (by omega) h02 (by omega) (show (0 : Int) ≤ 512 by decide) hle
    have a1 := pl_all (c := 512 * τ i 0 + 12288) (pv i 0 hi (by decide)) (pv j 0 hj (by decide)) hN h0 (by omega) (fun k hk => (q k (by omega)).1)
    obtain ⟨k1, -, -⟩ := kz_c hN h0 (by omega : z ≤ 4096 * N)
    have a2 := pl_cmp (c := 512 * (τ i 1 : Int) - 4096) (pv i 1 hi (by decide)) (pv j 1 hj (by decide)) hN h0 (by omega) (by
      have := (q (kzP N z) (by omega)).2
      omega) (by
      have := (q (kzP N z + 1) (by omega)).2
      omega)
    refine ⟨by omega, by omega⟩
  · intro j i n h
    obtain ⟨hj, hi, hm⟩ := ni j i n h
    have q := (hn (j, i) hm).2
    dsimp only at q
    refine ⟨cS c N, hc, fun z z2 h0 hz h02 hz2 hle => ?_⟩
    unfold tbW
    have u0 := pl_up (pv i 0 hi (by decide)) hN h0 (by omega) h02 (by omega) (show (0 : Int) ≤ 512 by decide) hle
    obtain ⟨k1, -, -⟩ := kz_c hN h0 (by omega : z ≤ 4096 * N)
    have q1 := q _ k1
    have a1 := pl_cmp (c := 512 * (τ i 0 : Int) + c (kzP N z) - 4096) (pv i 0 hi (by decide)) (pv j 0 hj (by decide)) hN h0 (by omega) (by omega) (by omega)
    unfold cS
    omega
  · intro j i n h hp
    obtain ⟨hj, hi, hm⟩ := ni j i n h
    obtain ⟨cE, hcE, q⟩ := he j i n h hp
    refine ⟨cS cE N, hcE, fun z z2 h0 hz h02 hz2 hle => ?_⟩
    unfold tbW
    have u0 := pl_up (pv i 0 hi (by decide)) hN h0 (by omega) h02 (by omega) (show (0 : Int) ≤ 512 by decide) hle
    obtain ⟨k1, -, -⟩ := kz_c hN h0 (by omega : z ≤ 4096 * N)
    have q1 := q _ k1
    have a1 := pl_cmp (c := 512 * (τ i 0 : Int) + cE (kzP N z) - 4096) (pv i 0 hi (by decide)) (pv j 1 hj (by decide)) hN h0 (by omega) (by omega) (by omega)
    unfold cS
    omega
  · intro j z hj h0 hz
    have a1 := pl_all (c := 0) (pv j 0 hj (by decide)) (pv 4 0 (by decide) (by decide)) hN h0 (by omega) (fun k hk => (ha k (by omega)).2 j (by omega))
    unfold tbW
    omega
  · intro j z hj h0 hz
    unfold tbW plN
    have a : 0 ≤ (t j 0 (z / 4096).toNat : Int) * (z % 4096) := Int.mul_nonneg (by omega) (by omega)
    omega
/-- a new minute -/
def TBb (N : Nat) (A A2 : Nat → Nat → Nat → Nat) : Prop := ∀ k, k < N + 1 → ∀ e, e < 2 → (A2 0 e k ≤ A 0 e k ∧ A2 3 e k ≤ A 0 e k) ∧ ∀ j, j < 5 → j = 0 ∨ (A2 3 e k ≤ A j e k ∧ A2 4 e k ≤ A j e k)
theorem TBd.of {A2 t2 : Nat → Nat → Nat → Nat} {τ2 : Nat → Nat → Nat} (hN : 1 ≤ N) (hD : D = 4096 * N) (hv : TBv N A t τ) (hv2 : TBv N A2 t2 τ2) (hb : TBb N A A2) : TBd D (tbW A t) (tbW A2 t2) := by
  have pv : ∀ j e, j ≤ 4 → e ≤ 1 → PLv (A j e) (t j e) N (τ j e) := fun j e hj he => (hv j (by omega) e (by omega)).2
  have pv2 : ∀ j e, j ≤ 4 → e ≤ 1 → PLv (A2 j e) (t2 j e) N (τ2 j e) := fun j e hj he => (hv2 j (by omega) e (by omega)).2
  intro z h0 hz
  unfold tbW
  refine ⟨fun e he => ?_, fun j e hj1 hj he => ?_⟩
  · have a1 := pl_all (c := 0) (pv2 0 e (by decide) he) (pv 0 e (by decide) he) hN h0 (by omega) (fun k hk => ((hb k (by omega) e (by omega)).1).1)
    have a2 := pl_all (c := 0) (pv2 3 e (by decide) he) (pv 0 e (by decide) he) hN h0 (by omega) (fun k hk => ((hb k (by omega) e (by omega)).1).2)
    exact ⟨by omega, by omega⟩
  · have q := fun k (hk : k ≤ N) => (hb k (by omega) e (by omega)).2 j (by omega)
    have a1 := pl_all (c := 0) (pv2 3 e (by decide) he) (pv j e hj he) hN h0 (by omega) (fun k hk => by
      rcases q k hk with w | w
      · omega
      · exact w.1)
    have a2 := pl_all (c := 0) (pv2 4 e (by decide) he) (pv j e hj he) hN h0 (by omega) (fun k hk => by
      rcases q k hk with w | w
      · omega
      · exact w.2)
    exact ⟨by omega, by omega⟩
end TBS
theorem TPc.down {K K2 X D : Int} {ee : Nat → Int} {W : Nat → Nat → Int → Int} (h : TPc K X D ee W) (hK : K2 ≤ K) : TPc K2 X D ee W := by
  obtain ⟨c1, c2, c3, c4, c5, c6, c7, c8, c9, c10, c11⟩ := h
  refine ⟨c1, c2, c3, c4, c5, c6, c7, fun j i n q => ?_, fun j i n q e => ?_, c10, c11⟩
  · obtain ⟨c0, a, b⟩ := c8 j i n q
    exact ⟨c0, fun w v F d1 d2 d3 d4 => a w v F d1 d2 d3 (by omega), b⟩
  · obtain ⟨c0, a, b⟩ := c9 j i n q e
    exact ⟨c0, fun w v F d1 d2 d3 d4 => a w v F d1 d2 d3 (by omega), b⟩
theorem TNs.of {K X D Qd : Int} {E : Nat → Nat → Int} {W : Nat → Nat → Nat → Int → Int} {md : Nat → Nat} {i0 i1 : Nat} (m0 : Int) (hT : ∀ i, i0 ≤ i → i ≤ i1 → TPc K X D (E i) (W i)) (hM : ∀ i, i0 ≤ i → i ≤ i1 → MDp (md i) Qd X D (E i)) (hB : ∀ i, i0 ≤ i → i + 1 ≤ i1 → TBd D (W i) (W (i + 1)) ∧ MT (md i) (md (i + 1)) (E i) (E (i + 1))) : TNs K X D Qd (m0 + i0) (m0 + i1) (fun mi => E (mi - m0).toNat) (fun mi => W (mi - m0).toNat) (fun mi => md (mi - m0).toNat) := by
  refine ⟨fun mi h1 h2 => hT _ (by omega) (by omega), fun mi h1 h2 => hM _ (by omega) (by omega), fun mi h1 h2 => ?_⟩
  have e : (mi + 1 - m0).toNat = (mi - m0).toNat + 1 := by omega
  dsimp only
  rw [e]
  exact hB _ (by omega) (by omega)
/-- one family of weights against another -/
def TBf (N : Nat) (X : Nat) (A F : Nat → Nat → Nat → Nat) : Prop := ∀ j, j < 5 → ∀ e, e < 2 → ∀ k, k < N + 1 → 3 * F j e k ≤ 4 * A j e k + (if k = 0 then 0 else 16 * (X + 4096 * k))
theorem fam_of {N X : Nat} {A t F t2 : Nat → Nat → Nat → Nat} {τ τ2 : Nat → Nat → Nat} (hN : 1 ≤ N) (hX : 4096 ≤ X) (hv : TBv N A t τ) (hv2 : TBv N F t2 τ2) (hf : TBf N X A F) : ∀ j e z, j ≤ 4 → e ≤ 1 → 0 ≤ z → z ≤ 4096 * (N : Int) → 3 * tbW F t2 j e z ≤ 4 * tbW A t j e z + (if 0 < z then 16 * ((X : Int) + z) else 0) := by
  intro j e z hj he h0 hz
  have pv := (hv j (by omega) e (by omega)).2
  have pv2 := (hv2 j (by omega) e (by omega)).2
  unfold tbW
  obtain ⟨k1, k2, k3⟩ := kz_c hN h0 hz
  have q := hf j (by omega) e (by omega)
  rw [pl_b (τ := τ j e) pv hN h0 hz, pl_b (τ := τ2 j e) pv2 hN h0 hz]
  obtain ⟨a1, -⟩ := pv _ k1
  obtain ⟨b1, -⟩ := pv2 _ k1
  have q0 := q (kzP N z) (by omega)
  have q1 := q (kzP N z + 1) (by omega)
  generalize kzP N z = k at *
  rw [a1, b1, if_neg (by omega)] at q1
  generalize A j e k = a at *
  generalize F j e k = f at *
  generalize t j e k = ta at *
  generalize t2 j e k = tf at *
  by_cases hk : k = 0
  · rw [if_pos hk] at q0
    subst hk
    by_cases z0 : 0 < z
    · rw [if_pos z0]
      have l := lin_z (a := 4 * (ta : Int) - 3 * tf + 16) (b := 4 * (a : Int) - 3 * f + 16 * X) (D := 4096) (z := z - 4096 * ((0 : Nat) : Int)) (by omega) (by omega) (by omega) (by omega)
      rw [Int.add_mul, Int.sub_mul, Int.mul_assoc, Int.mul_assoc] at l
      omega
    · have : z = 0 := by omega
      subst this
      rw [if_neg z0]
      have e0 : (0 : Int) - 4096 * ((0 : Nat) : Int) = 0 := by omega
      rw [e0, Int.mul_zero, Int.mul_zero]
      omega
  · rw [if_neg hk] at q0
    rw [if_pos (by omega)]
    have l := lin_z (a := 4 * (ta : Int) - 3 * tf + 16) (b := 4 * (a : Int) - 3 * f + 16 * (X + 4096 * k)) (D := 4096) (z := z - 4096 * (k : Int)) (by omega) (by omega) (by omega) (by omega)
    rw [Int.add_mul, Int.sub_mul, Int.mul_assoc, Int.mul_assoc] at l
    omega
