/-! Bounds, trials: functions of the level, linear between nodes 4096 apart (16 packets) -/
def plN (A t : Nat → Nat) (z : Int) : Int := (A (z / 4096).toNat : Int) + (t (z / 4096).toNat : Int) * (z % 4096)
def PLv (A t : Nat → Nat) (N τ : Nat) : Prop := ∀ k, k < N → A (k + 1) = A k + 4096 * t k ∧ t k ≤ τ
/-- the bucket -/
def kzP (N : Nat) (z : Int) : Nat := min (z / 4096).toNat (N - 1)
theorem lin_z {a b D z : Int} (h0 : 0 ≤ b) (h1 : 0 ≤ a * D + b) (hz : 0 ≤ z) (hD : z ≤ D) : 0 ≤ a * z + b := by
  by_cases h : 0 ≤ a
  · have := Int.mul_nonneg h hz
    omega
  · have := Int.mul_le_mul_of_nonneg_left hD (show 0 ≤ -a by omega)
    rw [Int.neg_mul, Int.neg_mul] at this
    omega
section PLS
variable {A t B t2 : Nat → Nat} {N τ : Nat} {z z2 : Int}
theorem kz_c (hN : 1 ≤ N) (h0 : 0 ≤ z) (hz : z ≤ 4096 * N) : kzP N z < N ∧ 4096 * (kzP N z : Int) ≤ z ∧ z ≤ 4096 * ((kzP N z : Int) + 1) := by
  unfold kzP
  omega
theorem pl_b (h : PLv A t N τ) (hN : 1 ≤ N) (h0 : 0 ≤ z) (hz : z ≤ 4096 * N) : plN A t z = A (kzP N z) + t (kzP N z) * (z - 4096 * (kzP N z : Int)) := by
  by_cases q : z < 4096 * N
  · have e : kzP N z = (z / 4096).toNat := by unfold kzP; omega
    rw [e]
    unfold plN
    have e2 : z % 4096 = z - 4096 * ((z / 4096).toNat : Int) := by omega
    rw [e2]
  · have e0 : z = 4096 * N := by omega
    have e1 : (z / 4096).toNat = N := by omega
    have e : kzP N z = N - 1 := by unfold kzP; omega
    obtain ⟨a, b⟩ := h (N - 1) (by omega)
    have e3 : N - 1 + 1 = N := by omega
    rw [e3] at a
    rw [e]
    unfold plN
    rw [e1, a]
    have e4 : z % 4096 = 0 := by omega
    have e5 : z - 4096 * ((N - 1 : Nat) : Int) = 4096 := by omega
    rw [e4, e5, Int.mul_zero]
    omega
theorem pl_nod (h : PLv A t N τ) : ∀ d k : Nat, k + d ≤ N → A k ≤ A (k + d) ∧ A (k + d) ≤ A k + 4096 * (τ * d) := by
  intro d
  induction d with
  | zero =>
    intro k _
    exact ⟨Nat.le_refl _, by simp⟩
  | succ d ih =>
    intro k hk
    obtain ⟨a, b⟩ := ih k (by omega)
    obtain ⟨c, e⟩ := h (k + d) (by omega)
    have e1 : k + (d + 1) = k + d + 1 := by omega
    rw [e1, c]
    have m : 4096 * t (k + d) ≤ 4096 * τ := by omega
    rw [Nat.mul_add, Nat.mul_one]
    omega
/-- between nodes: not above where it is not above at both -/
theorem pl_cmp (h : PLv A t N τ) {σ : Nat} (h2 : PLv B t2 N σ) (hN : 1 ≤ N) (h0 : 0 ≤ z) (hz : z ≤ 4096 * N) {c : Int} (ha : (A (kzP N z) : Int) + c ≤ B (kzP N z)) (hb : (A (kzP N z + 1) : Int) + c ≤ B (kzP N z + 1)) : plN A t z + c ≤ plN B t2 z := by
  obtain ⟨k1, k2, k3⟩ := kz_c hN h0 hz
  rw [pl_b h hN h0 hz, pl_b h2 hN h0 hz]
  obtain ⟨a1, a2⟩ := h _ k1
  obtain ⟨b1, b2⟩ := h2 _ k1
  generalize kzP N z = k at *
  rw [a1, b1] at hb
  have l := lin_z (a := (t2 k : Int) - t k) (b := (B k : Int) - A k - c) (D := 4096) (z := z - 4096 * (k : Int)) (by omega) (by omega) (by omega) (by omega)
  rw [Int.sub_mul] at l
  omega
theorem pl_all (h : PLv A t N τ) {σ : Nat} (h2 : PLv B t2 N σ) (hN : 1 ≤ N) (h0 : 0 ≤ z) (hz : z ≤ 4096 * N) {c : Nat} (ha : ∀ k, k ≤ N → A k + c ≤ B k) : plN A t z + c ≤ plN B t2 z := by
  obtain ⟨k1, -, -⟩ := kz_c hN h0 hz
  have a := ha (kzP N z) (by omega)
  have b := ha (kzP N z + 1) (by omega)
  exact pl_cmp h h2 hN h0 hz (by omega) (by omega)
/-- it does not fall, and rises by no more than the greatest slope -/
theorem pl_lip (h : PLv A t N τ) (hN : 1 ≤ N) (h0 : 0 ≤ z) (hz : z ≤ 4096 * N) (hz2 : z2 ≤ 4096 * N) (hle : z ≤ z2) : plN A t z ≤ plN A t z2 ∧ plN A t z2 ≤ plN A t z + τ * (z2 - z) := by
  obtain ⟨k1, k2, k3⟩ := kz_c hN h0 hz
  obtain ⟨l1, l2, l3⟩ := kz_c hN (show 0 ≤ z2 by omega) hz2
  rw [pl_b h hN h0 hz, pl_b h hN (show 0 ≤ z2 by omega) hz2]
  have hkl : kzP N z ≤ kzP N z2 := by
    unfold kzP
    omega
  generalize kzP N z = k at *
  generalize kzP N z2 = l at *
  obtain ⟨a1, a2⟩ := h _ k1
  obtain ⟨b1, b2⟩ := h _ l1
  by_cases e : k = l
  · subst e
    have s1 : (t k : Int) * (z2 - z) ≤ τ * (z2 - z) := Int.mul_le_mul_of_nonneg_right (by omega) (by omega)
    have s0 : 0 ≤ (t k : Int) * (z2 - z) := Int.mul_nonneg (by omega) (by omega)
    have e1 : (t k : Int) * (z2 - 4096 * (k : Int)) = t k * (z - 4096 * (k : Int)) + t k * (z2 - z) := by
      rw [← Int.mul_add]
      congr 1
      omega
    rw [e1]
    omega
  · obtain ⟨d, hd⟩ : ∃ d, l = k + 1 + d := ⟨l - (k + 1), by omega⟩
    have n := pl_nod h d (k + 1) (by omega)
    rw [← hd] at n
    rw [a1] at n
    have n1 : (A k : Int) + 4096 * t k ≤ A l := by
      have := n.1
      omega
    have n2 : (A l : Int) ≤ A k + 4096 * t k + 4096 * ((τ : Int) * d) := by
      have := n.2
      have e2 : ((τ * d : Nat) : Int) = (τ : Int) * d := Int.natCast_mul τ d
      rw [← e2]
      omega
    have s1 : (t k : Int) * (z - 4096 * (k : Int)) ≤ t k * 4096 := Int.mul_le_mul_of_nonneg_left (by omega) (by omega)
    have s2 : (t l : Int) * (z2 - 4096 * (l : Int)) ≤ τ * (z2 - 4096 * (l : Int)) := Int.mul_le_mul_of_nonneg_right (by omega) (by omega)
    have s3 : 0 ≤ (t l : Int) * (z2 - 4096 * (l : Int)) := Int.mul_nonneg (by omega) (by omega)
    have s4 : (t k : Int) * (4096 * ((k : Int) + 1) - z) ≤ τ * (4096 * ((k : Int) + 1) - z) := Int.mul_le_mul_of_nonneg_right (by omega) (by omega)
    have e3 : (t k : Int) * (4096 * ((k : Int) + 1) - z) = 4096 * t k - t k * (z - 4096 * (k : Int)) := by
      have : 4096 * ((k : Int) + 1) - z = 4096 - (z - 4096 * (k : Int)) := by omega
      rw [this, Int.mul_sub]
      omega
    have e4 : (τ : Int) * (z2 - z) = τ * (4096 * ((k : Int) + 1) - z) + 4096 * (τ * d) + τ * (z2 - 4096 * (l : Int)) := by
      have : z2 - z = (4096 * ((k : Int) + 1) - z) + 4096 * (d : Int) + (z2 - 4096 * (l : Int)) := by omega
      rw [this, Int.mul_add, Int.mul_add, Int.mul_left_comm]
    omega
end PLS
/-- costs by bucket -/
def cS (c : Nat → Nat) (N : Nat) (z : Int) : Int := c (kzP N z)
theorem NC0.of {K X D : Int} {c : Nat → Nat} {N g p : Nat} (hN : 1 ≤ N) (hD : D = 4096 * N) (hX : 40000 ≤ X) (hK : 0 ≤ K) (hp : 1024 < p) (h1 : 16 * p + 32768 ≤ g) (h2 : 33554432 * K ≤ g * ((p : Int) - 1024)) (h0 : g ≤ c 0 ∧ 147456 ≤ c 0) (h3 : ∀ k, k < N → 1 ≤ k → 16384 ≤ c k ∧ (g ≤ c k ∨ 33554432 * K ≤ c k * (X + 4096 * (k : Int) - 1024))) : NC0 K X D (cS c N) := by
  intro w v F hw hv hvF h hF
  have z0 := dvL_0 (X := X) (D := D) (lv := max w F)
  have zD := dvL_D (X := X) (lv := max w F) (show 0 ≤ D by omega)
  obtain ⟨k1, k2, k3⟩ := kz_c hN z0 (by omega : dvL X D (max w F) ≤ 4096 * N)
  unfold cS
  have ed : dvL X D (max w F) = max 0 (min (max w F - X) D) := rfl
  have hz : 1 ≤ kzP N (dvL X D (max w F)) → X + 4096 * (kzP N (dvL X D (max w F)) : Int) ≤ max w F := by
    intro q
    omega
  clear ed
  generalize kzP N (dvL X D (max w F)) = k at *
  have ck : 16384 ≤ c k := by
    by_cases q : 1 ≤ k
    · exact (h3 k k1 q).1
    · have : k = 0 := by omega
      rw [this]
      omega
  by_cases q1 : v ≤ w
  · have : max 0 (max v 4096 - max w 4096) = 0 := by omega
    rw [this]
    omega
  · have hvF2 : v ≤ F + 512 := by omega
    by_cases q2 : F < w
    · have : max 0 (max v 4096 - max w 4096) ≤ 512 := by omega
      omega
    · have hm : max w F = F := by omega
      rw [hm] at hz
      by_cases q3 : F < 8192
      · have hk : k = 0 := by
          apply Decidable.byContradiction
          intro q
          have := hz (by omega)
          omega
        rw [hk]
        omega
      · have hF2 : F ≤ 2 * w + 1024 := by omega
        obtain ⟨y, hy⟩ : ∃ y, y = max 0 (max v 4096 - max w 4096) := ⟨_, rfl⟩
        rw [← hy]
        have y1 : y ≤ v - w := by omega
        have y0 : 0 ≤ y := by omega
        have y2 : 32 * y ≤ 16 * F + 32768 := by omega
        have y3 : 32 * y * (F - 1024) ≤ 33554432 * K := by
          have a1 : y * (F - 1024) ≤ y * (2 * w) := Int.mul_le_mul_of_nonneg_left (by omega) y0
          have a2 : y * w ≤ (v - w) * w := Int.mul_le_mul_of_nonneg_right y1 (by omega)
          have a3 : y * (2 * w) = 2 * (y * w) := Int.mul_left_comm _ _ _
          have a4 : 32 * y * (F - 1024) = 32 * (y * (F - 1024)) := Int.mul_assoc _ _ _
          omega
        have glob : 32 * y ≤ g := by
          by_cases q4 : F ≤ p
          · omega
          · apply Decidable.byContradiction
            intro q5
            have b1 : 32 * y * ((p : Int) - 1024) ≤ 32 * y * (F - 1024) := Int.mul_le_mul_of_nonneg_left (by omega) (by omega)
            have b2 : ((g : Int) + 1) * ((p : Int) - 1024) ≤ 32 * y * ((p : Int) - 1024) := Int.mul_le_mul_of_nonneg_right (by omega) (by omega)
            rw [Int.add_mul, Int.one_mul] at b2
            omega
        by_cases q6 : 1 ≤ k
        · rcases (h3 k k1 q6).2 with d | d
          · omega
          · have hzk := hz q6
            apply Decidable.byContradiction
            intro q5
            have b1 : 32 * y * (X + 4096 * (k : Int) - 1024) ≤ 32 * y * (F - 1024) := Int.mul_le_mul_of_nonneg_left (by omega) (by omega)
            have b2 : ((c k : Int) + 1) * (X + 4096 * (k : Int) - 1024) ≤ 32 * y * (X + 4096 * (k : Int) - 1024) := Int.mul_le_mul_of_nonneg_right (by omega) (by omega)
            rw [Int.add_mul, Int.one_mul] at b2
            omega
        · have : k = 0 := by omega
          rw [this]
          omega
/-- a quadratic function between its ends -/
theorem quad_mid {a b w M T : Int} (ha : 1 ≤ a) (h1 : 2 * (a * a) + 2 * T ≤ M * a) (h2 : 2 * (b * b) + 2 * T ≤ M * b) (haw : a ≤ w) (hwb : w ≤ b) : 2 * (w * w) + 2 * T ≤ M * w := by
  by_cases e : a = b
  · have : w = a := by omega
    rw [this]
    exact h1
  · -- (b - w) h1 + (w - a) h2, and w w lies below the chord
    have m1 := Int.mul_le_mul_of_nonneg_left h1 (show 0 ≤ b - w by omega)
    have m2 := Int.mul_le_mul_of_nonneg_left h2 (show 0 ≤ w - a by omega)
    have m3 : 0 ≤ (w - a) * (b - w) := Int.mul_nonneg (by omega) (by omega)
    have m4 : 0 ≤ (b - a) * ((w - a) * (b - w)) := Int.mul_nonneg (by omega) m3
    apply Decidable.byContradiction
    intro z
    have m5 : (b - a) * (M * w + 1) ≤ (b - a) * (2 * (w * w) + 2 * T) := Int.mul_le_mul_of_nonneg_left (by omega) (by omega)
    -- all in the products
    have x1 : (b - w) * (2 * (a * a) + 2 * T) + (w - a) * (2 * (b * b) + 2 * T) ≤ (b - w) * (M * a) + (w - a) * (M * b) := Int.add_le_add m1 m2
    have x2 : (b - w) * (M * a) + (w - a) * (M * b) = (b - a) * (M * w) := by
      have c1 : b * (M * a) = a * (M * b) := by rw [Int.mul_left_comm, Int.mul_left_comm a, Int.mul_comm b a]
      have c2 : w * (M * a) = a * (M * w) := by rw [Int.mul_left_comm, Int.mul_left_comm a, Int.mul_comm w a]
      have c3 : w * (M * b) = b * (M * w) := by rw [Int.mul_left_comm, Int.mul_left_comm b, Int.mul_comm w b]
      rw [Int.sub_mul, Int.sub_mul, Int.sub_mul]
      omega
    have x3 : (b - w) * (2 * (a * a) + 2 * T) + (w - a) * (2 * (b * b) + 2 * T) = (b - a) * (2 * (w * w) + 2 * T) + 2 * ((b - a) * ((w - a) * (b - w))) := by
      have d1 : (w - a) * (b - w) = w * b - w * w - a * b + a * w := by
        rw [Int.sub_mul, Int.mul_sub, Int.mul_sub]
        omega
      have d2 : b * (w * b) = w * (b * b) := Int.mul_left_comm _ _ _
      have d3 : b * (a * b) = a * (b * b) := Int.mul_left_comm _ _ _
      have d4 : b * (a * w) = a * (w * b) := by rw [Int.mul_left_comm, Int.mul_comm b w]
      have d5 : a * (a * b) = b * (a * a) := by rw [← Int.mul_assoc, Int.mul_comm]
      have d6 : a * (a * w) = w * (a * a) := by rw [← Int.mul_assoc, Int.mul_comm]
      have d7 : (b - a) * (w * b - w * w - a * b + a * w) = b * (w * b) - b * (w * w) - b * (a * b) + b * (a * w) - (a * (w * b) - a * (w * w) - a * (a * b) + a * (a * w)) := by
        rw [Int.sub_mul, Int.mul_add, Int.mul_sub, Int.mul_sub, Int.mul_add, Int.mul_sub, Int.mul_sub]
      have f1 : ∀ x y z : Int, (x - y) * (2 * (z * z) + 2 * T) = 2 * (x * (z * z)) - 2 * (y * (z * z)) + (x - y) * (2 * T) := by
        intro x y z
        rw [Int.mul_add, Int.mul_left_comm, Int.sub_mul]
        omega
      have f2 : (b - w) * (2 * T) + (w - a) * (2 * T) = (b - a) * (2 * T) := by
        rw [← Int.add_mul]
        congr 1
        omega
      rw [d1, d7, f1, f1, f1]
      omega
    rw [Int.mul_add, Int.mul_one] at m5
    omega
theorem NCE.of {K X D e2 : Int} {c wb M : Nat → Nat} {N : Nat} (hN : 1 ≤ N) (hD : D = 4096 * N) (hX : 40000 ≤ X) (h : ∀ k, k < N → 16 * (X + 4096 * ((k : Int) + 1) + 1024) ≤ c k ∨ (1 ≤ k ∧ 1 ≤ wb k ∧ 4 * ((wb k : Int) * wb k) + e2 ≤ (X + 4096 * (k : Int) - 512) * (X + 4096 * (k : Int) - 512) ∧ 2 * ((wb k : Int) * wb k) + 1048576 * K ≤ M k * wb k ∧ 2 * (((X + 4096 * ((k : Int) + 1)) / 2) * ((X + 4096 * ((k : Int) + 1)) / 2)) + 1048576 * K ≤ M k * ((X + 4096 * ((k : Int) + 1)) / 2) ∧ 16 * ((M k : Int) - (X + 4096 * (k : Int))) ≤ c k)) : NCE K X D e2 (cS c N) := by
  intro w v F hw hv hvF hK hF hc h2w he
  have z0 := dvL_0 (X := X) (D := D) (lv := F)
  have zD := dvL_D (X := X) (lv := F) (show 0 ≤ D by omega)
  obtain ⟨k1, k2, k3⟩ := kz_c hN z0 (by omega : dvL X D F ≤ 4096 * N)
  unfold cS
  have ed : dvL X D F = max 0 (min (F - X) D) := rfl
  have hlo : 1 ≤ kzP N (dvL X D F) → X + 4096 * (kzP N (dvL X D F) : Int) ≤ F := by
    intro q
    omega
  have hhi : F ≤ X + 4096 * ((kzP N (dvL X D F) : Int) + 1) := by
    omega
  clear ed
  generalize kzP N (dvL X D F) = k at *
  rcases h k k1 with d | ⟨d1, d2, d3, d4, d5, d6⟩
  · have : 2 * v - F ≤ F + 1024 := by omega
    omega
  · have hlo := hlo d1
    have s1 := sq_mono (a := X + 4096 * (k : Int) - 512) (b := F - 512) (by omega) (by omega)
    have hwb : (wb k : Int) ≤ w := by
      apply Decidable.byContradiction
      intro q
      have a1 : w * w ≤ w * wb k := Int.mul_le_mul_of_nonneg_left (by omega) (by omega)
      have a2 : w * wb k < wb k * wb k := Int.mul_lt_mul_of_pos_right (by omega) (by omega)
      have a3 : (2 * w) * (2 * w) = 4 * (w * w) := by rw [Int.mul_assoc, Int.mul_comm w (2 * w), Int.mul_assoc]; omega
      omega
    have qm := quad_mid (a := wb k) (b := (X + 4096 * ((k : Int) + 1)) / 2) (w := w) (M := M k) (T := 524288 * K) (by omega) (by omega) (by omega) hwb (by omega)
    have v1 : 2 * v ≤ M k := by
      apply Decidable.byContradiction
      intro q
      have a1 : ((M k : Int) + 1) * w ≤ 2 * v * w := Int.mul_le_mul_of_nonneg_right (by omega) (by omega)
      rw [Int.add_mul, Int.one_mul] at a1
      have a2 : (v - w) * w = v * w - w * w := Int.sub_mul _ _ _
      have a3 : 2 * v * w = 2 * (v * w) := Int.mul_assoc _ _ _
      omega
    omega
