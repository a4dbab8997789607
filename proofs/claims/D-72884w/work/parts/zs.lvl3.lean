/-! Bounds, the account: what the squares say of the levels themselves -/
def selN (k j : Nat) : Int := if j = k then 1 else 0
theorem selN_sum {k : Nat} (f : Nat → Int) : ∀ n : Nat, sumN (fun j => selN k j * f j) n = if k < n then f k else 0 := by
  intro n
  induction n with
  | zero => rfl
  | succ n ih =>
    have e : sumN (fun j => selN k j * f j) (n + 1) = sumN (fun j => selN k j * f j) n + selN k n * f n := rfl
    rw [e, ih]
    unfold selN
    by_cases q : n = k
    · subst q
      rw [if_neg (by omega), if_pos rfl, if_pos (by omega)]
      omega
    · by_cases q2 : k < n
      · rw [if_pos q2, if_neg q, if_pos (by omega)]
        omega
      · rw [if_neg q2, if_neg q, if_neg (by omega)]
        omega
section LVL3
variable {nS nC : Nat} {m : MS} {F dm y : Int}
theorem LQ1.lv {Q tq1 lo1 hi1 Z : Int} {k : Nat} (h : LQ1 F Q m tq1 lo1 hi1 k Z) (h0 : 0 ≤ Z) : 6400 * (lvl (ms m k) : Int) ≤ Z ∧ 25 * lvS (ms m k) ≤ Z := by
  have a := h.fl
  have w : (wP (mW (ms m k)) : Int) * 256 ≤ max 0 (mW (ms m k)) := by
    unfold wP
    omega
  refine ⟨?_, ?_⟩
  · unfold lvl
    omega
  · unfold lvS
    omega
theorem LQ1.nn {Q tq1 lo1 hi1 Z : Int} {k : Nat} (h : LQ1 F Q m tq1 lo1 hi1 k Z) (hF : 0 ≤ F) : 0 ≤ Z := by
  have a := h.fl
  omega
/-- the levels of any three senders -/
theorem LVS.lvl3 (hP : SQn F dm) (h : LVS F dm nS m y) (hy : 0 ≤ y) : ∀ e : Nat → Int, (∀ k, k < nS → e k = 0 ∨ e k = 1) → sumN e nS ≤ 3 → 6400 * sumN (fun k => e k * (lvl (ms m k) : Int)) nS ≤ 3 * y := by
  intro e he hN
  obtain ⟨Z, tq, a, b⟩ := h
  have kk0 : 0 ≤ kSq dm := by
    unfold kSq
    have := Int.mul_nonneg hP.2.1 hP.2.1
    have := hP.2.1
    omega
  have hF := hP.1
  have c := sq_cauchy (Z := Z) he hN
  have q0 : 0 ≤ (3 - sumN e nS) * ((25 * F + 25600) * (25 * F + 25600)) := Int.mul_nonneg (by omega) (sq_nn _)
  have hb := b e he hN
  have hsq : sumN (fun k => e k * (Z k * Z k)) nS ≤ SqS nS dm e Z m := by
    refine sumN_le nS (fun k hk => ?_)
    have : 0 ≤ kSq dm * (aNl (vwK k m).2.2 : Int) := Int.mul_nonneg kk0 (by omega)
    rcases he k hk with q | q
    · rw [q]; omega
    · rw [q]; omega
  have s : sumN (fun k => e k * Z k) nS ≤ 3 * y := by
    refine sq_inv (by omega) ?_
    have : 3 * y * (3 * y) = 9 * (y * y) := by
      rw [Int.mul_assoc, Int.mul_left_comm y 3 y]
      omega
    omega
  have l : 6400 * sumN (fun k => e k * (lvl (ms m k) : Int)) nS ≤ sumN (fun k => e k * Z k) nS := by
    rw [← sumN_mul]
    refine sumN_le nS (fun k hk => ?_)
    have z := (LQ1.lv (a k hk).1 (LQ1.nn (a k hk).1 (by omega))).1
    rcases he k hk with q | q
    · rw [q]; omega
    · rw [q]; omega
  omega
/-- the level of one sender -/
theorem LVS.lvl1 (hP : SQn F dm) (h : LVS F dm nS m y) (hy : 0 ≤ y) {w : Int} (hw : 0 ≤ w) (hyw : 3 * (y * y) ≤ w * w + 2 * ((25 * F + 25600) * (25 * F + 25600))) : ∀ k, k < nS → 25 * lvS (ms m k) ≤ w := by
  intro k hk
  obtain ⟨Z, tq, a, b⟩ := h
  have kk0 : 0 ≤ kSq dm := by
    unfold kSq
    have := Int.mul_nonneg hP.2.1 hP.2.1
    have := hP.2.1
    omega
  have hF := hP.1
  have h1 : sumN (selN k) nS = 1 := by
    have x := selN_sum (k := k) (fun _ => (1 : Int)) nS
    rw [if_pos hk] at x
    rw [← x]
    exact sumN_congr nS (fun j _ => by omega)
  have hb := b (selN k) (fun j _ => by unfold selN; split <;> omega) (by omega)
  rw [h1] at hb
  have s1 : SqS nS dm (selN k) Z m = Z k * Z k + kSq dm * (aNl (vwK k m).2.2 : Int) := by
    have x := selN_sum (k := k) (fun j => Z j * Z j + kSq dm * (aNl (vwK j m).2.2 : Int)) nS
    rw [if_pos hk] at x
    exact x
  rw [s1] at hb
  have an : 0 ≤ kSq dm * (aNl (vwK k m).2.2 : Int) := Int.mul_nonneg kk0 (by omega)
  have zk : Z k ≤ w := sq_inv hw (by omega)
  have := (LQ1.lv (a k hk).1 (LQ1.nn (a k hk).1 (by omega))).2
  omega
end LVL3
