/-! Bounds, trials: what one sender sends in a trial of 500 ticks, from a state's basic facts -/
section RQ
variable {nS nC k : Nat} {m : MS} {SB SF Λ : Int} {hi2 : Nat → Int} {K K2 X D Qd Qd2 m0 m1 m2 m3 m4 mf : Int} {ef : Nat → Int} {P F : Int → Nat → Nat → Int → Int} {ee : Int → Nat → Int} {md : Int → Nat}
theorem tr_one {Ta Tb Rn : Nat} (h : BS nS m) (hk : k < nS) (hRn : (Rn : Int) = mg m 2 + mg m 3) (hR61 : 61 ≤ Rn) (hsum : Ta + Tb + Rn + Rn = 500) (h200 : 200 ≤ Ta + Tb) (hT : mg m 5 + 501 ≤ tqB)
    (hP : TNs K X D Qd m0 m1 ee P md) (hP2 : TNs K2 X D Qd2 m2 m3 ee P md) (hPF : TNs K2 X D Qd2 mf m4 ee F md) (hX : 0 ≤ X) (hD : 0 ≤ D) (hfam : ∀ j e z, j ≤ 4 → e ≤ 1 → 0 ≤ z → z ≤ D → 3 * F mf j e z ≤ 4 * P mf j e z + (if 0 < z then 16 * (X + z) else 0))
    (hm0 : m0 ≤ mg m 5 / 200) (hQ : 1320 ≤ Qd) (hK : 1321 ≤ K) (hQ2 : hi2 k - offF m k ≤ Qd2) (hQ02 : 0 ≤ Qd2) (hK2 : hi2 k - offF m k + 1 ≤ K2) (hSB : ∀ mi, m0 ≤ mi → mi ≤ m3 → 32 * max Λ 4096 + P mi 4 0 (dvL X D Λ) ≤ SB) (hSF : ∀ mi, mf ≤ mi → mi ≤ m4 → 32 * max Λ 4096 + F mi 4 0 (dvL X D Λ) ≤ SF) (hS : 16 * Λ ≤ SF) (hSS : SF + 518144 ≤ SB)
    (hm1 : (mg m 5 + Ta) / 200 ≤ m1) (hm2 : m2 ≤ (mg m 5 + Ta) / 200) (hm3 : (mg m 5 + Ta + Tb) / 200 ≤ m3) (hm02 : m0 ≤ m2) (hm13 : m1 ≤ m3) (hmf : (mg m 5 + Ta + Tb) / 200 = mf) (hm4 : (mg m 5 + 500) / 200 ≤ m4)
    (hf : ∀ i, i ≤ 500 → lvS (ms (tkN nS nC i m) k) ≤ Λ) (hΛ : Λ ≤ X + D)
    (hfb : ∀ i, i < Tb + Rn + Rn → frOK nS nC (tkN nS nC (Ta + i) m) (offF m) hi2) (hh : ∀ j, j < nS → ∀ n ∈ (vwK j (tkN nS nC Ta m)).2.2, isA n → n.2.2.2 ≤ hi2 j) (hG0 : GS nS (tkN nS nC (Ta + Tb) m) (offF m) (offF m) hi2) (hA : aNl (vwK k (tkN nS nC (Ta + Tb + Rn) m)).2.2 ≤ 200) :
    16384 * ((ms (tkN nS nC 500 m) k).1 6 - (ms m k).1 6) ≤ 4 * SB + 16384 * (aNl (vwK k m).2.2 : Int) + 2215117 + 32768 * fkT nS nC k (Ta + Tb) m + 4096 * ((own k (tkN nS nC (Ta + Tb) m)).length : Int) + 8192 * ((own k (tkN nS nC (Ta + Tb + Rn) m)).length : Int) + 32768 * fkT nS nC k Rn (tkN nS nC (Ta + Tb) m) + 24576 * fkT nS nC k Rn (tkN nS nC (Ta + Tb + Rn) m) := by
  have h4 := h.1
  have hb := h.2.2.2.2.2.2.1
  have hf2 := h.2.2.2.2.2.1
  have h0 := h.2.2.2.2.2.2.2.1
  have hG := h.2.2.2.2.2.2.2.2.1
  have w := trial_w (nC := nC) (Ta := Ta) (Tb := Tb) (Rn := Rn) (r := (Rn : Int)) (SB := SB) (SF := SF) (Λ := Λ) (hi := offH m) (lo1 := offF m) (lo2 := offF m) (hi2 := hi2) (ef := fun _ => ee) (W := fun _ => P) (WF := fun _ => F) (md := fun _ => md) (mf := mf) (m0 := m0) (m1 := m1) (m2 := m2) (m3 := m3) (m4 := m4) hk hRn (by omega) hP hP2 hPF hX hD hfam hm0 (by unfold offH offF; omega) hQ2 (by omega) hQ02 (by unfold offH offF; omega) hK2 h4 hSB hSF hS hSS hG hG0 (by omega) (by omega) (by omega) (by omega) hm1 hm2 hm3 hm02 hm13 hmf (by omega) (fun i hi => by
    have a := hf i (by omega)
    refine ⟨?_, a⟩
    unfold lvS at a
    omega) (fun i hi => h.frs i (by omega)) hfb (hh k hk) (fun i hi => h.own i (by omega) k hk) (fun i h1 h2 => h.arr i (by omega) k hk) hA
  have e500 : Ta + Tb + (Rn + Rn) = 500 := by omega
  rw [e500] at w
  have t0 : 10 * ((Ta + Tb : Nat) : Int) ≤ 62 * (Rn : Int) := by omega
  generalize (ms (tkN nS nC 500 m) k).1 6 - (ms m k).1 6 = S at *
  generalize (aNl (vwK k m).2.2 : Int) = A at *
  generalize fkT nS nC k (Ta + Tb) m = F0 at *
  generalize ((own k (tkN nS nC (Ta + Tb) m)).length : Int) = O1 at *
  generalize ((own k (tkN nS nC (Ta + Tb + Rn) m)).length : Int) = O2 at *
  generalize fkT nS nC k Rn (tkN nS nC (Ta + Tb) m) = F1 at *
  generalize fkT nS nC k Rn (tkN nS nC (Ta + Tb + Rn) m) = F2 at *
  generalize ((Ta + Tb : Nat) : Int) = T0 at *
  obtain ⟨r, hr⟩ : ∃ r : Int, r = (Rn : Int) := ⟨_, rfl⟩
  rw [← hr] at w t0
  have r1 : 1 ≤ r := by omega
  have key : r * (16384 * S) ≤ r * (4 * SB + 16384 * A + 2215117 + 32768 * F0 + 4096 * O1 + 8192 * O2 + 32768 * F1 + 24576 * F2) := by
    have e1 : r * (16384 * S) = 16384 * (r * S) := Int.mul_left_comm _ _ _
    have e2 : r * (4 * SB + 16384 * A + 2215117 + 32768 * F0 + 4096 * O1 + 8192 * O2 + 32768 * F1 + 24576 * F2) = 4 * (r * SB) + 16384 * (r * A) + 2215117 * r + 32768 * (r * F0) + 4096 * (r * O1) + 8192 * (r * O2) + 32768 * (r * F1) + 24576 * (r * F2) := by
      simp only [Int.mul_add, Int.mul_left_comm r, Int.mul_comm r 2215117]
    have e3 : r * (SB + 4096 * A) = r * SB + 4096 * (r * A) := by rw [Int.mul_add, Int.mul_left_comm]
    rw [e3] at w
    rw [e1, e2]
    omega
  exact Int.le_of_mul_le_mul_left key (by omega)
end RQ
