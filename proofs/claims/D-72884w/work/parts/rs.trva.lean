/-! Bounds, trials: any service time, 61 <= way to the server and back <= 100 -/
section RSV
variable {nS nC k : Nat} {m : MS} {Λ : Int}
theorem tr_va {Rn : Nat} (h : BS nS m) (hk : k < nS) (hRn : (Rn : Int) = mg m 2 + mg m 3) (hR61 : 61 ≤ Rn) (hR100 : Rn ≤ 100) (hT : mg m 5 + 501 ≤ tqB) (hf : ∀ i, i ≤ 500 → lvS (ms (tkN nS nC i m) k) ≤ Λ) (hΛ : Λ ≤ 151552) (hA : aNl (vwK k (tkN nS nC (500 - Rn) m)).2.2 ≤ 200) :
    16384 * ((ms (tkN nS nC 500 m) k).1 6 - (ms m k).1 6) ≤ 128 * max Λ 4096 + 34193408 + 16384 * (aNl (vwK k m).2.2 : Int) + 2215117 + 32768 * fkT nS nC k (500 - 2 * Rn) m + 4096 * ((own k (tkN nS nC (500 - 2 * Rn) m)).length : Int) + 8192 * ((own k (tkN nS nC (500 - Rn) m)).length : Int) + 32768 * fkT nS nC k Rn (tkN nS nC (500 - 2 * Rn) m) + 24576 * fkT nS nC k Rn (tkN nS nC (500 - Rn) m) := by
  have h0 := h.2.2.2.2.2.2.2.1
  obtain ⟨T0, hT0⟩ : ∃ T0, T0 = 500 - 2 * Rn := ⟨_, rfl⟩
  have e1 : 500 - Rn = T0 + 0 + Rn := by omega
  have e2 : 500 - 2 * Rn = T0 + 0 := by omega
  obtain ⟨m0, hm0⟩ : ∃ m0 : Int, m0 = (mg m 5 + T0) / 200 - 2 := ⟨_, rfl⟩
  have z0 := dvL_0 (X := 40960) (D := 122880) (lv := Λ)
  have zz : dvL 40960 122880 Λ ≤ 110592 := by
    unfold dvL
    omega
  have c0 := va_cst _ z0 zz
  have c1 := va_t_P1_P0 _ z0 (by omega)
  have c2 := va_t_P2_P1 _ z0 (by omega)
  have c3 := va_t_F3_F2 _ z0 (by omega)
  have c4 := va_t_F2_P1 _ z0 (by omega)
  rw [e1] at hA ⊢
  rw [e2]
  have ew2 : (m0 + 2 - m0).toNat = 2 := by omega
  have hi := tr_one (nC := nC) (Ta := T0) (Tb := 0) (Rn := Rn) (SB := 32 * max Λ 4096 + 8548352) (SF := 32 * max Λ 4096 + 8030208) (Λ := Λ) (hi2 := offH m) (K := 1321) (K2 := 1321) (X := 40960) (D := 122880) (Qd := 1320) (Qd2 := 1320) (m0 := m0) (m1 := m0 + 2) (m2 := m0) (m3 := m0 + 2) (m4 := m0 + 3) (mf := m0 + 2) (ee := fun mi => efT (mi - m0).toNat) (P := fun mi => vaP (mi - m0).toNat) (F := fun mi => vaF (mi - m0).toNat) (md := fun mi => mdT (mi - m0).toNat) h hk hRn hR61 (by omega) (by omega) hT (va_TN1321 m0) (va_TN1321 m0) (va_TF m0) (by decide) (by decide) (by
      intro j e z hj he hz0 hzD
      rw [ew2]
      exact va_fam j e z hj he hz0 hzD) (by omega) (by decide) (by decide) (by unfold offH offF; omega) (by decide) (by unfold offH offF; omega) (by
      intro mi h1 h2
      have hc : (mi - m0).toNat = 0 ∨ (mi - m0).toNat = 1 ∨ (mi - m0).toNat = 2 := by omega
      rcases hc with w | w | w <;> rw [w]
      · show 32 * max Λ 4096 + vaP0W 4 0 (dvL 40960 122880 Λ) ≤ _
        omega
      · show 32 * max Λ 4096 + vaP1W 4 0 (dvL 40960 122880 Λ) ≤ _
        omega
      · show 32 * max Λ 4096 + vaP2W 4 0 (dvL 40960 122880 Λ) ≤ _
        omega) (by
      intro mi h1 h2
      have hc : (mi - m0).toNat = 2 ∨ (mi - m0).toNat = 3 := by omega
      rcases hc with w | w <;> rw [w]
      · show 32 * max Λ 4096 + vaF2W 4 0 (dvL 40960 122880 Λ) ≤ _
        omega
      · show 32 * max Λ 4096 + vaF3W 4 0 (dvL 40960 122880 Λ) ≤ _
        omega) (by omega) (by omega) (by omega) (by omega) (by push_cast; omega) (Int.le_refl _) (Int.le_refl _) (by push_cast; omega) (by omega) hf (by omega) (fun i hi => h.frs (T0 + i) (by push_cast; omega)) (fun j hj n hn hA => by
      obtain ⟨g, hG, -⟩ := h.gs (nC := nC) T0 (by omega) j hj
      exact (hG.1.2.2.2.1 n hn hA).2) (h.gs (T0 + 0) (by push_cast; omega)) hA
  omega
end RSV
