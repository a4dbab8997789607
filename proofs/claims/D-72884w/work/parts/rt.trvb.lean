/-! Bounds, trials: service time 1 -/
theorem TNs.sub {K X D Qd a b a2 b2 : Int} {ef : Int → Nat → Int} {W : Int → Nat → Nat → Int → Int} {md : Int → Nat} (h : TNs K X D Qd a b ef W md) (h1 : a ≤ a2) (h2 : b2 ≤ b) : TNs K X D Qd a2 b2 ef W md := ⟨fun mi q1 q2 => h.1 mi (by omega) (by omega), fun mi q1 q2 => h.2.1 mi (by omega) (by omega), fun mi q1 q2 => h.2.2 mi (by omega) (by omega)⟩
section RTV
variable {nS nC k : Nat} {m : MS} {Λ : Int}
theorem tr_va1 {Rn : Nat} (h : BS nS m) (hk : k < nS) (hRn : (Rn : Int) = mg m 2 + mg m 3) (hR61 : 61 ≤ Rn) (hR100 : Rn ≤ 100) (hT : mg m 5 + 501 ≤ tqB) (hf : ∀ i, i ≤ 500 → lvS (ms (tkN nS nC i m) k) ≤ Λ) (hΛ : Λ ≤ 151552) (hM : (mg m 5 + (500 - 2 * Rn : Nat)) / 200 ≤ mg m 5 / 200 + 1) (hA : aNl (vwK k (tkN nS nC (500 - Rn) m)).2.2 ≤ 200) :
    16384 * ((ms (tkN nS nC 500 m) k).1 6 - (ms m k).1 6) ≤ 128 * max Λ 4096 + 30291968 + 16384 * (aNl (vwK k m).2.2 : Int) + 2215117 + 32768 * fkT nS nC k (500 - 2 * Rn) m + 4096 * ((own k (tkN nS nC (500 - 2 * Rn) m)).length : Int) + 8192 * ((own k (tkN nS nC (500 - Rn) m)).length : Int) + 32768 * fkT nS nC k Rn (tkN nS nC (500 - 2 * Rn) m) + 24576 * fkT nS nC k Rn (tkN nS nC (500 - Rn) m) := by
  have h0 := h.2.2.2.2.2.2.2.1
  obtain ⟨T0, hT0⟩ : ∃ T0, T0 = 500 - 2 * Rn := ⟨_, rfl⟩
  have e1 : 500 - Rn = T0 + 0 + Rn := by omega
  have e2 : 500 - 2 * Rn = T0 + 0 := by omega
  obtain ⟨m0, hm0⟩ : ∃ m0 : Int, m0 = (mg m 5 + T0) / 200 - 2 := ⟨_, rfl⟩
  have z0 := dvL_0 (X := 40960) (D := 122880) (lv := Λ)
  have zz : dvL 40960 122880 Λ ≤ 110592 := by
    unfold dvL
    omega
  have c0 := va_cst1 _ z0 zz
  have c1 := va_t_P1_P0 _ z0 (by omega)
  have c2 := va_t_P2_P1 _ z0 (by omega)
  have c3 := va_t_F3_F2 _ z0 (by omega)
  have c4 := va_t_F2_P1 _ z0 (by omega)
  rw [e1] at hA ⊢
  rw [e2]
  rw [← hT0] at hM
  have ew2 : (m0 + 2 - m0).toNat = 2 := by omega
  have hi := tr_one (nC := nC) (Ta := T0) (Tb := 0) (Rn := Rn) (SB := 32 * max Λ 4096 + 7572992) (SF := 32 * max Λ 4096 + 7054848) (Λ := Λ) (hi2 := offH m) (K := 1321) (K2 := 1321) (X := 40960) (D := 122880) (Qd := 1320) (Qd2 := 1320) (m0 := m0 + 1) (m1 := m0 + 2) (m2 := m0 + 1) (m3 := m0 + 2) (m4 := m0 + 3) (mf := m0 + 2) (ee := fun mi => efT (mi - m0).toNat) (P := fun mi => vaP (mi - m0).toNat) (F := fun mi => vaF (mi - m0).toNat) (md := fun mi => mdT (mi - m0).toNat) h hk hRn hR61 (by omega) (by omega) hT ((va_TN1321 m0).sub (by omega) (Int.le_refl _)) ((va_TN1321 m0).sub (by omega) (Int.le_refl _)) (va_TF m0) (by decide) (by decide) (by
      intro j e z hj he hz0 hzD
      rw [ew2]
      exact va_fam j e z hj he hz0 hzD) (by omega) (by decide) (by decide) (by unfold offH offF; omega) (by decide) (by unfold offH offF; omega) (by
      intro mi h1 h2
      have hc : (mi - m0).toNat = 1 ∨ (mi - m0).toNat = 2 := by omega
      rcases hc with w | w <;> rw [w]
      · show 32 * max Λ 4096 + vaP1W 4 0 (dvL 40960 122880 Λ) ≤ _
        omega
      · show 32 * max Λ 4096 + vaP2W 4 0 (dvL 40960 122880 Λ) ≤ _
        omega) (by
      intro mi h1 h2
      have hc : (mi - m0).toNat = 2 ∨ (mi - m0).toNat = 3 := by omega
      rcases hc with w | w <;> rw [w]
      · show 32 * max Λ 4096 + vaF2W 4 0 (dvL 40960 122880 Λ) ≤ _
        omega
      · show 32 * max Λ 4096 + vaF3W 4 0 (dvL 40960 122880 Λ) ≤ _
        omega) (by omega) (by omega) (by omega) (by omega) (by push_cast; omega) (Int.le_refl _) (Int.le_refl _) (by push_cast; omega) (by omega) hf (by omega) (fun i hi => h.frs (T0 + i) (by push_cast; omega)) (fun j hj n hn hA => by
      obtain ⟨g, hG, -⟩ := h.gs (nC := nC) T0 (by omega) j hj
      exact (hG.1.2.2.2.1 n hn hA).2) (h.gs (T0 + 0) (by push_cast; omega)) hA
  omega
theorem tr_vb {Rn : Nat} (hs1 : mg m 1 = 1) (h : BS nS m) (hk : k < nS) (hRn : (Rn : Int) = mg m 2 + mg m 3) (hR61 : 61 ≤ Rn) (hR100 : Rn ≤ 100) (hT : mg m 5 + 501 ≤ tqB) (hf : ∀ i, i ≤ 500 → lvS (ms (tkN nS nC i m) k) ≤ Λ) (hΛ : Λ ≤ 151552) (hA : aNl (vwK k (tkN nS nC (500 - Rn) m)).2.2 ≤ 200) :
    16384 * ((ms (tkN nS nC 500 m) k).1 6 - (ms m k).1 6) ≤ 128 * max Λ 4096 + 31479808 + 16384 * (aNl (vwK k m).2.2 : Int) + 2215117 + 32768 * fkT nS nC k (500 - 2 * Rn) m + 4096 * ((own k (tkN nS nC (500 - 2 * Rn) m)).length : Int) + 8192 * ((own k (tkN nS nC (500 - Rn) m)).length : Int) + 32768 * fkT nS nC k Rn (tkN nS nC (500 - 2 * Rn) m) + 24576 * fkT nS nC k Rn (tkN nS nC (500 - Rn) m) := by
  have h0 := h.2.2.2.2.2.2.2.1
  by_cases hM : (mg m 5 + (500 - 2 * Rn : Nat)) / 200 ≤ mg m 5 / 200 + 1
  · have := tr_va1 (nC := nC) h hk hRn hR61 hR100 hT hf hΛ hM hA
    omega
  obtain ⟨T0, hT0⟩ : ∃ T0, T0 = 500 - 2 * Rn := ⟨_, rfl⟩
  rw [← hT0] at hM
  obtain ⟨Tb, hTb⟩ : ∃ Tb, T0 = 200 + Tb := ⟨T0 - 200, by omega⟩
  have e1 : 500 - Rn = 200 + Tb + Rn := by omega
  have e2 : 500 - 2 * Rn = 200 + Tb := by omega
  obtain ⟨h4, hw, hq, hc, hs, hf2, hb, -, hG, ha⟩ := id h
  have hwd : WD (mg m 5) 79 m := WD.start hw hq hs.1 (by omega)
  have off := fun T => off_run (nS := nS) (nC := nC) (m := m) h4 T
  have gg := fun (i : Nat) (h5 : i ≠ 5) (h14 : i ≠ 14) (h15 : i ≠ 15) (h16 : i ≠ 16) (h17 : i ≠ 17) (h18 : i ≠ 18) (T : Nat) => tkN_g (nS := nS) (nC := nC) (m := m) (i := i) h5 h14 h15 h16 h17 h18 T
  -- behind 200 ticks all delays are small
  have tame : ∀ i : Nat, 200 ≤ i → mg m 5 + i ≤ tqB → frOK nS nC (tkN nS nC i m) (offF m) (fun k => offF m k + mg m 2 + 79) := by
    intro i hi hiT
    have g0 := gg 0 (by decide) (by decide) (by decide) (by decide) (by decide) (by decide) i
    have g1 := gg 1 (by decide) (by decide) (by decide) (by decide) (by decide) (by decide) i
    have g2 := gg 2 (by decide) (by decide) (by decide) (by decide) (by decide) (by decide) i
    have a := tame_fr (nS := nS) (nC := nC) h4 (hwd.run (nS := nS) (nC := nC) hc hs (by omega) i) (by rw [g0]; exact hc) (by rw [g1]; exact hs) (by rw [g1]; omega) (by rw [tkN_5]; exact h.own (nC := nC) i hiT) (by rw [g2]; omega) (by rw [tkN_5]; omega)
    rw [g2] at a
    exact a.ext (fun k hk => (off i k hk).symm) (fun k hk => by unfold offF; rw [off i k hk])
  have way : ∀ i : Nat, 200 ≤ i → mg m 5 + i ≤ tqB → ∀ j, j < nS → ∀ n ∈ (vwK j (tkN nS nC i m)).2.2, isA n → n.2.2.2 ≤ offF m j + mg m 2 + 79 := by
    intro i hi hiT j hj n hn hA
    have p := PAc.run (nS := nS) (nC := nC) (TW := mg m 5 + 200) h4 hj hwd hc hs (by omega) (by omega) (fun n hn _ => Or.inl (ha j hj n hn)) i n hn hA
    obtain ⟨g, hG, -⟩ := h.gs (nC := nC) i hiT j hj
    have q := hG.2.1 n hn
    rw [tkN_5] at q
    rcases p with w | w
    · exfalso
      omega
    · exact w
  obtain ⟨m0, hm0⟩ : ∃ m0 : Int, m0 = (mg m 5 + T0) / 200 - 2 := ⟨_, rfl⟩
  have z0 := dvL_0 (X := 40960) (D := 122880) (lv := Λ)
  have zz : dvL 40960 122880 Λ ≤ 110592 := by
    unfold dvL
    omega
  have c0 := vb_cst _ z0 zz
  have c1 := vb_t_P1_P0 _ z0 (by omega)
  have c2 := vb_t_P2_P1 _ z0 (by omega)
  have c3 := vb_t_F3_F2 _ z0 (by omega)
  have c4 := vb_t_F2_P1 _ z0 (by omega)
  rw [e1] at hA ⊢
  rw [e2]
  have ew2 : (m0 + 2 - m0).toNat = 2 := by omega
  have hi := tr_one (nC := nC) (Ta := 200) (Tb := Tb) (Rn := Rn) (SB := 32 * max Λ 4096 + 7869952) (SF := 32 * max Λ 4096 + 7351808) (Λ := Λ) (hi2 := fun k => offF m k + mg m 2 + 79) (K := 1321) (K2 := 179) (X := 40960) (D := 122880) (Qd := 1320) (Qd2 := 1320) (m0 := m0) (m1 := m0 + 1) (m2 := m0) (m3 := m0 + 2) (m4 := m0 + 3) (mf := m0 + 2) (ee := fun mi => efT (mi - m0).toNat) (P := fun mi => vbP (mi - m0).toNat) (F := fun mi => vbF (mi - m0).toNat) (md := fun mi => mdT (mi - m0).toNat) h hk hRn hR61 (by omega) (by omega) hT (vb_TN1321 m0) (vb_TN179 m0) (vb_TF m0) (by decide) (by decide) (by
      intro j e z hj he hz0 hzD
      rw [ew2]
      exact vb_fam j e z hj he hz0 hzD) (by omega) (by decide) (by decide) (by omega) (by decide) (by omega) (by
      intro mi h1 h2
      have hc : (mi - m0).toNat = 0 ∨ (mi - m0).toNat = 1 ∨ (mi - m0).toNat = 2 := by omega
      rcases hc with w | w | w <;> rw [w]
      · show 32 * max Λ 4096 + vbP0W 4 0 (dvL 40960 122880 Λ) ≤ _
        omega
      · show 32 * max Λ 4096 + vbP1W 4 0 (dvL 40960 122880 Λ) ≤ _
        omega
      · show 32 * max Λ 4096 + vbP2W 4 0 (dvL 40960 122880 Λ) ≤ _
        omega) (by
      intro mi h1 h2
      have hc : (mi - m0).toNat = 2 ∨ (mi - m0).toNat = 3 := by omega
      rcases hc with w | w <;> rw [w]
      · show 32 * max Λ 4096 + vbF2W 4 0 (dvL 40960 122880 Λ) ≤ _
        omega
      · show 32 * max Λ 4096 + vbF3W 4 0 (dvL 40960 122880 Λ) ≤ _
        omega) (by omega) (by omega) (by omega) (by omega) (by omega) (Int.le_refl _) (by omega) (by omega) (by omega) hf (by omega) (fun i hi => tame (200 + i) (by omega) (by omega)) (fun j hj n hn hA => way 200 (by omega) (by omega) j hj n hn hA) (fun j hj => by
      obtain ⟨g, ⟨⟨v, a1, a2, a3, a4⟩, b, c⟩, hs2⟩ := h.gs (nC := nC) (200 + Tb) (by omega) j hj
      exact ⟨g, ⟨⟨v, a1, a2, fun n hn hA => ⟨(a3 n hn hA).1, way (200 + Tb) (by omega) (by omega) j hj n hn hA⟩, a4⟩, b, c⟩, hs2⟩) hA
  omega
end RTV
