/-! Bounds, ledger of levels: the level of a sender with what a restoration must have cost (256ths of a packet) -/
/-- near: how close the window lies to the flight -/
def nrL (kp J1 d : Int) : Int := max 0 (kp - (max 0 (d - J1)) / 20)
/-- w: window that counts, F: 256 * flight, a: E by its scale -/
def lA (kp J1 w F a : Int) (Lf : Nat) : Int := max w F + a + (if 1 ≤ Lf then kp else nrL kp J1 (F - w))
theorem nrL_0 {kp J1 d : Int} : 0 ≤ nrL kp J1 d := by
  unfold nrL
  omega
theorem nrL_le {kp J1 d : Int} (h : 0 ≤ kp) : nrL kp J1 d ≤ kp := by
  unfold nrL
  omega
theorem nrL_eq {kp J1 d : Int} (h : 0 ≤ kp) (hd : d ≤ J1) : nrL kp J1 d = kp := by
  unfold nrL
  omega
theorem nrL_z {kp J1 d : Int} (hd : J1 + 20 * kp ≤ d) : nrL kp J1 d = 0 := by
  unfold nrL
  omega
theorem lA_ge {kp J1 w F a : Int} {Lf : Nat} (hk : 0 ≤ kp) (ha : 0 ≤ a) : w ≤ lA kp J1 w F a Lf ∧ F ≤ lA kp J1 w F a Lf := by
  have := nrL_0 (kp := kp) (J1 := J1) (d := F - w)
  unfold lA
  split <;> omega
theorem lA_le {kp J1 w F a : Int} {Lf : Nat} (hk : 0 ≤ kp) : lA kp J1 w F a Lf ≤ max w F + a + kp := by
  have := nrL_le (J1 := J1) (d := F - w) hk
  unfold lA
  split <;> omega
section LA
variable {kp J1 w v F G a b : Int} {Lf : Nat}
/-- a smaller flight -/
theorem lA_less (hG : G ≤ F) (hab : b ≤ a) (hJ : 0 ≤ J1) : lA kp J1 w G b Lf ≤ lA kp J1 w F a Lf := by
  unfold lA nrL
  split <;> omega
/-- a window lowered by an acknowledgment -/
theorem lA_drop (hv : v ≤ w) (hab : b ≤ a + 242) (hb : 0 < b → v ≤ F - 256) (hb0 : 0 ≤ b) (ha0 : 0 ≤ a) (hJ : 0 ≤ J1) (hk : 0 ≤ kp) : lA kp J1 v (F - 256) b Lf ≤ lA kp J1 w F a Lf := by
  unfold lA nrL
  by_cases q : 0 < b
  · have := hb q
    split <;> omega
  · have : b = 0 := by omega
    subst this
    split <;> omega
/-- a window that grows -/
theorem lA_grow (hv : w ≤ v) (hab : b ≤ a) (hJ : 0 ≤ J1) (hk : 0 ≤ kp) : lA kp J1 v (F - 256) b Lf ≤ lA kp J1 w F a Lf + (v - w) := by
  unfold lA nrL
  split <;> omega
/-- a packet sent -/
theorem lA_send {Lf2 : Nat} (h : F + 256 ≤ w) (hJ : 0 ≤ J1) (hk : 0 ≤ kp) : lA kp J1 w (F + 256) 0 Lf2 = w + kp ∧ lA kp J1 w F 0 Lf = w + kp := by
  unfold lA nrL
  constructor <;> split <;> omega
end LA
/-- the numbers of a ledger: K the scale of E (a drop adds 242), kp what a halving releases and a restoration must pay, B: how far a negative one may lift (in squares), F0: the flight from which on a restoration costs kp, H0: levels below it do not matter -/
def LPm (K kp J1 B w1 w2 Wm F0 z H0 : Int) : Prop :=
  0 < K ∧ 0 ≤ kp ∧ 0 ≤ J1 ∧ J1 ≤ 14000 ∧ B < J1 * (w2 + 1) ∧ w1 + w2 ≤ Wm ∧ B ≤ w1 * (Wm - w1) ∧ 4096 ≤ F0 ∧ K * kp + 4 * (w1 * w1) ≤ (F0 - 512) * (F0 - 512) ∧ Wm + J1 + 20 * kp + 300 ≤ F0 ∧ 2 * (J1 + 21 * kp + 300) ≤ F0 ∧ F0 * F0 ≤ K * z ∧ F0 + z ≤ H0 ∧ F0 + 512 + kp ≤ H0 ∧ 0 ≤ w1 ∧ 0 ≤ w2 ∧ 67328 + kp + 300 ≤ H0 ∧ 67328 * 67328 ≤ K * 300
theorem lift_le {w v B J1 w1 w2 Wm : Int} (hg : J1 < v - w) (h : (v - w) * w ≤ B) (h2 : B < J1 * (w2 + 1)) (h3 : w1 + w2 ≤ Wm) (h4 : B ≤ w1 * (Wm - w1)) (hw : w1 < w) (hJ : 0 ≤ J1) (h1 : 0 ≤ w1) : v ≤ Wm := by
  have e1 : w ≤ w2 := by
    apply Decidable.byContradiction
    intro z
    have a1 : J1 * (w2 + 1) ≤ J1 * w := Int.mul_le_mul_of_nonneg_left (by omega) hJ
    have a2 : J1 * w ≤ (v - w) * w := Int.mul_le_mul_of_nonneg_right (by omega) (by omega)
    omega
  apply Decidable.byContradiction
  intro z
  -- (Wm - w) w >= w1 (Wm - w1)
  have a1 : (Wm - w + 1) * w ≤ (v - w) * w := Int.mul_le_mul_of_nonneg_right (by omega) (by omega)
  have a2 : 0 ≤ (w - w1) * (w2 - w) := Int.mul_nonneg (by omega) (by omega)
  have a3 : w1 * (Wm - w1 - w2) ≤ w * (Wm - w1 - w2) := Int.mul_le_mul_of_nonneg_right (by omega) (by omega)
  have b1 : (w - w1) * (w2 - w) = w * w2 - w * w - w1 * w2 + w1 * w := by
    rw [Int.sub_mul, Int.mul_sub, Int.mul_sub]
    omega
  have b2 : w1 * (Wm - w1 - w2) = w1 * Wm - w1 * w1 - w1 * w2 := by rw [Int.mul_sub, Int.mul_sub]
  have b3 : w * (Wm - w1 - w2) = w * Wm - w * w1 - w * w2 := by rw [Int.mul_sub, Int.mul_sub]
  have b4 : (Wm - w + 1) * w = w * Wm - w * w + w := by
    rw [Int.add_mul, Int.sub_mul, Int.mul_comm Wm w]
    omega
  have b5 : w1 * (Wm - w1) = w1 * Wm - w1 * w1 := Int.mul_sub _ _ _
  have b6 : w * w1 = w1 * w := Int.mul_comm _ _
  omega
section LAN
variable {K kp J1 B w1 w2 Wm F0 z H0 w v F a b t t2 : Int} {Lf : Nat}
/-- E by its scale -/
theorem dv_mono (hK : 0 < K) (h : t ≤ t2) : t / K ≤ t2 / K := Int.ediv_le_ediv hK h
theorem dv_add (hK : 0 < K) (h : t ≤ t2 + 242 * K) : t / K ≤ t2 / K + 242 := by
  have := Int.ediv_le_ediv hK h
  rw [Int.add_mul_ediv_right _ _ (by omega)] at this
  exact this
theorem dv_ge (hK : 0 < K) {c : Int} (h : K * c ≤ t) : c ≤ t / K := by
  rw [Int.le_ediv_iff_mul_le hK, Int.mul_comm]
  exact h
theorem dv_le (hK : 0 < K) {c : Int} (h : t ≤ K * c) : t / K ≤ c := by
  have := Int.ediv_le_ediv hK h
  rw [Int.mul_ediv_cancel_left _ (by omega)] at this
  exact this
theorem dv_0 (hK : 0 < K) (h : 0 ≤ t) : 0 ≤ t / K := Int.ediv_nonneg h (by omega)
/-- a negative acknowledgment; t: E -/
theorem lA_neg (hP : LPm K kp J1 B w1 w2 Wm F0 z H0) (hw0 : 0 ≤ w) (hv : w ≤ v) (hF : 256 ≤ F) (hvF : v ≤ max w (F + 512)) (h : (v - w) * w ≤ B) (ht2 : 0 ≤ t2) (htt : t2 ≤ t) (hz : 0 < t2 → Lf = 0 → 2 * v < F - 256) (ht : Lf = 0 → 15 * 256 < F → (F - 512) * (F - 512) - 4 * (w * w) ≤ t) (hb : t2 ≤ F * F) : lA kp J1 v (F - 256) (t2 / K) Lf ≤ max (lA kp J1 w F (t / K) Lf + 512) H0 := by
  obtain ⟨c1, c2, c3, c4, c5, c6, c7, c8, c9, c10, c11, c12, c13, c14, c15, c16, c17, c18⟩ := hP
  have m1 := dv_mono c1 htt
  have m0 := dv_0 c1 ht2
  have m2 := dv_0 c1 (show 0 ≤ t by omega)
  have ez : ¬ 0 < t2 → t2 / K = 0 := fun q => by
    have : t2 = 0 := by omega
    rw [this]
    exact Int.zero_ediv _
  generalize hA : t / K = A at *
  generalize hB : t2 / K = A2 at *
  by_cases hl : 1 ≤ Lf
  · unfold lA
    rw [if_pos hl, if_pos hl]
    omega
  · have hl0 : Lf = 0 := by omega
    by_cases hg : v - w ≤ J1
    · unfold lA nrL
      rw [if_neg hl, if_neg hl]
      omega
    · by_cases hF0 : F0 ≤ F
      · have ht := ht hl0 (by omega)
        by_cases q : w ≤ w1
        · -- deep
          have s1 := sq_mono (a := w) (b := w1) hw0 q
          have s2 := sq_mono (a := F0 - 512) (b := F - 512) (by omega) (by omega)
          have hkA : kp ≤ A := by
            rw [← hA]
            refine dv_ge c1 ?_
            omega
          by_cases y : 0 < t2
          · have hz := hz y hl0
            have hn : nrL kp J1 (F - 256 - v) = 0 := nrL_z (by omega)
            have hn2 := nrL_0 (kp := kp) (J1 := J1) (d := F - w)
            unfold lA
            rw [if_neg hl, if_neg hl, hn]
            omega
          · have e0 := ez y
            have hn := nrL_le (J1 := J1) (d := F - 256 - v) c2
            have hn2 := nrL_0 (kp := kp) (J1 := J1) (d := F - w)
            unfold lA
            rw [if_neg hl, if_neg hl]
            omega
        · have hv2 := lift_le (by omega) h c5 c6 c7 (by omega) c3 c15
          have hn : nrL kp J1 (F - 256 - v) = 0 := nrL_z (by omega)
          have hn2 := nrL_0 (kp := kp) (J1 := J1) (d := F - w)
          unfold lA
          rw [if_neg hl, if_neg hl, hn]
          omega
      · -- small
        have hF2 : F * F ≤ F0 * F0 := sq_mono (by omega) (by omega)
        have hz2 : A2 ≤ z := by
          rw [← hB]
          exact dv_le c1 (by omega)
        by_cases hwF : w ≤ F
        · by_cases y : 0 < t2
          · have hz := hz y hl0
            have hn := nrL_le (J1 := J1) (d := F - 256 - v) c2
            by_cases x : J1 + 20 * kp ≤ F - 256 - v
            · have hn : nrL kp J1 (F - 256 - v) = 0 := nrL_z x
              unfold lA
              rw [if_neg hl, if_neg hl, hn]
              omega
            · unfold lA
              rw [if_neg hl, if_neg hl]
              omega
          · have e0 := ez y
            have hn := nrL_le (J1 := J1) (d := F - 256 - v) c2
            unfold lA
            rw [if_neg hl, if_neg hl]
            omega
        · have hn := nrL_le (J1 := J1) (d := F - 256 - v) c2
          have hn2 := nrL_eq (J1 := J1) (d := F - w) c2 (by omega)
          have e0 := ez (fun y => by have := hz y hl0; omega)
          unfold lA
          rw [if_neg hl, if_neg hl, hn2]
          omega
/-- a halving -/
theorem lA_half (hP : LPm K kp J1 B w1 w2 Wm F0 z H0) (hw : 256 ≤ w) (hF : 256 ≤ F) (ht2 : 0 ≤ t2) (htt : t2 ≤ t) (hz : 0 < t2 → 2 * halfM w < F - 256) (hb : t2 ≤ F * F) : lA kp J1 (halfM w) (F - 256) (t2 / K) 0 ≤ max (lA kp J1 w F (t / K) (Lf + 1) - kp - 256) H0 := by
  obtain ⟨c1, c2, c3, c4, c5, c6, c7, c8, c9, c10, c11, c12, c13, c14, c15, c16, c17, c18⟩ := hP
  have m1 := dv_mono c1 htt
  have m0 := dv_0 c1 ht2
  have m2 := dv_0 c1 (show 0 ≤ t by omega)
  have ez : ¬ 0 < t2 → t2 / K = 0 := fun q => by
    have : t2 = 0 := by omega
    rw [this]
    exact Int.zero_ediv _
  have hh : halfM w = if w / 2 < 256 then 256 else w / 2 := rfl
  have hh2 : halfM w ≤ w ∧ 2 * halfM w ≤ max w 512 ∧ 256 ≤ halfM w := by
    rw [hh]
    split <;> omega
  generalize halfM w = u at *
  generalize hA : t / K = A at *
  generalize hB : t2 / K = A2 at *
  unfold lA
  rw [if_pos (show 1 ≤ Lf + 1 by omega), if_neg (show ¬ 1 ≤ 0 by omega)]
  have hn := nrL_le (J1 := J1) (d := F - 256 - u) c2
  by_cases hF0 : F0 ≤ F
  · by_cases q : u ≤ F - 256
    · unfold nrL
      omega
    · have e0 := ez (fun y => by have := hz y; omega)
      omega
  · have hF2 : F * F ≤ F0 * F0 := sq_mono (by omega) (by omega)
    have hz2 : A2 ≤ z := by
      rw [← hB]
      exact dv_le c1 (by omega)
    by_cases y : 0 < t2
    · have hz := hz y
      by_cases x : J1 + 20 * kp ≤ F - 256 - u
      · have hn : nrL kp J1 (F - 256 - u) = 0 := nrL_z x
        rw [hn]
        omega
      · omega
    · have e0 := ez y
      omega
end LAN
