/-! Bounds: J behind acknowledgments that lower the window -/
def lsB (l : List NtM) (t : Int) : Prop := ∀ n ∈ l, ¬ isA n → n.1 ≤ t
/-- behind c such -/
def JD (s : SdM) (Lf c : Nat) : Prop := (Lf = 0 ∧ (128 * (((s.1 5).toNat - 1 : Nat) : Int)) * (128 * (((s.1 5).toNat - 1 : Nat) : Int)) ≤ s.1 4 * s.1 4 + c * 1048576 * 999) ∨ (1 ≤ Lf ∧ (256 * (((s.1 5).toNat - 1 : Nat) : Int)) * (256 * (((s.1 5).toNat - 1 : Nat) : Int)) ≤ s.1 4 * s.1 4 + c * 1048576 * 999)
def JI (R : Int) (v : SV) (c : Nat) (yt : Int) : Prop := v.1.1 11 = -1 → (c = 0 ∧ JV v) ∨ (1 ≤ c ∧ lsB v.2.2 (yt + R) ∧ (JV v ∨ JD v.1 (vF v) c))
/-- in a slow-down -/
def SL (v : SV) : Prop := v.1.1 11 ≠ -1 → v.1.1 5 ≤ 2 ∨ lsB v.2.2 (v.1.1 11)
theorem lsB.sub {l l2 : List NtM} {t : Int} (h : lsB l t) (hs : ∀ n ∈ l2, n ∈ l) : lsB l2 t := fun n hn hA => h n (hs n hn) hA
theorem lsB.app {l : List NtM} {n : NtM} {t : Int} (h : lsB l t) (hn : isA n) : lsB (l ++ [n]) t := by
  intro a ha hA
  rcases List.mem_append.mp ha with q | q
  · exact h a q hA
  · rw [List.mem_singleton] at q
    rw [q] at hA
    exact absurd hn hA
/-- no loss on the way -/
theorem aNl_all : ∀ {l : List NtM}, (∀ n ∈ l, isA n) → aNl l = l.length := by
  intro l h
  unfold aNl
  rw [List.countP_eq_length]
  intro n hn
  exact decide_eq_true (h n hn)
theorem JV.none {v : SV} (hF : FI v) (h : ∀ n ∈ v.2.2, isA n) : JV v := by
  have e := aNl_all h
  have := hF.1
  unfold JV JS JB
  left
  show (v.1.1 5).toNat ≤ v.2.1.length + aNl v.2.2 + 2
  omega
theorem JV.few {v : SV} (h : v.1.1 5 ≤ 2) : JV v := by
  unfold JV JS JB
  left
  omega
theorem SL.none {v : SV} {now : Int} (hF : FI v) (h : SL v) (hs : v.1.1 11 ≠ -1) (ht : v.1.1 11 ≤ now) (hp : ∀ n ∈ v.2.2, now < n.1) : JV v := by
  rcases h hs with q | q
  · exact JV.few q
  · refine JV.none hF (fun n hn => ?_)
    apply Decidable.byContradiction
    intro z
    have := q n hn z
    have := hp n hn
    omega
section JIS
variable {R tk : Int} {s : SdM} {o : List Int} {l1 l2 : List NtM} {n : NtM} {c : Nat} {yt : Int}
theorem fl_mid (hF : FI (s, o, l1 ++ n :: l2)) : 1 ≤ (s.1 5).toNat := by
  have h1 : s.1 5 = ((o.length + (l1 ++ n :: l2).length : Nat) : Int) := hF.1
  rw [mid_len] at h1
  omega
theorem JI.lost (h : JI R (s, o, l1 ++ n :: l2) c yt) (hF : FI (s, o, l1 ++ n :: l2)) (hI : sdB tk s) (hk : sW s) (hn : ¬ isA n) : JI R (lostM s n.2.2.2, o, l1 ++ l2) c yt := by
  intro hs
  have p := pV_lost hF hI hk hn
  have hF1 := fl_mid hF
  have e5 : (lostM s n.2.2.2).1 5 = s.1 5 - 1 := lost_5
  have e11 : (lostM s n.2.2.2).1 11 = s.1 11 := by
    by_cases z : n.2.2.2 < s.1 9
    · rw [lost_s z]; simp [iup]
    · rw [lost_f z]; simp [iup]
  have hs : (lostM s n.2.2.2).1 11 = -1 := hs
  rw [e11] at hs
  rcases h hs with ⟨h1, h2⟩ | ⟨h1, h2, h3⟩
  · exact Or.inl ⟨h1, p.2.2.1 h2⟩
  · refine Or.inr ⟨h1, h2.sub (fun a ha => mid_mem ha), ?_⟩
    by_cases hj : JV (s, o, l1 ++ n :: l2)
    · exact Or.inl (p.2.2.1 hj)
    · have hD : JD s (vF (s, o, l1 ++ n :: l2)) c := by
        rcases h3 with z | z
        · exact absurd z hj
        · exact z
      right
      have f1 : (s.1 5).toNat = ((lostM s n.2.2.2).1 5).toNat + 1 := by omega
      generalize hm : ((lostM s n.2.2.2).1 5).toNat = m at f1
      unfold JD
      rw [hm]
      unfold JD at hD
      rw [f1] at hD
      have hle : (m - 1 : Nat) ≤ (m + 1 - 1 : Nat) := by omega
      by_cases z : n.2.2.2 < s.1 9
      · have e4 : (lostM s n.2.2.2).1 4 = s.1 4 := by rw [lost_s z]; simp [iup]
        have ef : vF (s, o, l1 ++ n :: l2) = vF (lostM s n.2.2.2, o, l1 ++ l2) := by
          show lFl (s.1 9) (l1 ++ n :: l2) = lFl ((lostM s n.2.2.2).1 9) (l1 ++ l2)
          rw [lFl_mid, lost_9s z, if_neg (fun w => by have := w.2; omega)]
          rfl
        rw [ef] at hD
        rw [e4]
        rcases hD with ⟨d1, d2⟩ | ⟨d1, d2⟩
        · left
          have := sq_mono (a := 128 * ((m - 1 : Nat) : Int)) (b := 128 * ((m + 1 - 1 : Nat) : Int)) (by omega) (by omega)
          exact ⟨d1, by omega⟩
        · right
          have := sq_mono (a := 256 * ((m - 1 : Nat) : Int)) (b := 256 * ((m + 1 - 1 : Nat) : Int)) (by omega) (by omega)
          exact ⟨d1, by omega⟩
      · have e4 : (lostM s n.2.2.2).1 4 = halfM (s.1 4) := by rw [lost_f z]; simp [iup]
        have ef2 : vF (lostM s n.2.2.2, o, l1 ++ l2) = 0 := by
          show lFl ((lostM s n.2.2.2).1 9) (l1 ++ l2) = 0
          rw [lost_9f z]
          exact lFl_0 (fun a ha hz => hF.2.2 a (mid_mem ha) hz)
        have ef : vF (s, o, l1 ++ n :: l2) = lFl (s.1 9) (l1 ++ l2) + 1 := by
          show lFl (s.1 9) (l1 ++ n :: l2) = _
          rw [lFl_mid, if_pos ⟨hn, by omega⟩]
        left
        refine ⟨ef2, ?_⟩
        rw [ef] at hD
        rcases hD with ⟨d1, d2⟩ | ⟨d1, d2⟩
        · omega
        · -- the window lies below the flight
          have hjn : ¬ (s.1 5).toNat ≤ wP (s.1 4) := by
            intro w
            refine hj ?_
            unfold JV JS JB
            right; left
            have : eW s.1 = wP (s.1 4) := if_pos hs
            show (s.1 5).toNat ≤ eW s.1
            rw [this]
            exact w
          unfold sdB at hI
          rw [e4]
          by_cases hm1 : m ≤ 1
          · have e0 : (m - 1 : Nat) = 0 := by omega
            rw [e0]
            have hw0 : 0 ≤ halfM (s.1 4) * halfM (s.1 4) := Int.mul_nonneg (by unfold halfM; split <;> omega) (by unfold halfM; split <;> omega)
            omega
          · have hw : wP (s.1 4) < m + 1 := by omega
            have hww : s.1 4 < 256 * ((m : Int) + 1) := by
              unfold wP at hw
              omega
            obtain ⟨h, hh⟩ : ∃ h, halfM (s.1 4) = h := ⟨_, rfl⟩
            have h1' : 256 ≤ h ∧ s.1 4 ≤ 2 * h + 1 ∧ h ≤ 128 * ((m : Int) + 1) := by
              rw [← hh]
              unfold halfM
              split <;> omega
            rw [hh]
            have a1 : s.1 4 * s.1 4 ≤ (2 * h + 1) * (2 * h + 1) := sq_mono (by omega) h1'.2.1
            have a2 : (2 * h + 1) * (2 * h + 1) = 4 * (h * h) + 4 * h + 1 := by
              rw [Int.add_mul, Int.mul_add, Int.mul_assoc, Int.mul_comm h (2 * h), Int.mul_assoc 2 h h]
              omega
            have e1 : ((m + 1 - 1 : Nat) : Int) = m := by omega
            have e2 : ((m - 1 : Nat) : Int) = (m : Int) - 1 := by omega
            rw [e1] at d2
            rw [e2]
            have b1 : (256 * (m : Int)) * (256 * m) = 65536 * ((m : Int) * m) := by
              rw [Int.mul_assoc, ← Int.mul_assoc (m : Int) 256 m, Int.mul_comm (m : Int) 256, Int.mul_assoc 256, ← Int.mul_assoc 256 256]
              rfl
            have b2 : (128 * ((m : Int) - 1)) * (128 * ((m : Int) - 1)) = 16384 * ((m : Int) * m) - 32768 * m + 16384 := by
              have : 128 * ((m : Int) - 1) = 128 * m - 128 := by omega
              rw [this, Int.sub_mul, Int.mul_sub, Int.mul_sub]
              have : (128 * (m : Int)) * (128 * m) = 16384 * ((m : Int) * m) := by
                rw [Int.mul_assoc, ← Int.mul_assoc (m : Int) 128 m, Int.mul_comm (m : Int) 128, Int.mul_assoc 128, ← Int.mul_assoc 128 128]
                rfl
              omega
            omega
end JIS
