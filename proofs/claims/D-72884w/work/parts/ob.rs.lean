/-! Bounds, trials: the raised potential over the steps of a sender -/
def rS (s : SdM) (U Lf : Nat) : Int := pR (mW s) (256 * s.1 5) U Lf
def lvS (s : SdM) : Int := max (mW s) (256 * s.1 5)
/-- deep: E above zero, flight of 32 packets or more -/
def dpF (s : SdM) (Lf : Nat) : Prop := 0 < tE s Lf ∧ 32 ≤ s.1 5
/-- E above e2 -/
def dpT (e2 : Int) (s : SdM) (Lf : Nat) : Prop := e2 < tE s Lf ∧ 32 ≤ s.1 5
section RS
variable {s : SdM} {d mi tk num X D t : Int} {U Lf g : Nat}
theorem mW_st (h : num < s.1 9) : mW (lostM s num) = mW s := by
  have e := lost_s h
  have e11 : (lostM s num).1 11 = s.1 11 := by rw [e]; simp [iup]
  have e4 : (lostM s num).1 4 = s.1 4 := by rw [e]; simp [iup]
  have e12 : (lostM s num).1 12 = s.1 12 := by rw [e]; simp [iup]
  unfold mW
  rw [e11, e4, e12]
theorem mW_fr (h : ¬ num < s.1 9) : mW (lostM s num) = halfM (mW s) := by
  have e := lost_f h
  have e11 : (lostM s num).1 11 = s.1 11 := by rw [e]; simp [iup]
  have e4 : (lostM s num).1 4 = halfM (s.1 4) := by rw [e]; simp [iup]
  have e12 : (lostM s num).1 12 = halfM (s.1 12) := by rw [e]; simp [iup]
  unfold mW
  rw [e11, e4, e12]
  split <;> rfl
theorem rs_stale (h : num < s.1 9) : rS (lostM s num) U Lf ≤ rS s U Lf ∧ lvS (lostM s num) ≤ lvS s := by
  unfold rS lvS
  rw [mW_st h, lost_5]
  have e : 256 * (s.1 5 - 1) = 256 * s.1 5 - 256 := by omega
  rw [e]
  exact ⟨r_stale, by omega⟩
theorem rs_fresh (hI : sdB tk s) (hk : sW s) (h : ¬ num < s.1 9) (hx : U + (Lf + 1) ≤ (s.1 5).toNat) : rS (lostM s num) U 0 ≤ rS s U (Lf + 1) + (if mW s < 8192 then 4096 else 0) ∧ lvS (lostM s num) ≤ lvS s := by
  have hm := mW_256 hI hk
  unfold rS lvS
  rw [mW_fr h, lost_5]
  have e : 256 * (s.1 5 - 1) = 256 * s.1 5 - 256 := by omega
  rw [e]
  refine ⟨r_fresh hm (by push_cast; omega), ?_⟩
  have : halfM (mW s) ≤ mW s := by
    unfold halfM
    split <;> omega
  omega
theorem rs_send (hk : sW s) (hw : wantsM s) (h0 : 0 ≤ s.1 5) (hx : U + Lf ≤ (s.1 5).toNat) : rS (sentM s) (U + 1) Lf + 256 ≤ rS s U Lf ∧ rS (sentM s) U (Lf + 1) + 256 ≤ rS s U Lf ∧ lvS (sentM s) ≤ max (lvS s) 512 := by
  have e4 : (sentM s).1 4 = s.1 4 := sent_o (by decide) (by decide)
  have e11 : (sentM s).1 11 = s.1 11 := sent_o (by decide) (by decide)
  have e12 : (sentM s).1 12 = s.1 12 := sent_o (by decide) (by decide)
  have em : mW (sentM s) = mW s := by unfold mW; rw [e11, e4, e12]
  have h2 := hw.2
  have hf : 256 * s.1 5 + 256 ≤ max (mW s) 512 := by
    by_cases q : s.1 11 = -1
    · rw [mW_n q]
      omega
    · have := (hk q).1
      omega
  unfold rS lvS
  rw [em, sent_5]
  have e : 256 * (s.1 5 + 1) = 256 * s.1 5 + 256 := by omega
  rw [e]
  exact ⟨r_sendE (by omega) (by omega), r_sendL (by omega) (by omega), by omega⟩
theorem rs_ends : rS (endsM s tk) U Lf = rS s U Lf ∧ lvS (endsM s tk) = lvS s := by
  have e5 : (endsM s tk).1 5 = s.1 5 := ends_o (by decide) (by decide) (by decide)
  unfold rS lvS
  rw [mW_ends, e5]
  exact ⟨rfl, rfl⟩
theorem rs_begins {iv : Int} (h0 : 0 ≤ tk) : rS (beginsM s tk iv) U Lf = rS s U Lf ∧ lvS (beginsM s tk iv) = lvS s := by
  have e5 : (beginsM s tk iv).1 5 = s.1 5 := begins_o (by decide) (by decide) (by decide)
  unfold rS lvS
  rw [mW_begins h0, e5]
  exact ⟨rfl, rfl⟩
theorem grow_dv {w v F : Int} (hw : 256 ≤ w) (hX : 40000 ≤ X) (h : v ≤ w ∨ (v - w) * w ≤ 524288) : dvL X D (max v (F - 256)) ≤ dvL X D (max w F) + 14 ∧ (dvL X D (max w F) < dvL X D (max v (F - 256)) → 8192 ≤ w) := by
  rcases h with h | h
  · unfold dvL
    omega
  · by_cases hv : v ≤ w
    · unfold dvL
      omega
    · by_cases q : v ≤ X
      · unfold dvL
        omega
      · have hw8 : 8192 ≤ w := by
          apply Decidable.byContradiction
          intro z
          have e1 : (31809 : Int) * w ≤ (v - w) * w := Int.mul_le_mul_of_nonneg_right (by omega) (by omega)
          by_cases q2 : 17 ≤ w
          · omega
          · omega
        have g1 : v - w ≤ 64 := by
          apply Decidable.byContradiction
          intro z
          have e1 : (65 : Int) * w ≤ (v - w) * w := Int.mul_le_mul_of_nonneg_right (by omega) (by omega)
          omega
        have g2 : v - w ≤ 14 := by
          apply Decidable.byContradiction
          intro z
          have e1 : (15 : Int) * w ≤ (v - w) * w := Int.mul_le_mul_of_nonneg_right (by omega) (by omega)
          omega
        refine ⟨?_, fun _ => hw8⟩
        unfold dvL
        omega
/-- not negative -/
theorem rs_ack (hI : sdB tk s) (hk : sW s) (hq : s.1 11 = -1 → 0 ≤ queueM (enterM s d mi) mi) (hX : 40000 ≤ X) : (rS (ackM s d mi) U Lf ≤ rS s (U + 1) Lf + 512 ∧ dvL X D (lvS (ackM s d mi)) ≤ dvL X D (lvS s)) ∨ (rS (ackM s d mi) U Lf ≤ rS s (U + 1) Lf + 384 ∧ dvL X D (lvS (ackM s d mi)) ≤ dvL X D (lvS s) + 14) := by
  have e : 256 * (s.1 5 - 1) = 256 * s.1 5 - 256 := by omega
  by_cases q : s.1 11 = -1
  · have st := ack_4 (d := d) (mi := mi) hI q (Int.le_refl 0) (by have := hq q; omega)
    have hI2 := hI
    unfold sdB at hI2
    have hg : (ackM s d mi).1 4 ≤ s.1 4 ∨ ((ackM s d mi).1 4 - s.1 4) * s.1 4 ≤ 524288 := by
      rcases st.2.1 with z | z
      · exact Or.inl z
      · exact Or.inr (by have := z.2; omega)
    unfold rS lvS
    rw [mW_n q, mW_ackn q, ack_5, e]
    generalize (ackM s d mi).1 4 = v at *
    generalize s.1 4 = w at *
    have hw : 256 ≤ w := hI2.2.2.1.1
    have r1 := r_ack (F := 256 * s.1 5) (U := U) (Lf := Lf) hw hg
    obtain ⟨g1, g2⟩ := grow_dv (X := X) (D := D) (F := 256 * s.1 5) hw hX hg
    by_cases y : dvL X D (max w (256 * s.1 5)) < dvL X D (max v (256 * s.1 5 - 256))
    · right
      have w8 := g2 y
      refine ⟨?_, g1⟩
      have hv : v ≤ w + 64 := by
        rcases hg with z | z
        · omega
        · apply Decidable.byContradiction
          intro z2
          have e1 : (65 : Int) * w ≤ (v - w) * w := Int.mul_le_mul_of_nonneg_right (by omega) (by omega)
          omega
      have a := rM_c w (256 * s.1 5) Lf
      have b := rM_c v (256 * s.1 5 - 256) Lf
      unfold pR
      push_cast
      omega
    · exact Or.inl ⟨r1, by omega⟩
  · left
    unfold rS lvS
    rw [mW_acks q, ack_5, e]
    have r1 := r_acks (w := mW s) (F := 256 * s.1 5) (U := U) (Lf := Lf)
    refine ⟨by omega, ?_⟩
    unfold dvL
    omega
/-- deep behind it, so deep before it -/
theorem dp_ack (hI : sdB tk s) (hk : sW s) (hv : s.1 11 = -1 → s.1 4 ≤ (ackM s d mi).1 4) (h : dpF (ackM s d mi) Lf) : dpF s Lf := by
  obtain ⟨h1, h2⟩ := h
  rw [ack_5] at h2
  refine ⟨?_, by omega⟩
  by_cases q : s.1 11 = -1
  · have := tE_ackg (Lf := Lf) hI q (hv q)
    omega
  · have := tE_acks (d := d) (mi := mi) (Lf := Lf) hI hk q
    omega
/-- what a negative one costs, by the level (z above X): E zero -/
def NC0 (K X D : Int) (c0 : Int → Int) : Prop := ∀ w v F : Int, 256 ≤ w → w ≤ v → v ≤ max w (F + 512) → (v - w) * w ≤ 524288 * K → (F ≤ 2 * w + 1024 ∨ F < 8192) → 32 * max 0 (max v 4096 - max w 4096) ≤ c0 (dvL X D (max w F))
/-- E above zero, not above e2 -/
def NCE (K X D e2 : Int) (cE : Int → Int) : Prop := ∀ w v F : Int, 256 ≤ w → w ≤ v → v ≤ max w (F + 512) → (v - w) * w ≤ 524288 * K → 8192 ≤ F → F ≤ X + D → 2 * w ≤ F → (F - 512) * (F - 512) - (2 * w) * (2 * w) ≤ e2 → 16 * max 0 (2 * v - F) ≤ cE (dvL X D F)
theorem rs_neg {K : Int} {c0 : Int → Int} (hP : NC0 K X D c0) (hI : sdB tk s) (hk : sW s) (hn : s.1 11 = -1) (h5 : 1 ≤ s.1 5) (hq : queueM (enterM s d mi) mi < 0) (hg : - (g : Int) ≤ queueM (enterM s d mi) mi) (hgK : 1 + (g : Int) ≤ K) :
    (1 ≤ Lf → rS (ackM s d mi) U Lf ≤ rS s (U + 1) Lf + 1280) ∧
    (dpF (ackM s d mi) Lf → dpF s Lf ∧ rS (ackM s d mi) U Lf ≤ rS s (U + 1) Lf + 256) ∧
    (Lf = 0 → ¬ dpF s Lf → 16 * rS (ackM s d mi) U Lf ≤ 16 * rS s (U + 1) Lf + c0 (dvL X D (lvS s)) + 4096) ∧
    (∀ (e2 : Int) (cE : Int → Int), NCE K X D e2 cE → Lf = 0 → dpF s Lf → tE s Lf ≤ e2 → 256 * s.1 5 ≤ X + D → 16 * rS (ackM s d mi) U Lf ≤ 16 * (256 * s.1 5) + cE (dvL X D (lvS s))) ∧
    lvS (ackM s d mi) ≤ lvS s + 512 := by
  have nw := neg_w hI hn h5 hq hg
  have st := ack_4 (d := d) (mi := mi) (g := g) hI hn (by omega) hg
  have hI2 := hI
  unfold sdB at hI2
  have e : 256 * (s.1 5 - 1) = 256 * s.1 5 - 256 := by omega
  have hw : 256 ≤ s.1 4 := hI2.2.2.1.1
  have hvF : (ackM s d mi).1 4 ≤ max (s.1 4) (256 * s.1 5 + 512) := by
    rcases st.2.1 with z | z
    · omega
    · have := z.1
      omega
  have hK : ((ackM s d mi).1 4 - s.1 4) * s.1 4 ≤ 524288 * K := by
    have := nw.2.2.2.1
    omega
  have dpx : dpF (ackM s d mi) Lf → dpF s Lf := dp_ack hI hk (fun _ => nw.1)
  refine ⟨fun hl => ?_, fun h => ⟨dpx h, ?_⟩, fun hl h => ?_, fun e2 cE hE hl h he hc => ?_, ?_⟩
  · unfold rS
    rw [mW_n hn, mW_ackn hn, ack_5, e]
    exact r_negF hl hvF
  · obtain ⟨h1, h2⟩ := h
    have h3 := h1
    unfold tE at h3
    rw [mW_ackn hn, ack_5] at h3
    rw [ack_5] at h2
    have p := eE_pos (by omega) h3
    unfold rS
    rw [mW_n hn, mW_ackn hn, ack_5, e]
    exact r_low (by omega) (fun z => by have := p.2.1 z; omega) (fun z => by have := p.2.2.1 z; omega)
  · subst hl
    have hF : 256 * s.1 5 ≤ 2 * s.1 4 + 1024 ∨ 256 * s.1 5 < 8192 := by
      by_cases hf : 32 ≤ s.1 5
      · left
        have ht : ¬ 0 < tE s 0 := fun z => h ⟨z, hf⟩
        have ge := eE_ge (w := s.1 4) (f := s.1 5) (Lf := 0) (by omega)
        rw [if_pos rfl] at ge
        unfold tE at ht
        rw [mW_n hn] at ht
        apply Decidable.byContradiction
        intro z
        have s1 : (2 * s.1 4 + 1) * (2 * s.1 4 + 1) ≤ (256 * (s.1 5 - 2)) * (256 * (s.1 5 - 2)) := sq_mono (by omega) (by omega)
        have e7 : (2 * s.1 4 + 1) * (2 * s.1 4 + 1) = (2 * s.1 4) * (2 * s.1 4) + 4 * s.1 4 + 1 := by
          rw [Int.add_mul, Int.mul_add]
          omega
        omega
      · right
        omega
    have r0 := r_neg (w := s.1 4) (v := (ackM s d mi).1 4) (F := 256 * s.1 5) (U := U) (y := max 0 (max ((ackM s d mi).1 4) 4096 - max (s.1 4) 4096)) (by omega) (by omega)
    have r1 := hP (s.1 4) ((ackM s d mi).1 4) (256 * s.1 5) hw nw.1 hvF hK hF
    unfold rS lvS
    rw [mW_n hn, mW_ackn hn, ack_5, e]
    omega
  · subst hl
    obtain ⟨h1, h2⟩ := h
    unfold tE at h1 he
    rw [mW_n hn] at h1 he
    have p := eE_pos (by omega) h1
    have p1 := p.2.1 rfl
    have p2 := p.2.2.2
    rw [if_pos rfl] at p2
    have e6 : 256 * (s.1 5 - 2) = 256 * s.1 5 - 512 := by omega
    rw [e6] at p2
    have r1 := hE (s.1 4) ((ackM s d mi).1 4) (256 * s.1 5) hw nw.1 hvF hK (by omega) hc (by omega) (by omega)
    have el : max (s.1 4) (256 * s.1 5) = 256 * s.1 5 := by omega
    have b := rM_c ((ackM s d mi).1 4) (256 * s.1 5 - 256) 0
    unfold rS lvS
    rw [mW_n hn, mW_ackn hn, ack_5, e, el]
    have up : pR ((ackM s d mi).1 4) (256 * s.1 5 - 256) U 0 ≤ 256 * s.1 5 + max 0 (2 * (ackM s d mi).1 4 - 256 * s.1 5) := by
      unfold pR
      push_cast
      omega
    omega
  · unfold lvS
    rw [mW_n hn, mW_ackn hn, ack_5]
    omega
end RS
