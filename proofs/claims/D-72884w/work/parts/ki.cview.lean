/-! Bounds, mode C: a sender's view, event by event -/
abbrev tqB : Int := 1000000
abbrev T0B : Int := -100000
def CB (now c dl R lo hi : Int) (s : SdM) (o : List Int) (l : List NtM) (g : Gh) : Prop := VM now c dl tqB T0B R s o l g ∧ RG now lo hi s l
def cPot (M U1 C1 Z : Int) (X : Nat) (now : Int) (v : SV) (L : List EnF) : Int := 3 * (M * (PV v : Int)) + 3 * tE v.1 (vF v) + M * uC U1 C1 Z (nuP now L) (tE v.1 (vF v)) (gLv X (lvl v.1))
theorem nuP_3i {now : Int} {L : List EnF} (h1 : nuP now L = 3) : mn2 now L < mn0 now L ∨ mn2 now L + 5 ≤ now / 200 := by
  unfold nuP at h1
  apply Decidable.byContradiction
  intro z
  rw [if_neg z] at h1
  split at h1 <;> split at h1 <;> omega
theorem vF_stale {s : SdM} {o : List Int} {l1 l2 : List NtM} {n : NtM} (z : n.2.2.2 < s.1 9) : vF (s, o, l1 ++ n :: l2) = vF (lostM s n.2.2.2, o, l1 ++ l2) := by
  show lFl (s.1 9) (l1 ++ n :: l2) = lFl ((lostM s n.2.2.2).1 9) (l1 ++ l2)
  rw [lFl_mid, lost_9s z, if_neg (fun w => by have := w.2; omega)]
  rfl
theorem vF_fresh {s : SdM} {o : List Int} {l1 l2 : List NtM} {n : NtM} (hF : FI (s, o, l1 ++ n :: l2)) (hn : ¬ isA n) (z : ¬ n.2.2.2 < s.1 9) : vF (lostM s n.2.2.2, o, l1 ++ l2) = 0 ∧ vF (s, o, l1 ++ n :: l2) = lFl (s.1 9) (l1 ++ l2) + 1 := by
  constructor
  · show lFl ((lostM s n.2.2.2).1 9) (l1 ++ l2) = 0
    rw [lost_9f z]
    exact lFl_0 (fun a ha hz => hF.2.2 a (mid_mem ha) hz)
  · show lFl (s.1 9) (l1 ++ n :: l2) = _
    rw [lFl_mid, if_pos ⟨hn, by omega⟩]
theorem lvl_lost {tk : Int} {s : SdM} {num : Int} (hI : sdB tk s) (hk : sW s) : lvl (lostM s num) ≤ lvl s := by
  have hm := mW_256 hI hk
  have h5 : (lostM s num).1 5 = s.1 5 - 1 := lost_5
  have em : mW (lostM s num) ≤ mW s := by
    by_cases z : num < s.1 9
    · have e := lost_s z
      have e11 : (lostM s num).1 11 = s.1 11 := by rw [e]; simp [iup]
      have e4 : (lostM s num).1 4 = s.1 4 := by rw [e]; simp [iup]
      have e12 : (lostM s num).1 12 = s.1 12 := by rw [e]; simp [iup]
      unfold mW
      rw [e11, e4, e12]
      exact Int.le_refl _
    · have e := lost_f z
      have e11 : (lostM s num).1 11 = s.1 11 := by rw [e]; simp [iup]
      have e4 : (lostM s num).1 4 = halfM (s.1 4) := by rw [e]; simp [iup]
      have e12 : (lostM s num).1 12 = halfM (s.1 12) := by rw [e]; simp [iup]
      have e2 : mW (lostM s num) = halfM (mW s) := by
        unfold mW
        rw [e11, e4, e12]
        split <;> rfl
      rw [e2]
      unfold halfM
      split <;> omega
  unfold lvl
  rw [h5]
  unfold wP
  omega
section CBS
variable {now c dl R lo hi : Int} {s : SdM} {o : List Int} {l l1 l2 : List NtM} {n : NtM} {g : Gh} {K M U1 C1 Z : Int} {A X C3 w1 : Nat}
theorem CB.lost (hP : PCs K M A X U1 C1 Z C3 w1) (h : CB now c dl R lo hi s o (l1 ++ n :: l2) g) (hn : ¬ isA n) : CB now c dl R lo hi (lostM s n.2.2.2) o (l1 ++ l2) g ∧ cPot M U1 C1 Z X now (lostM s n.2.2.2, o, l1 ++ l2) g.2.1 ≤ cPot M U1 C1 Z X now (s, o, l1 ++ n :: l2) g.2.1 + (if n.2.2.2 < s.1 9 then 0 else 3 * M) := by
  obtain ⟨hV, hR⟩ := h
  have hF := hV.1
  have hI := hV.2.2.2.2
  have hk := hV.2.2.2.1
  have p := (pV_lost hF hI hk hn).1
  have hl := lvl_lost (num := n.2.2.2) hI hk
  have hG := gLv_mono (X := X) hl
  have hM : 0 < M := hP.1
  refine ⟨⟨hV.lost hn, hR.lost⟩, ?_⟩
  have t0 := tE_0 s (vF (s, o, l1 ++ n :: l2))
  have t1 := tE_0 (lostM s n.2.2.2) (vF (lostM s n.2.2.2, o, l1 ++ l2))
  have ht : tE (lostM s n.2.2.2) (vF (lostM s n.2.2.2, o, l1 ++ l2)) ≤ tE s (vF (s, o, l1 ++ n :: l2)) := by
    by_cases z : n.2.2.2 < s.1 9
    · rw [← vF_stale z]
      exact tE_stale z (by have := mW_256 hI hk; omega)
    · have q := vF_fresh hF hn z
      rw [q.1, q.2]
      exact tE_fresh hI hk z
  have hu := uC_ev (U1 := U1) (C1 := C1) (Z := Z) (n := nuP now g.2.1) (t := tE s (vF (s, o, l1 ++ n :: l2))) (t2 := tE (lostM s n.2.2.2) (vF (lostM s n.2.2.2, o, l1 ++ l2))) (r := 0) hP.2.2.2.2.2.2.1 hP.2.2.2.2.2.2.2.1 (fun z => by omega) (show gLv X (lvl (lostM s n.2.2.2)) ≤ gLv X (lvl s) + 0 by omega)
  have huM := mulL (M := M) (by omega) hu
  unfold cPot
  dsimp only at *
  by_cases z : n.2.2.2 < s.1 9
  · rw [if_pos z] at p ⊢
    have pM := mulL (M := M) (by omega) (show (PV (lostM s n.2.2.2, o, l1 ++ l2) : Int) ≤ (PV (s, o, l1 ++ n :: l2) : Int) + 0 by omega)
    omega
  · rw [if_neg z] at p ⊢
    have pM := mulL (M := M) (by omega) (show (PV (lostM s n.2.2.2, o, l1 ++ l2) : Int) ≤ (PV (s, o, l1 ++ n :: l2) : Int) + 1 by omega)
    omega
theorem CB.ack (hP : PCs K M A X U1 C1 Z C3 w1) (h : CB now c dl R lo hi s o (l1 ++ n :: l2) g) (hn : isA n) (ht : n.1 = now) (hl : ∀ a ∈ l1, now < a.1) (hr : ∀ a ∈ l2, now ≤ a.1) (hK : hi - lo + 1 ≤ K) {Q : Int} (hQ : hi - lo ≤ Q) (hQ0 : 0 ≤ Q) (hMQ : 4194304 * Q ≤ M * (A + 1)) :
    CB now c dl R lo hi (ackM s n.2.2.2 (now / 200)) o (l1 ++ l2) (stepG tqB T0B now s.2.1 g n) ∧ cPot M U1 C1 Z X now (ackM s n.2.2.2 (now / 200), o, l1 ++ l2) (stepG tqB T0B now s.2.1 g n).2.1 ≤ cPot M U1 C1 Z X now (s, o, l1 ++ n :: l2) g.2.1 + 3 * (M * (A : Int)) := by
  obtain ⟨hV, hR⟩ := h
  have hF := hV.1
  have hI := hV.2.2.2.2
  have hk := hV.2.2.2.1
  have hS := hV.2.2.1
  have hst := (hV.stor hn ht).1
  have rq := hR.q hn
  have hx := hF.x
  have hF1 := fl_mid hF
  obtain ⟨eu, ef⟩ := ack_uf (s := s) (o := o) (l1 := l1) (l2 := l2) (mi := now / 200) hn
  rw [eu, ef] at hx
  have eg : stepG tqB T0B now s.2.1 g n = (kaN tqB now g.1 n, ackL tqB T0B now n.2.2.2 g.2.1, ackF tqB T0B now s.2.1 g.2.2) := if_pos ⟨ht, hn⟩
  refine ⟨⟨hV.ack hn ht hl hr, hR.ack hn⟩, ?_⟩
  rw [eg] at hst ⊢
  dsimp only at hst ⊢
  have hM : 0 < M := hP.1
  have hn1 := nuP_ack (d := n.2.2.2) hS
  have h3 := nuP_3 (now := now) (L := g.2.1)
  unfold cPot
  dsimp only
  have ePV : (PV (s, o, l1 ++ n :: l2) : Int) = (PS s (vU (ackM s n.2.2.2 (now / 200), o, l1 ++ l2) + 1) (vF (ackM s n.2.2.2 (now / 200), o, l1 ++ l2)) : Int) := by
    unfold PV
    rw [eu, ef]
  have ePV2 : (PV (ackM s n.2.2.2 (now / 200), o, l1 ++ l2) : Int) = (PS (ackM s n.2.2.2 (now / 200)) (vU (ackM s n.2.2.2 (now / 200), o, l1 ++ l2)) (vF (ackM s n.2.2.2 (now / 200), o, l1 ++ l2)) : Int) := rfl
  rw [ePV, ePV2, ef]
  generalize vU (ackM s n.2.2.2 (now / 200), o, l1 ++ l2) = U at *
  generalize vF (ackM s n.2.2.2 (now / 200), o, l1 ++ l2) = Lf at *
  have h5 : 1 ≤ s.1 5 := by omega
  by_cases hneg : s.1 11 = -1 ∧ queueM (enterM s n.2.2.2 (now / 200)) (now / 200) < 0
  · have hin := neg_in hS hst hneg.2
    rw [if_pos hin] at hn1
    rw [hn1]
    exact negC (g := (hi - lo).toNat) hP hI hk hneg.1 h5 hx hneg.2 (by omega) (by omega) (by omega)
  · have hq : s.1 11 = -1 → 0 ≤ queueM (enterM s n.2.2.2 (now / 200)) (now / 200) ∧ queueM (enterM s n.2.2.2 (now / 200)) (now / 200) ≤ Q + 1 := by
      intro z
      have : ¬ queueM (enterM s n.2.2.2 (now / 200)) (now / 200) < 0 := fun y => hneg ⟨z, y⟩
      omega
    have hA5 := hP.2.1
    have hX := hP.2.2.1
    have k1 := ackC (d := n.2.2.2) (mi := now / 200) (X := X) hI hk h5 hx hM hQ0 hA5 (by omega) hMQ hq
    have k2 := ackC (d := n.2.2.2) (mi := now / 200) (X := lvl s + lvl (ackM s n.2.2.2 (now / 200)) + 9) hI hk h5 hx hM hQ0 hA5 (by omega) hMQ hq
    have z1 : gLv (lvl s + lvl (ackM s n.2.2.2 (now / 200)) + 9) (lvl s) = 0 := by unfold gLv; omega
    have z2 : gLv (lvl s + lvl (ackM s n.2.2.2 (now / 200)) + 9) (lvl (ackM s n.2.2.2 (now / 200))) = 0 := by unfold gLv; omega
    rw [z1, z2] at k2
    have hst2 : nuP now (ackL tqB T0B now n.2.2.2 g.2.1) = nuP now g.2.1 ∧ (nuP now g.2.1 = 0 ∨ nuP now g.2.1 = 2) ∨ nuP now g.2.1 = nuP now (ackL tqB T0B now n.2.2.2 g.2.1) + 1 := by
      by_cases y : mn2 now g.2.1 < mn0 now g.2.1 ∨ mn2 now g.2.1 + 5 ≤ now / 200
      · rw [if_pos y] at hn1
        exact Or.inr hn1
      · rw [if_neg y] at hn1
        left
        refine ⟨by omega, ?_⟩
        have a1 : nuP now g.2.1 ≠ 1 := fun w => y (nuP_1 hS w)
        have a3 : nuP now g.2.1 ≠ 3 := fun w => y (nuP_3i w)
        omega
    have hc := hP.2.2.2.2.2
    have hu := fun r hG => uC_ack (U1 := U1) (C1 := C1) (Z := Z) (t := tE s Lf) (t2 := tE (ackM s n.2.2.2 (now / 200)) Lf) (n := nuP now g.2.1) (n2 := nuP now (ackL tqB T0B now n.2.2.2 g.2.1)) (r := r) (G := gLv X (lvl s)) (G2 := gLv X (lvl (ackM s n.2.2.2 (now / 200)))) hc.1 hc.2.1 hc.2.2.1 hc.2.2.2.1 hst2 h3 hG
    by_cases w : gLv X (lvl (ackM s n.2.2.2 (now / 200))) ≤ gLv X (lvl s)
    · have huM := mulL (M := M) (by omega) (hu 0 (by omega))
      omega
    · have huM := mulL (M := M) (by omega) (hu (gLv X (lvl (ackM s n.2.2.2 (now / 200))) - gLv X (lvl s)) (by omega))
      have e : ((gLv X (lvl (ackM s n.2.2.2 (now / 200))) - gLv X (lvl s) : Nat) : Int) = (gLv X (lvl (ackM s n.2.2.2 (now / 200))) : Int) - (gLv X (lvl s) : Int) := by omega
      rw [e, Int.mul_sub] at huM
      omega
end CBS
